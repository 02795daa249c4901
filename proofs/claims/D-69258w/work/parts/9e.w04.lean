/-! the warden: a sentence on the component's side -/
theorem txV_app (l m : List Nat) : txV (l ++ m) = txV l ++ txV m := List.map_append
theorem txV_len (l : List Nat) : (txV l).length = l.length := List.length_map ..
theorem stC_r {s : CS} {a : Nat} {w : Bool} {l : List Value} (h : s.1 a = some (w, false, 1000, l)) : stC s a = some l := by
  unfold stC; simp only [h]
/-- decimal digits -/
theorem digs_num {v : Nat} (h : v < 100000) : digs 10 v [] = txV (numL v) := by
  unfold numL txV
  by_cases h1 : v < 10
  · rw [if_neg (by omega), if_neg (by omega), if_neg (by omega), if_neg (by omega)]
    simp [digs, h1, Nat.mod_eq_of_lt h1, i_32]
  · by_cases h2 : v < 100
    · rw [if_neg (by omega), if_neg (by omega), if_neg (by omega), if_pos (by omega)]
      have e1 : v / 10 < 10 := by omega
      simp [digs, h1, e1, Nat.mod_eq_of_lt e1, i_32]
    · by_cases h3 : v < 1000
      · rw [if_neg (by omega), if_neg (by omega), if_pos (by omega), if_pos (by omega)]
        have e1 : ¬ v / 10 < 10 := by omega
        have e2 : v / 10 / 10 < 10 := by omega
        have e3 : v / 10 / 10 = v / 100 := by omega
        have e4 : v / 100 % 10 = v / 100 := by omega
        simp [digs, h1, e1, e2, e3, e4, i_32]
        omega
      · by_cases h4 : v < 10000
        · rw [if_neg (by omega), if_pos (by omega), if_pos (by omega), if_pos (by omega)]
          have e1 : ¬ v / 10 < 10 := by omega
          have e2 : ¬ v / 10 / 10 < 10 := by omega
          have e3 : v / 10 / 10 / 10 < 10 := by omega
          have f1 : v / 10 / 10 = v / 100 := by omega
          have f2 : v / 10 / 10 / 10 = v / 1000 := by omega
          have f3 : v / 1000 % 10 = v / 1000 := by omega
          simp only [digs, h1, e1, e2, e3, if_true, if_false, f1, f2, f3, i_32]
          rw [show v / 100 / 10 = v / 1000 by omega]
          simp [show ¬ v / 100 < 10 by omega, show v / 1000 < 10 by omega]
        · rw [if_pos (by omega), if_pos (by omega), if_pos (by omega), if_pos (by omega)]
          have e1 : ¬ v / 10 < 10 := by omega
          simp only [digs, h1, e1, if_false, i_32]
          rw [show v / 10 / 10 = v / 100 by omega, if_neg (show ¬ v / 100 < 10 by omega), show v / 100 / 10 = v / 1000 by omega, if_neg (show ¬ v / 1000 < 10 by omega), show v / 1000 / 10 = v / 10000 by omega, if_pos (show v / 10000 < 10 by omega)]
          simp
/-- a builder so far -/
def BdW (s S : CS) (a : Nat) (l : List Nat) (n m : Nat) : Prop := S.1 a = some (true, false, 1035, txV l) ∧ (∀ q, q ≠ a → S.1 q = s.1 q) ∧ S.2.1 = s.2.1 ∧ wfS S ∧ S.2.2.1 ≤ s.2.2.1 + n ∧ S.2.2.2 ≤ s.2.2.2 + m
theorem bd_app {s S : CS} {a n m : Nat} {l k : List Nat} (h : BdW s S a l n m) (ha : a < s.2.1) (hl : l.length + k.length < 1000) : ∃ S', sbApp S a (txV k) = some S' ∧ BdW s S' a (l ++ k) (n + 2) (m + 8 * k.length + 16) := by
  obtain ⟨h1, h2, h3, h4, h5, h6⟩ := h
  refine ⟨_, sbApp_r h1 (by rw [txV_len, txV_len]; omega), ?_, fun q hq => (cput_ne hq).trans (h2 q hq), h3, wf_cup h4 (by omega), ?_, ?_⟩
  · rw [cput_eq, txV_app]
  · show S.2.2.1 + 2 ≤ _; omega
  · show S.2.2.2 + (8 * (txV k).length + 16) ≤ _
    rw [txV_len]; omega
section
variable {s S : CS} {a n m : Nat} {l : List Nat} {α : Type} {Q : α → Prop} {f : CS → Option α}
theorem bdS {id : Nat} {w : Bool} {k : List Nat} (h : BdW s S a l n m) (ha : a < s.2.1) (hid : s.1 id = some (w, false, 1000, txV k)) (hl : l.length + k.length < 1000) (hne : id ≠ a) (g : ∀ S', BdW s S' a (l ++ k) (n + 2) (m + 8 * k.length + 16) → Tr (f S') Q) : Tr (if isK S [35] a = true then Option.bind (sbS S a id) f else none) Q := by
  rw [if_pos (isK_t h.1 rfl)]
  obtain ⟨S', e, hS⟩ := bd_app h ha hl
  unfold sbS
  rw [stC_r ((h.2.1 id hne).trans hid), Option.bind_some, e, Option.bind_some]
  exact g S' hS
theorem bdI {v : Nat} (h : BdW s S a l n m) (ha : a < s.2.1) (hv : v < 100000) (hl : l.length + 5 < 1000) (g : ∀ S', BdW s S' a (l ++ numL v) (n + 2) (m + 56) → Tr (f S') Q) : Tr (if isK S [35] a = true then Option.bind (sbI S a (Int32.ofNat v)) f else none) Q := by
  rw [if_pos (isK_t h.1 rfl)]
  have hn := numL_len v
  obtain ⟨S', e, h1, h2, h3, h4, h5, h6⟩ := bd_app (k := numL v) h ha (by omega)
  unfold sbI
  rw [if_pos (i_nlt0 (by omega)), i_clamp (by omega), digs_num hv, e, Option.bind_some]
  exact g S' ⟨h1, h2, h3, h4, h5, by omega⟩
theorem bdC {c : Nat} (h : BdW s S a l n m) (ha : a < s.2.1) (hc : c < 128) (hl : l.length + 1 < 1000) (g : ∀ S', BdW s S' a (l ++ [c]) (n + 2) (m + 24) → Tr (f S') Q) : Tr (if isK S [35] a = true then Option.bind (sbC S a (Int32.ofNat c)) f else none) Q := by
  rw [if_pos (isK_t h.1 rfl)]
  obtain ⟨S', e, hS⟩ := bd_app (k := [c]) h ha hl
  unfold sbC
  rw [if_pos ⟨i_nlt0 (by omega), (i_ltL (by omega) (by omega)).mpr hc⟩]
  have e : sbApp S a [.int (Int32.ofNat c)] = some S' := e
  rw [e, Option.bind_some]
  exact g S' hS
end
/-- what a text that was made is -/
def Wr (s : CS) (l : List Nat) (n m : Nat) (x : Nat × CS) : Prop := x.2.1 x.1 = some (true, false, 1000, txV l) ∧ s.2.1 ≤ x.1 ∧ x.1 < x.2.2.1 ∧ (∀ q, q < s.2.1 → x.2.1 q = s.1 q) ∧ wfS x.2 ∧ x.2.2.2.1 ≤ s.2.2.1 + n ∧ x.2.2.2.2 ≤ s.2.2.2 + m
theorem bdE {s s1 S : CS} {a n m : Nat} {l : List Nat} (hw1 : s.2.1 ≤ a) (ha : a < s1.2.1) (h1 : ∀ q, q < s.2.1 → s1.1 q = s.1 q) (hc : s1.2.2.1 ≤ s.2.2.1 + 2) (hc2 : s1.2.2.2 ≤ s.2.2.2 + 20) (h : BdW s1 S a l n m) : Tr (if isK S [35] a = true then Option.bind (sbToS S a) (fun n24 => some (n24.1, n24.2)) else none) (Wr s l (n + 4) (m + l.length + 24)) := by
  obtain ⟨g1, g2, g3, g4, g5, g6⟩ := h
  rw [if_pos (isK_t g1 rfl)]
  unfold sbToS
  rw [sbCt_r g1, Option.bind_some, Option.bind_some]
  refine ⟨_, rfl, nwc_eq .., ?_, ?_, fun q hq => ?_, wf_nwc g4, ?_, ?_⟩
  · show s.2.1 ≤ S.2.1; omega
  · show S.2.1 < S.2.1 + 1; omega
  · show (nwc S _ _ _).2.1 q = _
    rw [nwc_ne (by omega), g2 q (by omega), h1 q hq]
  · show S.2.2.1 + 2 ≤ _; omega
  · show S.2.2.2 + ((txV l).length + 4) ≤ _; rw [txV_len]; omega
theorem k7s {h : lHeap} (k : K7 h) {id : Nat} {l : List Nat} (hm : (id, l) ∈ sTab7) : h id = some (false, false, 1000, txV l) := k.2.2.2.1 (id, l) hm
/-- a builder is made -/
theorem bd_new {s : CS} (hw : wfS s) : ∃ S1 S2, nw s 35 [.null, .int 0, .int 0, .int 0] = (s.2.1, S1) ∧ S1.1 s.2.1 = some (true, false, 35, [.null, .int 0, .int 0, .int 0]) ∧ sbInit S1 s.2.1 = some S2 ∧ BdW S2 S2 s.2.1 [] 0 0 ∧ S2.2.1 = s.2.1 + 1 ∧ (∀ q, q < s.2.1 → S2.1 q = s.1 q) ∧ S2.2.2.1 ≤ s.2.2.1 + 2 ∧ S2.2.2.2 ≤ s.2.2.2 + 20 := by
  obtain ⟨S1, E1, a1, a2, a3, a4, a5, a6⟩ := nw_o (s := s) 35 [.null, .int 0, .int 0, .int 0] hw
  refine ⟨S1, _, E1, a1, sbInit_o a1, ⟨cup_eq .., fun _ _ => rfl, rfl, wf_cup a4 (by omega), Nat.le_refl _, Nat.le_refl _⟩, a3, fun q hq => ?_, ?_, ?_⟩
  · show (cup S1 s.2.1 _).1 q = _
    rw [cup_ne (by omega), a2 q (by omega)]
  · show S1.2.2.1 + 1 ≤ _; omega
  · show S1.2.2.2 + 16 ≤ _; rw [a6]; show s.2.2.2 + 4 + 16 ≤ _; omega
theorem Wr.mono {s : CS} {l : List Nat} {n m n' m' : Nat} {x : Nat × CS} (h : Wr s l n m x) (h1 : n ≤ n') (h2 : m ≤ m') : Wr s l n' m' x := by
  obtain ⟨a1, a2, a3, a4, a5, a6, a7⟩ := h
  exact ⟨a1, a2, a3, a4, a5, by omega, by omega⟩
theorem c_written {s : CS} (hw : wfS s) (k7 : K7 s.1) (hs : 100 ≤ s.2.1) {w a b c d : Nat} (hw5 : w < 5) (ha : a < 10000) (hb : b < 10000 ∨ w = 4) (hc : c < 10000 ∨ w = 2 ∨ w = 4) (hd : w = 0 → d ≤ 12) (hd1 : w = 1 → d < 10000) (xb xc xd : Int32) (eb : w ≠ 4 → xb = Int32.ofNat b) (ec : w ≠ 2 → w ≠ 4 → xc = Int32.ofNat c) (ed : w ≤ 1 → xd = Int32.ofNat d) : Tr (c_489 (Int32.ofNat w) (Int32.ofNat a) xb xc xd s) (Wr s (sayL w a b c d) 100 3000) := by
  have la := numL_len a
  have lb := numL_len b
  have lc := numL_len c
  have ld := numL_len d
  unfold c_489
  have hw5' : w = 0 ∨ w = 1 ∨ w = 2 ∨ w = 3 ∨ w = 4 := by omega
  rcases hw5' with rfl | rfl | rfl | rfl | rfl
  · have hd := hd rfl
    have hc : c < 10000 := by omega
    rw [if_pos (by decide), eb (by omega), ec (by omega) (by omega), ed (by omega)]
    obtain ⟨S0, E0, z1, z2, z3, z4, z5, z6⟩ := nw_o (s := s) 35 [.null, .int 0, .int 0, .int 0] hw
    rw [E0, Option.bind_some]
    dsimp only
    obtain ⟨S1, S2, E1, i1, E2, B, n2, o2, q1, q2⟩ := bd_new z4
    rw [z3] at E1 i1 E2 B n2 o2
    have kk : ∀ (id : Nat) (l : List Nat), (id, l) ∈ sTab7 → id < 100 → S2.1 id = some (false, false, 1000, txV l) := fun id l hm hi => (o2 id (by omega)).trans ((z2 id (by omega)).trans (k7s k7 hm))
    rw [E1, Option.bind_some]
    dsimp only
    rw [if_pos (isK_t i1 rfl), E2, Option.bind_some]
    refine bdS B (by omega) (kk 34 [122, 111, 110, 101, 32] (by simp [sTab7]) (by omega)) (by simp) (by omega) (fun X1 B1 => ?_)
    refine bdI B1 (by omega) (by omega) (by simp) (fun X2 B2 => ?_)
    refine bdS B2 (by omega) (kk 35 [32, 110, 101, 101, 100, 115, 32] (by simp [sTab7]) (by omega)) (by simp; omega) (by omega) (fun X3 B3 => ?_)
    refine bdI B3 (by omega) (by omega) (by simp; omega) (fun X4 B4 => ?_)
    refine bdS B4 (by omega) (kk 36 [32, 111, 102, 32] (by simp [sTab7]) (by omega)) (by simp; omega) (by omega) (fun X5 B5 => ?_)
    generalize hL0 : [] ++ [122, 111, 110, 101, 32] ++ numL a ++ [32, 110, 101, 101, 100, 115, 32] ++ numL b ++ [32, 111, 102, 32] = L0 at B5
    have hlL : L0.length ≤ 26 := by rw [← hL0]; simp; omega
    obtain ⟨g1, g2, g3, g4, g5, g6⟩ := B5
    simp only [List.length_cons, List.length_nil] at g5 g6
    rw [if_pos (isK_t g1 rfl)]
    unfold sbToS
    rw [sbCt_r g1, Option.bind_some, Option.bind_some]
    obtain ⟨S3, E3, y1, y2, y3, y4, y5, y6⟩ := nwc_o (s := X5) (true, false, 1000, txV L0) 2 ((txV L0).length + 4) g4
    have E3 : nwS X5 (txV L0) = (X5.2.1, S3) := E3
    rw [E3]
    dsimp only
    have hX5 : X5.2.1 = s.2.1 + 1 + 1 := by rw [g3]; exact n2
    rw [hX5] at y1 y2 y3
    have a0 : S3.1 s.2.1 = some (true, false, 35, [.null, .int 0, .int 0, .int 0]) := by
      rw [y2 _ (by omega), g2 _ (by omega), o2 _ (by omega)]; exact z1
    have hI : sbInitS S3 s.2.1 X5.2.1 = some (chg (cup S3 s.2.1 (true, false, 1035, txV L0)) 1 (8 * (txV L0).length + 16)) := by
      unfold sbInitS
      rw [hX5, stC_r y1, Option.bind_some, if_pos (by rw [txV_len]; omega)]
      unfold ccI
      rw [a0]; rfl
    rw [if_pos (isK_t a0 rfl), hI, Option.bind_some]
    generalize hS4 : chg (cup S3 s.2.1 (true, false, 1035, txV L0)) 1 (8 * (txV L0).length + 16) = S4
    have w1 : S4.1 s.2.1 = some (true, false, 1035, txV L0) := by rw [← hS4]; exact cup_eq ..
    have w2 : ∀ q, q ≠ s.2.1 → S4.1 q = S3.1 q := fun q hq => by rw [← hS4]; exact cup_ne hq
    have w3 : S4.2.1 = S3.2.1 := by rw [← hS4]; rfl
    have w4 : wfS S4 := by rw [← hS4]; exact wf_cup y4 (by omega)
    have w5 : S4.2.2.1 ≤ s.2.2.1 + 16 := by
      rw [← hS4]
      show S3.2.2.1 + 1 ≤ _
      rw [y5]
      have : S2.2.2.1 ≤ s.2.2.1 + 1 + 2 := by rw [← z5]; exact q1
      omega
    have w6 : S4.2.2.2 ≤ s.2.2.2 + 800 := by
      rw [← hS4]
      show S3.2.2.2 + (8 * (txV L0).length + 16) ≤ _
      rw [y6, txV_len]
      have : S2.2.2.2 ≤ s.2.2.2 + 4 + 20 := by have z6 : S0.2.2.2 = s.2.2.2 + 4 := z6; rw [← z6]; exact q2
      omega
    have B6 : BdW S4 S4 s.2.1 L0 0 0 := ⟨w1, fun _ _ => rfl, rfl, w4, Nat.le_refl _, Nat.le_refl _⟩
    have l4 : s.2.1 < S4.2.1 := by omega
    have k37 : S4.1 37 = some (false, false, 1000, txV [59, 32]) := by
      rw [w2 37 (by omega), y2 37 (by omega), g2 37 (by omega)]; exact kk 37 [59, 32] (by simp [sTab7]) (by omega)
    refine Tr.bd (P := fun X => BdW S4 X s.2.1 (L0 ++ numsL c d) (4 * d) (80 * d)) (wh_cnt d (fun i q => q.2 = Int32.ofNat i ∧ BdW S4 q.1 s.2.1 (L0 ++ numsL c i) (4 * i) (80 * i)) ?_ ?_ ⟨rfl, by rw [show numsL c 0 = [] from rfl, List.append_nil]; exact B6⟩) (fun X hX => ?_)
    · rintro i ⟨V, q⟩ hi ⟨hq, v1⟩
      dsimp only at hq v1 ⊢
      subst hq
      have ln := numsL_len c i
      have hstep : Tr (if isK V [35] s.2.1 = true then Option.bind (sbI V s.2.1 (Int32.ofNat (c + i))) (fun s47 => (if isK s47 [35] s.2.1 = true then Option.bind (sbC s47 s.2.1 32) (fun s48 => some (Sum.inl (β := CS) (s48, Int32.ofNat i + 1))) else none)) else none) (fun z => ∃ W, z = .inl (W, Int32.ofNat (i + 1)) ∧ BdW S4 W s.2.1 (L0 ++ numsL c (i + 1)) (4 * (i + 1)) (80 * (i + 1))) := by
        refine bdI v1 l4 (by omega) (by simp; omega) (fun W1 h1 => ?_)
        refine bdC (c := 32) h1 l4 (by omega) (by have := numL_len (c + i); simp; omega) (fun W2 h2 => ?_)
        refine ⟨_, rfl, W2, by rw [i_suc], ?_⟩
        obtain ⟨t1, t2, t3, t4, t5, t6⟩ := h2
        refine ⟨?_, t2, t3, t4, by omega, by omega⟩
        unfold numsL
        simpa [List.append_assoc] using t1
      obtain ⟨z, ez, W, rfl, hW⟩ := hstep
      exact Or.inr ⟨_, by rw [if_pos ((i_lt (by omega) (by omega)).mpr hi), i_add]; exact ez, rfl, hW⟩
    · rintro ⟨V, q⟩ ⟨hq, v1⟩
      dsimp only at hq v1 ⊢
      subst hq
      exact ⟨V, by rw [if_neg (by rw [i_lt (by omega) (by omega)]; omega)], v1⟩
    · have ln := numsL_len c d
      refine bdS hX l4 k37 (by simp; omega) (by omega) (fun X9 B9 => ?_)
      obtain ⟨t1, t2, t3, t4, t5, t6⟩ := B9
      simp only [List.length_cons, List.length_nil] at t6
      rw [if_pos (isK_t t1 rfl)]
      rw [sbCt_r t1, Option.bind_some, Option.bind_some]
      refine ⟨_, rfl, ?_, ?_, ?_, fun q hq => ?_, wf_nwc t4, ?_, ?_⟩
      · show (nwc X9 _ _ _).2.1 X9.2.1 = _
        rw [nwc_eq, ← hL0]
        unfold sayL
        simp [wdL, List.append_assoc]
      · show s.2.1 ≤ X9.2.1; omega
      · show X9.2.1 < X9.2.1 + 1; omega
      · show (nwc X9 _ _ _).2.1 q = _
        rw [nwc_ne (by omega), t2 q (by omega), w2 q (by omega), y2 q (by omega), g2 q (by omega), o2 q (by omega), z2 q (by omega)]
      · show X9.2.2.1 + 2 ≤ _; omega
      · show X9.2.2.2 + ((txV _).length + 4) ≤ _
        rw [txV_len]
        simp only [List.length_append, List.length_cons, List.length_nil]
        omega
  · have hd1 := hd1 rfl
    rw [if_neg (by decide), if_pos (by decide), eb (by omega), ec (by omega) (by omega), ed (by omega)]
    obtain ⟨S1, S2, E1, i1, E2, B, n2, o2, q1, q2⟩ := bd_new hw
    have kk : ∀ (id : Nat) (l : List Nat), (id, l) ∈ sTab7 → id < 100 → S2.1 id = some (false, false, 1000, txV l) := fun id l hm hi => (o2 id (by omega)).trans (k7s k7 hm)
    rw [E1, Option.bind_some]
    dsimp only
    rw [if_pos (isK_t i1 rfl), E2, Option.bind_some]
    refine bdS B (by omega) (kk 38 [97, 99, 116, 32] (by simp [sTab7]) (by omega)) (by simp) (by omega) (fun X1 B1 => ?_)
    refine bdI B1 (by omega) (by omega) (by simp) (fun X2 B2 => ?_)
    refine bdS B2 (by omega) (kk 39 [32, 107, 105, 110, 100, 32] (by simp [sTab7]) (by omega)) (by simp; omega) (by omega) (fun X3 B3 => ?_)
    refine bdI B3 (by omega) (by omega) (by simp; omega) (fun X4 B4 => ?_)
    refine bdS B4 (by omega) (kk 40 [32, 114, 97, 110, 107, 32] (by simp [sTab7]) (by omega)) (by simp; omega) (by omega) (fun X5 B5 => ?_)
    refine bdI B5 (by omega) (by omega) (by simp; omega) (fun X6 B6 => ?_)
    refine bdS B6 (by omega) (kk 41 [32, 100, 101, 108, 97, 121, 32] (by simp [sTab7]) (by omega)) (by simp; omega) (by omega) (fun X7 B7 => ?_)
    refine bdI B7 (by omega) (by omega) (by simp; omega) (fun X8 B8 => ?_)
    refine bdS B8 (by omega) (kk 42 [32, 59, 32] (by simp [sTab7]) (by omega)) (by simp; omega) (by omega) (fun X9 B9 => ?_)
    refine Tr.mono (bdE (s := s) (Nat.le_refl _) (by omega) o2 q1 q2 B9) (fun x hx => ?_)
    have hx := hx.mono (n' := 100) (m' := 3000) (by simp) (by simp; omega)
    unfold sayL
    simpa [wdL, List.append_assoc] using hx
  · rw [if_neg (by decide), if_neg (by decide), if_pos (by decide), eb (by omega)]
    obtain ⟨S1, S2, E1, i1, E2, B, n2, o2, q1, q2⟩ := bd_new hw
    have kk : ∀ (id : Nat) (l : List Nat), (id, l) ∈ sTab7 → id < 100 → S2.1 id = some (false, false, 1000, txV l) := fun id l hm hi => (o2 id (by omega)).trans (k7s k7 hm)
    rw [E1, Option.bind_some]
    dsimp only
    rw [if_pos (isK_t i1 rfl), E2, Option.bind_some]
    refine bdS B (by omega) (kk 43 [119, 104, 101, 110, 32] (by simp [sTab7]) (by omega)) (by simp) (by omega) (fun X1 B1 => ?_)
    refine bdI B1 (by omega) (by omega) (by simp) (fun X2 B2 => ?_)
    refine bdS B2 (by omega) (kk 44 [32, 100, 111, 101, 115, 32] (by simp [sTab7]) (by omega)) (by simp; omega) (by omega) (fun X3 B3 => ?_)
    refine bdI B3 (by omega) (by omega) (by simp; omega) (fun X4 B4 => ?_)
    refine bdS B4 (by omega) (kk 42 [32, 59, 32] (by simp [sTab7]) (by omega)) (by simp; omega) (by omega) (fun X9 B9 => ?_)
    refine Tr.mono (bdE (s := s) (Nat.le_refl _) (by omega) o2 q1 q2 B9) (fun x hx => ?_)
    have hx := hx.mono (n' := 100) (m' := 3000) (by simp) (by simp; omega)
    unfold sayL
    simpa [wdL, List.append_assoc] using hx
  · rw [if_neg (by decide), if_neg (by decide), if_neg (by decide), if_pos (by decide), eb (by omega), ec (by omega) (by omega)]
    obtain ⟨S1, S2, E1, i1, E2, B, n2, o2, q1, q2⟩ := bd_new hw
    have kk : ∀ (id : Nat) (l : List Nat), (id, l) ∈ sTab7 → id < 100 → S2.1 id = some (false, false, 1000, txV l) := fun id l hm hi => (o2 id (by omega)).trans (k7s k7 hm)
    rw [E1, Option.bind_some]
    dsimp only
    rw [if_pos (isK_t i1 rfl), E2, Option.bind_some]
    refine bdS B (by omega) (kk 43 [119, 104, 101, 110, 32] (by simp [sTab7]) (by omega)) (by simp) (by omega) (fun X1 B1 => ?_)
    refine bdI B1 (by omega) (by omega) (by simp) (fun X2 B2 => ?_)
    refine bdS B2 (by omega) (kk 45 [32, 38, 32] (by simp [sTab7]) (by omega)) (by simp; omega) (by omega) (fun X3 B3 => ?_)
    refine bdI B3 (by omega) (by omega) (by simp; omega) (fun X4 B4 => ?_)
    refine bdS B4 (by omega) (kk 44 [32, 100, 111, 101, 115, 32] (by simp [sTab7]) (by omega)) (by simp; omega) (by omega) (fun X5 B5 => ?_)
    refine bdI B5 (by omega) (by omega) (by simp; omega) (fun X6 B6 => ?_)
    refine bdS B6 (by omega) (kk 42 [32, 59, 32] (by simp [sTab7]) (by omega)) (by simp; omega) (by omega) (fun X9 B9 => ?_)
    refine Tr.mono (bdE (s := s) (Nat.le_refl _) (by omega) o2 q1 q2 B9) (fun x hx => ?_)
    have hx := hx.mono (n' := 100) (m' := 3000) (by simp) (by simp; omega)
    unfold sayL
    simpa [wdL, List.append_assoc] using hx
  · rw [if_neg (by decide), if_neg (by decide), if_neg (by decide), if_neg (by decide)]
    obtain ⟨S1, S2, E1, i1, E2, B, n2, o2, q1, q2⟩ := bd_new hw
    have kk : ∀ (id : Nat) (l : List Nat), (id, l) ∈ sTab7 → id < 100 → S2.1 id = some (false, false, 1000, txV l) := fun id l hm hi => (o2 id (by omega)).trans (k7s k7 hm)
    rw [E1, Option.bind_some]
    dsimp only
    rw [if_pos (isK_t i1 rfl), E2, Option.bind_some]
    refine bdS B (by omega) (kk 46 [104, 111, 108, 100, 32] (by simp [sTab7]) (by omega)) (by simp) (by omega) (fun X1 B1 => ?_)
    refine bdI B1 (by omega) (by omega) (by simp) (fun X2 B2 => ?_)
    refine bdS B2 (by omega) (kk 42 [32, 59, 32] (by simp [sTab7]) (by omega)) (by simp; omega) (by omega) (fun X9 B9 => ?_)
    refine Tr.mono (bdE (s := s) (Nat.le_refl _) (by omega) o2 q1 q2 B9) (fun x hx => ?_)
    have hx := hx.mono (n' := 100) (m' := 3000) (by simp) (by simp; omega)
    unfold sayL
    simpa [wdL, List.append_assoc] using hx
