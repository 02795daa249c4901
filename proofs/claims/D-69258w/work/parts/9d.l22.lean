/-! the lifts: the best row of a set -/
theorem c_grow {s0 : CS} {t : TS} {nc n k : Nat} {f C D : Nat → Nat} {bk : Option Nat} {TR RL T TA B BA : Nat} {p0 : List Nat} {c0 : Nat} {b0 : Nat × List Nat} (v : Lv t nc n f) (hk : k < nc) (e : GE s0 t n f k C D bk TR RL T) (z : GS s0 s0 T TA B BA f p0 c0 b0) (hTB : T ≠ B) (hAA : TA ≠ BA) (hB : ∀ i, i < n → (begB t f k i = true ↔ bk = some (f i))) (hD : ∀ c, bk = some c → ∀ i, i < n → D (f i) = D c → f i = c) (hu : ∀ x y, x < n → y < n → begB t f k x = true → begB t f k y = true → x = y) :
    ∀ (d σ : Nat) (pre : List Nat) (pc sec a : Nat) (b : Nat × List Nat) (s : CS), pre.length ≠ 0 → (plL n σ).length < d → GO n pre σ pc sec a b → GS s0 s T TA B BA f pre pc b → Tr (c_1079 d TR (Int32.ofNat σ) (Int32.ofNat sec) (Int32.ofNat a) B s) (fun s' => GS s0 s' T TA B BA f pre pc (gro (cwN t k f) pre pc sec a (plL n σ) b)) := by
  intro d
  induction d with
  | zero => intro σ pre pc sec a b s _ h; omega
  | succ d ih =>
    intro σ pre pc sec a b s hp hd o w
    refine Tr.mono (c_gstep v hk e z hTB hAA hB hD hu ih hd o w) (fun s' h => ?_)
    have : gro (cwN t k f) pre pc sec a (plL n σ) b = (if pc < b.1 then (if plL n σ = [] then (pc, pre) else grR t f k pre pc sec a (plL n σ) b (plL n σ)) else b) := by
      by_cases h1 : pc < b.1
      · rw [if_pos h1]
        by_cases h2 : plL n σ = []
        · rw [if_pos h2, h2, gro_nil, if_pos h1]
        · rw [if_neg h2, gro_cons _ _ _ _ _ h2]
          unfold grR
          congr 1
          funext b x
          rw [if_neg (fun q => hp q.1.1)]
      · rw [if_neg h1, gro_prune _ _ _ _ _ _ (by omega)]
    rw [this]
    exact h
theorem bsr_two {w : Cw} {be : Nat → Bool} {sec a : Nat} {L : List Nat} (hp : L.Pairwise (· < ·)) (hu : ∀ x ∈ L, ∀ y ∈ L, be x = true → be y = true → x = y) {N M B : Nat} (hc : ∀ p : List Nat, p.length = L.length → (∀ x ∈ p, x ∈ L) → rwc w sec a p ≤ B) (hN : B < N) (hM : B < M) : bsr w be sec a L (N, []) = bsr w be sec a L (M, []) := by
  have h1 := (bsr_some w be sec a hp hu hc hN).1
  have hm := lexP_mem L.length L rfl hp
  unfold bsr at h1 ⊢
  have key : ∀ (K : List (List Nat)) (b b' : Nat × List Nat), (∀ p ∈ K, rwc w sec a p ≤ B) → (b = b' ∨ (b = (N, []) ∧ b' = (M, []))) → (K.foldl (fun b p => if p.tail.all (fun x => !be x) = true ∧ rwc w sec a p < b.1 then (rwc w sec a p, p) else b) b = K.foldl (fun b p => if p.tail.all (fun x => !be x) = true ∧ rwc w sec a p < b.1 then (rwc w sec a p, p) else b) b' ∨ (K.foldl (fun b p => if p.tail.all (fun x => !be x) = true ∧ rwc w sec a p < b.1 then (rwc w sec a p, p) else b) b = (N, []))) := by
    intro K
    induction K with
    | nil =>
      rintro b b' _ (h | h)
      · exact Or.inl h
      · exact Or.inr h.1
    | cons p K ih =>
      intro b b' hK h
      rw [List.foldl_cons, List.foldl_cons]
      refine ih _ _ (fun q hq => hK q (List.mem_cons_of_mem _ hq)) ?_
      have hp := hK p (by simp)
      rcases h with rfl | ⟨rfl, rfl⟩
      · exact Or.inl rfl
      · by_cases c : p.tail.all (fun x => !be x) = true
        · rw [if_pos ⟨c, by show _ < N; omega⟩, if_pos ⟨c, by show _ < M; omega⟩]; exact Or.inl rfl
        · rw [if_neg (fun q => c q.1), if_neg (fun q => c q.1)]; exact Or.inr ⟨rfl, rfl⟩
  rcases key (lexP L.length L) (N, []) (M, []) (fun p hpm => hc p (hm p hpm).1 (fun x hx => ((hm p hpm).2 x).mp hx)) (Or.inr ⟨rfl, rfl⟩) with h | h
  · exact h
  · rw [h] at h1
    have : N ≤ B := h1
    omega
theorem c_growTop {s0 s : CS} {t : TS} {nc n k σ : Nat} {f C D : Nat → Nat} {bk : Option Nat} {TR RL T TA B BA : Nat} {p0 : List Nat} {c0 : Nat} {b0 : Nat × List Nat} (v : Lv t nc n f) (hk : k < nc) (e : GE s0 t n f k C D bk TR RL T) (z : GS s0 s0 T TA B BA f p0 c0 b0) (hTB : T ≠ B) (hAA : TA ≠ BA) (hB : ∀ i, i < n → (begB t f k i = true ↔ bk = some (f i))) (hD : ∀ c, bk = some c → ∀ i, i < n → D (f i) = D c → f i = c) (hu : ∀ x y, x < n → y < n → begB t f k x = true → begB t f k y = true → x = y) (hσ : σ < 2 ^ n) (hfe : feas (fun k i => fit t k (f i)) n k σ)
    (w : GS s0 s T TA B BA f [] 0 (1152921504606846975, [])) : Tr (c_1079 200 TR (Int32.ofNat σ) (Int32.ofNat (bgN t k)) (Int32.ofNat (bN (t.2.2.1 159 k))) B s) (fun s' => GS s0 s' T TA B BA f [] 0 (bstR t n f k σ)) := by
  have hl := plL_len n σ
  have hn6 := v.2.2.1
  have hbg := lv_bg v hk
  have ha := (v.2.2.2.2.1 k hk).2.1.2
  refine Tr.mono (c_gstep (d := 199) v hk e z hTB hAA hB hD hu (fun σ pre pc sec a b s h1 h2 h3 h4 => c_grow v hk e z hTB hAA hB hD hu 199 σ pre pc sec a b s h1 h2 h3 h4) (by omega) ⟨hσ, by simp; omega, by omega, ha, by simp, by omega, by simp⟩ w) (fun s' h => ?_)
  have huL : ∀ x ∈ plL n σ, ∀ y ∈ plL n σ, begB t f k x = true → begB t f k y = true → x = y := fun x hx y hy => hu x y (plL_mem.mp hx).1 (plL_mem.mp hy).1
  have hb : bstR t n f k σ = bsr (cwN t k f) (begB t f k) (bgN t k) (bN (t.2.2.1 159 k)) (plL n σ) (1152921504606846975, []) := by
    unfold bstR
    rw [if_pos hfe]
    refine bsr_two (B := 126600000) (plL_pw n σ) huL (fun p h1 h2 => ?_) (by omega) (by omega)
    have h3 := lv_rw v hk p (bgN t k) (bN (t.2.2.1 159 k)) (fun x hx => (plL_mem.mp (h2 x hx)).1) ha (by omega)
    have : p.length * 21100000 ≤ 6 * 21100000 := Nat.mul_le_mul_right _ (by omega)
    omega
  rw [hb]
  rw [if_pos (by decide)] at h
  by_cases h2 : plL n σ = []
  · rw [if_pos h2] at h
    rw [h2, bsr_nil, if_pos (by decide)]; exact h
  · rw [if_neg h2] at h
    rw [bsr_cons _ _ _ _ h2 (plL_pw n σ) huL]
    unfold grR at h
    have : (fun (b : Nat × List Nat) x => if (([] : List Nat).length = 0 ∧ (plL n σ).any (begB t f k) = true) ∧ begB t f k x = false then b else gro (cwN t k f) ([] ++ [x]) (0 + (cwN t k f).1 (bgN t k) (bN (t.2.2.1 159 k)) x) ((cwN t k f).2.1 (bgN t k) (bN (t.2.2.1 159 k)) x) ((cwN t k f).2.2 x) ((plL n σ).erase x) b) = (fun b x => if (plL n σ).any (begB t f k) = true ∧ begB t f k x = false then b else gro (cwN t k f) [x] ((cwN t k f).1 (bgN t k) (bN (t.2.2.1 159 k)) x) ((cwN t k f).2.1 (bgN t k) (bN (t.2.2.1 159 k)) x) ((cwN t k f).2.2 x) ((plL n σ).erase x) b) := by
      funext b x
      simp only [List.length_nil, true_and, List.nil_append, Nat.zero_add]
    rw [this] at h
    exact h
theorem c_rowInit {s : CS} {a : Nat} {x y : Value} (hw : wfS s) (h : s.1 a = some (true, false, 98, [.null, x, y])) : ∃ S, c_1082 a s = some S ∧ S.1 a = some (true, false, 98, [.ref s.2.1, x, y]) ∧ S.1 s.2.1 = some (true, true, 0, rowC (fun _ => .int 0) 6) ∧ (∀ q, q ≠ a → q ≠ s.2.1 → S.1 q = s.1 q) ∧ S.2.1 = s.2.1 + 1 ∧ wfS S ∧ S.2.2.1 = s.2.2.1 + 1 ∧ S.2.2.2 = s.2.2.2 + 6 := by
  have hl := wf_lt hw h
  obtain ⟨S1, e1, a1, a2, a3, a4, a5, a6⟩ := nwa_o (s := s) 0 (.int 0) 6 (by omega) hw
  unfold c_1082
  rw [show (6 : Int32) = Int32.ofNat 6 from rfl, e1, Option.bind_some, xP_c (fs' := [.ref s.2.1, x, y]) ((a2 a (by omega)).trans h) rfl (by simp) rfl, Option.bind_some]
  exact ⟨_, rfl, cup_eq .., (cup_ne (by omega)).trans a1, fun q h1 h2 => (cup_ne h1).trans (a2 q h2), a3, wf_cup a4 (by omega), a5, a6⟩
/-- what is fixed while tours are made -/
def TE (s : CS) (t : TS) (nc n nk : Nat) (f C D M : Nat → Nat) (b : Nat → Option Nat) : Prop := R8x s.1 t nc nk C D M b ∧ (∃ (hm : Int32) (lst : Int64), (0 < n → hm = 0) ∧ s.1 162 = some (true, false, 49, [.ref 163, .ref 164, .int (t.1 606), .int (t.1 612), .int hm, .int (t.1 1), .ref 165, .ref 166, .ref 167, .ref 168, .long lst, .ref 169])) ∧ (∃ mc : Int32, s.1 165 = some (true, false, 1013, .int mc :: rowC (fun i => .ref (D (f i))) n)) ∧ ∀ i, i < n → f i < nk ∧ isO t (f i)
theorem c_best {s : CS} {t : TS} {nc n nk k σ : Nat} {f C D M : Nat → Nat} {b : Nat → Option Nat} {TR RL T TA N : Nat} {c0 : Int64} {g0 : Nat → Int32} (hw : wfS s) (v : Lv t nc n f) (hk : k < nc) (hT : TE s t nc n nk f C D M b) (e1 : s.1 TR = some (true, false, 97, [.ref (C k), .ref RL, .ref T, .ref 162])) (t1 : s.1 T = some (true, false, 98, [.ref TA, .int (Int32.ofNat N), .long c0])) (t2 : s.1 TA = some (true, true, 0, rowC (fun i => .int (g0 i)) 6)) (hσ : σ < 2 ^ n) :
    Tr (c_1078 TR (Int32.ofNat σ) s) (fun x => (¬ feas (fun k i => fit t k (f i)) n k σ ∧ x = (none, s)) ∨ (feas (fun k i => fit t k (f i)) n k σ ∧ x.1 = some s.2.1 ∧ x.2.1 s.2.1 = some (rwK (s.2.1 + 1) (bstR t n f k σ).2.length (bstR t n f k σ).1) ∧ arK x.2 (s.2.1 + 1) f (bstR t n f k σ).2 ∧ x.2.1 T = some (true, false, 98, [.ref TA, .int (Int32.ofNat 0), .long (Int64.ofNat 0)]) ∧ (∃ g : Nat → Int32, x.2.1 TA = some (true, true, 0, rowC (fun i => .int (g i)) 6)) ∧ (∀ q, q < s.2.1 → q ≠ T → q ≠ TA → x.2.1 q = s.1 q) ∧ x.2.2.1 = s.2.1 + 2 ∧ wfS x.2 ∧ x.2.2.2.1 = s.2.2.1 + 2 ∧ x.2.2.2.2 = s.2.2.2 + 9)) := by
  have hn := v.2.1
  have hn6 := v.2.2.1
  have h64 := pow_n6 hn6
  obtain ⟨r, ⟨hm, lst, hh, e2⟩, ⟨mc, e3⟩, hO⟩ := hT
  have r2 := r
  obtain ⟨_, ⟨m1, p2⟩, _, _, _, _, p7, p8, p9, p10, p11, p12, p13, p14, p15, p16, p17, p18, _⟩ := r2
  have e4 := (p14 k hk).1
  have e5 : ∀ i, i < n → s.1 (D (f i)) = some (calC t C (f i)) := fun i hi => ((p16 _ (hO i hi).1).2.2 (hO i hi).2).1
  unfold c_1078
  refine Tr.bd (P := fun (x : Sum Unit (Option Nat × CS)) => (¬ feas (fun k i => fit t k (f i)) n k σ ∧ x = .inr (none, s)) ∨ (feas (fun k i => fit t k (f i)) n k σ ∧ x = .inl ())) ?_ ?_
  · refine Tr.bd (P := fun (x : Sum Unit (Sum Unit (Option Nat × CS))) => (¬ feas (fun k i => fit t k (f i)) n k σ ∧ x = .inl ()) ∨ (feas (fun k i => fit t k (f i)) n k σ ∧ x = .inr (.inl ()))) (wh_cnt n (fun i a => a = Int32.ofNat i ∧ feas (fun k i => fit t k (f i)) i k σ) ?_ ?_ ⟨rfl, fun j hj => by omega⟩) ?_
    · rintro i _ hi ⟨rfl, hf⟩
      have hcars := c_cars (s := s) (own := fun _ => 8) (c := f i) (by rw [rs_all]; exact r) (hO i hi).1 (hO i hi).2 e2
      rw [if_pos (hh (by omega))] at hcars
      have hlt := cob_lt t (f i) nc
      have h16 : 2 ^ nc ≤ 16 := Nat.pow_le_pow_right (n := 2) (by omega) hn
      rw [xN_o e1 rfl rfl, Option.bind_some, xN_o e2 rfl rfl, Option.bind_some, if_pos (isK_t e3 rfl), alSize_r e3, Option.bind_some, if_pos ((i_lt (by omega) (by omega)).mpr hi)]
      by_cases hb : bt σ i = 1
      · rw [if_pos ((i_bt1 (by omega) (by omega)).mpr hb), Option.bind_some, if_neg (by decide), Option.bind_some, Option.bind_some, xN_o e2 rfl rfl, Option.bind_some, if_pos (isK_t e3 rfl), alGet_r e3 hi (by omega), Option.bind_some, toN_o (e5 i hi) rfl, Option.bind_some, if_pos (isK_t e2 rfl), hcars, Option.bind_some, xN_o e1 rfl rfl, Option.bind_some, xI_o (x := Int32.ofNat k) e4 rfl rfl, Option.bind_some]
        by_cases hf2 : fit t k (f i) = true
        · have hb2 : bt (cob t (f i) nc) k = 1 := by rw [cob_bit hk, if_pos hf2]
          rw [if_neg (by rw [i_bt0 (by omega) (by omega), hb2]; decide), Option.bind_some, Sum.elim_inl, i_suc]
          refine Or.inr ⟨_, rfl, rfl, fun j hj hbj => ?_⟩
          by_cases y : j = i
          · rw [y]; exact hf2
          · exact hf j (by omega) hbj
        · have hb2 : bt (cob t (f i) nc) k = 0 := by rw [cob_bit hk, if_neg hf2]
          rw [if_pos ((i_bt0 (by omega) (by omega)).mpr hb2), Option.bind_some, Sum.elim_inr]
          exact Or.inl ⟨_, rfl, Or.inl ⟨fun y => hf2 (y i hi hb), rfl⟩⟩
      · rw [if_neg (fun y => hb ((i_bt1 (by omega) (by omega)).mp y)), Option.bind_some, if_pos rfl, Option.bind_some, Sum.elim_inl, i_suc]
        refine Or.inr ⟨_, rfl, rfl, fun j hj hbj => ?_⟩
        by_cases y : j = i
        · rw [y] at hbj; exact absurd hbj hb
        · exact hf j (by omega) hbj
    · rintro _ ⟨rfl, hf⟩
      refine ⟨_, ?_, Or.inr ⟨hf, rfl⟩⟩
      rw [xN_o e1 rfl rfl, Option.bind_some, xN_o e2 rfl rfl, Option.bind_some, if_pos (isK_t e3 rfl), alSize_r e3, Option.bind_some, if_neg (by rw [i_lt (by omega) (by omega)]; omega)]
    · rintro _ (⟨h1, rfl⟩ | ⟨h1, rfl⟩)
      · exact ⟨_, rfl, Or.inl ⟨h1, rfl⟩⟩
      · exact ⟨_, rfl, Or.inr ⟨h1, rfl⟩⟩
  · rintro _ (⟨h1, rfl⟩ | ⟨h1, rfl⟩)
    · exact ⟨_, rfl, Or.inl ⟨h1, rfl⟩⟩
    · rw [Sum.elim_inl, Option.bind_some]
      obtain ⟨S1, E1, a1, a2, a3, a4, a5, a6⟩ := nw_o (s := s) 98 [.null, .int 0, .long 0] hw
      rw [E1]
      dsimp only
      rw [if_pos (isK_t a1 rfl)]
      obtain ⟨S2, E2, b1, b2, b3, b4, b5, b6, b7⟩ := c_rowInit a4 a1
      rw [a3] at b1 b2 b3
      have lT := wf_lt hw t1
      have lTA := wf_lt hw t2
      have lTR := wf_lt hw e1
      have n1 : T ≠ TA := apart t1 t2 (by show (98 : Nat) ≠ 0; omega)
      have nR : TR ≠ T := apart e1 t1 (by show (97 : Nat) ≠ 98; omega)
      have nRA : TR ≠ TA := apart e1 t2 (by show (97 : Nat) ≠ 0; omega)
      have old : ∀ q, q < s.2.1 → S2.1 q = s.1 q := fun q hq => (b3 q (by omega) (by omega)).trans (a2 q (by omega))
      rw [E2, Option.bind_some, xP_c (fs' := [.ref (s.2.1 + 1), .int 0, .long 1152921504606846975]) b1 rfl (by simp) rfl, Option.bind_some]
      generalize hS3 : cup S2 s.2.1 (true, false, 98, [.ref (s.2.1 + 1), .int 0, .long 1152921504606846975]) = S3
      have c1 : S3.1 s.2.1 = some (true, false, 98, [.ref (s.2.1 + 1), .int 0, .long 1152921504606846975]) := by rw [← hS3, cup_eq]
      have c2 : ∀ q, q ≠ s.2.1 → S3.1 q = S2.1 q := fun q hq => by rw [← hS3, cup_ne hq]
      have c3 : ∀ q, q < s.2.1 → S3.1 q = s.1 q := fun q hq => (c2 q (by omega)).trans (old q hq)
      have c4 : S3.2 = S2.2 := by rw [← hS3]; rfl
      rw [xN_o ((c3 TR lTR).trans e1) rfl rfl, Option.bind_some, xP_c (fs' := [.ref TA, .int 0, .long c0]) ((c3 T lT).trans t1) rfl (by simp) rfl, Option.bind_some]
      rw [xN_o ((cup_ne nR).trans ((c3 TR lTR).trans e1)) rfl rfl, Option.bind_some, xP_c (fs' := [.ref TA, .int 0, .long 0]) (cup_eq ..) rfl (by simp) rfl, Option.bind_some, cupU]
      generalize hS4 : cup S3 T (true, false, 98, [.ref TA, .int 0, .long 0]) = S4
      have d1 : S4.1 T = some (true, false, 98, [.ref TA, .int 0, .long 0]) := by rw [← hS4, cup_eq]
      have d2 : ∀ q, q ≠ T → S4.1 q = S3.1 q := fun q hq => by rw [← hS4, cup_ne hq]
      have d3 : ∀ q, q < s.2.1 → q ≠ T → S4.1 q = s.1 q := fun q hq h2 => (d2 q h2).trans (c3 q hq)
      have d4 : S4.2 = S2.2 := by rw [← hS4]; exact c4
      have f1 : S4.1 TR = _ := (d3 TR lTR nR).trans e1
      have l162 := wf_lt hw e2
      have f2 : S4.1 162 = _ := (d3 162 l162 (apart e2 t1 (by show (49 : Nat) ≠ 98; omega))).trans e2
      have f3 : S4.1 165 = _ := (d3 165 (wf_lt hw e3) (apart e3 t1 (by show (1013 : Nat) ≠ 98; omega))).trans e3
      have f4 : S4.1 (C k) = _ := (d3 _ (wf_lt hw e4) (apart e4 t1 (by show (95 : Nat) ≠ 98; omega))).trans e4
      have f5 : ∀ i, i < n → S4.1 (D (f i)) = some (calC t C (f i)) := fun i hi => (d3 _ (wf_lt hw (e5 i hi)) (apart (e5 i hi) t1 (by show (96 : Nat) ≠ 98; omega))).trans (e5 i hi)
      have hGE : GE S4 t n f k C D (b k) TR RL T := ⟨f1, ⟨hm, lst, f2⟩, ⟨mc, f3⟩, f4, f5⟩
      have hGS : GS S4 S4 T TA s.2.1 (s.2.1 + 1) f [] 0 (1152921504606846975, []) := by
        refine ⟨d1, ⟨g0, (d3 TA lTA n1.symm).trans t2, fun i hi => by simp at hi⟩, (d2 _ (by omega)).trans c1, ⟨fun _ => 0, ?_, fun i hi => by simp at hi⟩, fun _ _ _ _ _ => rfl, rfl⟩
        rw [d2 _ (by omega), c2 _ (by omega)]; exact b2
      have hB : ∀ i, i < n → (begB t f k i = true ↔ b k = some (f i)) := by
        intro i hi
        unfold begB
        rw [decide_eq_true_eq, p18 k (f i) hk]
        exact ⟨fun h => ⟨(hO i hi).1, (hO i hi).2, h⟩, fun h => h.2.2⟩
      have hDD : ∀ c, b k = some c → ∀ i, i < n → D (f i) = D c → f i = c := by
        intro c hc i hi h
        have h3 := (p18 k c hk).mp hc
        exact p17 _ _ (hO i hi).1 h3.1 (hO i hi).2 h3.2.1 h
      have hu : ∀ x y, x < n → y < n → begB t f k x = true → begB t f k y = true → x = y := by
        intro x y hx hy h3 h4
        have h5 := (hB x hx).mp h3
        have h6 := (hB y hy).mp h4
        have h7 : f x = f y := Option.some.inj (h5.symm.trans h6)
        rcases Nat.lt_trichotomy x y with z | z | z
        · have := v.2.2.2.2.2.2.1 x y z hy; omega
        · exact z
        · have := v.2.2.2.2.2.2.1 y x z hx; omega
      have hbeg : c_47 0 (t.2.2.1 160 k - t.1 612) S4 = some (Int32.ofNat (bgN t k)) := by
        unfold c_47 bgN
        obtain ⟨_, _, q1, q2⟩ := v.2.2.2.2.1 k hk
        obtain ⟨q3, q4⟩ := v.2.2.2.1
        generalize bN (t.2.2.1 160 k) = A at q1 q2 ⊢
        generalize bN (t.1 612) = Z at q3 q4 ⊢
        rw [q1, q3]
        by_cases y : Z < A
        · rw [i_sub (by omega), if_pos ((i_Llt (by omega) (by omega)).mpr (by omega))]
        · have y2 : Int32.ofNat A - Int32.ofNat Z = -(Int32.ofNat (Z - A)) := by
            rw [← i_sub (by omega), Int32.neg_sub]
          have y3 : ¬ 0 < Int32.ofNat A - Int32.ofNat Z := by
            rw [y2, Int32.lt_iff_toInt_lt, Int32.toInt_neg, i_toInt (by omega)]
            show ¬ (0 : Int) < (-((Z - A : Nat) : Int)).bmod (2 ^ 32)
            rw [Int.bmod_eq_of_le (by omega) (by omega)]
            omega
          rw [if_neg y3, Nat.sub_eq_zero_of_le (by omega)]; rfl
      rw [xN_o f1 rfl rfl, Option.bind_some, xI_o (x := t.2.2.1 160 k) f4 rfl rfl, Option.bind_some, xN_o f1 rfl rfl, Option.bind_some, xI_o (x := t.1 612) f2 rfl rfl, Option.bind_some, hbeg, Option.bind_some, Option.bind_some, xI_o (x := t.2.2.1 159 k) f4 rfl rfl, Option.bind_some, if_pos (isK_t f1 rfl)]
      have ha := (v.2.2.2.2.1 k hk).2.1.1
      have hrun := c_growTop (σ := σ) v hk hGE hGS (show T ≠ s.2.1 by omega) (show TA ≠ s.2.1 + 1 by omega) hB hDD hu hσ h1 hGS
      rw [← ha] at hrun
      refine Tr.bd hrun (fun X hX => ?_)
      refine ⟨_, rfl, Or.inr ⟨h1, rfl, hX.2.2.1, hX.2.2.2.1, hX.1, ?_, fun q h2 h3 h4 => ?_, ?_, ?_, ?_, ?_⟩⟩
      · obtain ⟨g, q1, _⟩ := hX.2.1
        exact ⟨g, q1⟩
      · rw [hX.2.2.2.2.1 q h3 h4 (by omega) (by omega)]; exact d3 q h2 h3
      · show X.2.1 = _
        rw [hX.2.2.2.2.2, d4, b4, a3]
      · intro q hq
        have hq : X.2.1 ≤ q := hq
        rw [hX.2.2.2.2.2, d4, b4, a3] at hq
        show X.1 q = none
        rw [hX.2.2.2.2.1 q (by omega) (by omega) (by omega) (by omega), d2 q (by omega), c2 q (by omega)]
        exact b5 q (by rw [b4, a3]; omega)
      · show X.2.2.1 = _
        rw [hX.2.2.2.2.2, d4, b6, a5]
      · show X.2.2.2 = _
        rw [hX.2.2.2.2.2, d4, b7, a6]; rfl
