/-! building: the doors between cells -/
section
variable {s S : CS} {t : TS} {L : PLn} {nl : Nat} {LC LD : Nat → Nat} {DC : Nat → Nat → Nat} {nd : Nat → Nat} {d x y A : Nat} {xs : List Nat}
/-- doors end within their lines -/
def drN (t : TS) (L : PLn) (nl : Nat) (nd : Nat → Nat) : Prop := ∀ l i, l < nl → i < nd l → ∃ a b : Nat, t.2.2.1 55 (6 * l + i) = Int32.ofNat a ∧ t.2.2.1 56 (6 * l + i) = Int32.ofNat b ∧ a < 100 ∧ b ≤ pN L l
/-- the doors of the first lines -/
noncomputable def dsA (t : TS) (L : PLn) (d x y n : Nat) : List Nat := by classical exact ((List.range n).flatMap (fun l => if cvP L d x y l then dsL t l (Int32.ofNat x) (Int32.ofNat y) else []))
theorem dsA_s {n : Nat} : by classical exact (dsA t L d x y (n + 1) = dsA t L d x y n ++ (if cvP L d x y n then dsL t n (Int32.ofNat x) (Int32.ofNat y) else [])) := by
  classical
  unfold dsA
  rw [List.range_succ, List.flatMap_append]
  simp
theorem dsA_one (r : rwP t L nl nd) {l : Nat} (h : cvP L d x y l) (hl : l < nl) : dsA t L d x y nl = dsL t l (Int32.ofNat x) (Int32.ofNat y) := by
  classical
  have key : ∀ n, n ≤ nl → dsA t L d x y n = if l < n then dsL t l (Int32.ofNat x) (Int32.ofNat y) else [] := by
    intro n
    induction n with
    | zero => intro _; rw [if_neg (Nat.not_lt_zero _)]; rfl
    | succ n ih =>
      intro hn
      rw [dsA_s, ih (by omega)]
      by_cases z : n = l
      · rw [if_neg (by omega), if_pos (by rw [z]; exact h), if_pos (by omega), z]; rfl
      · rw [if_neg (fun w => z (cv_uniq r (by omega) hl w h)), List.append_nil]
        by_cases y : l < n
        · rw [if_pos y, if_pos (by omega)]
        · rw [if_neg y, if_neg (by omega)]
  rw [key nl (Nat.le_refl _), if_pos hl]
def DaS (s S : CS) (A : Nat) (xs : List Nat) : Prop := wfS S ∧ (∃ mc : Int32, S.1 A = some (true, false, 1013, .int mc :: xs.map (fun q => .int (Int32.ofNat q)))) ∧ (∀ q, q ≠ A → S.1 q = s.1 q) ∧ S.2.1 = s.2.1 ∧ S.2.2.1 = s.2.2.1 + 2 * xs.length ∧ S.2.2.2 = s.2.2.2 + 17 * xs.length
theorem da_add (r : DaS s S A xs) (hx : xs.length < 1000) (q : Nat) : ∃ S', Option.bind (some (chg S 1 1)) (fun s19 => (if isK s19 [13] A = true then Option.bind (alAdd s19 A (.int (Int32.ofNat q))) (fun s20 => some s20) else none)) = some S' ∧ DaS s S' A (xs ++ [q]) := by
  obtain ⟨r1, ⟨mc, r2⟩, r3, r4, r5, r6⟩ := r
  have r2' : (chg S 1 1).1 A = _ := r2
  rw [Option.bind_some, if_pos (isK_t r2' rfl), alAdd_l r2' (by rw [List.length_map]; omega) elO_i, Option.bind_some]
  have lA := wf_lt r1 r2
  refine ⟨_, rfl, wf_cup (wf_chg r1) lA, ⟨mc + 1, ?_⟩, fun p hp => ?_, r4, ?_, ?_⟩
  · rw [cput_eq, List.map_append]; rfl
  · rw [cput_ne hp]; exact r3 p hp
  · rw [List.length_append]
    show S.2.2.1 + 1 + 1 = _
    simp only [List.length_singleton]
    omega
  · rw [List.length_append]
    show S.2.2.2 + 1 + 16 = _
    simp only [List.length_singleton]
    omega
theorem c_drAt (hw : wfS s) (r : rwP t L nl nd) (dN : drN t L nl nd) {f : List Value} {ml : Int32} (g : s.1 102 = some (true, false, 67, .ref 103 :: f)) (g3 : s.1 103 = some (true, false, 1013, .int ml :: rowC (fun l => .ref (LC l)) nl)) (H : DrH s t L nl LC LD DC nd) (hA : ∀ q c, s.1 q = some c → c.2.2.1 ≠ 1013 ∨ q = 103 ∨ (∃ l, l < nl ∧ q = LD l) → q ≠ A) {mc : Int32} (h0 : s.1 A = some (true, false, 1013, [.int mc])) (hd : d < 4) (hx : x < 24) (hy : y < 24) : ∃ S, c_921 102 (if d = 1 then Int32.ofNat x - 1 else Int32.ofNat x) (if d = 3 then Int32.ofNat y - 1 else Int32.ofNat y) (if d < 2 then 0 else 1) A s = some S ∧ DaS (chg s 1 4) S A (dsA t L d x y nl) := by
  classical
  have n20 := r.1.1
  have k1 : ∀ {V : CS} {xs}, DaS (chg s 1 4) V A xs → ∀ {q c}, s.1 q = some c → c.2.2.1 ≠ 1013 ∨ q = 103 ∨ (∃ l, l < nl ∧ q = LD l) → V.1 q = some c := fun h => fun e z => by rw [h.2.2.1 _ (hA _ _ e z)]; exact e
  unfold c_921
  rw [xN_o (b := 103) g rfl rfl, Option.bind_some, if_pos (isK_t g3 rfl), alMc_l g3, Option.bind_some]
  dsimp only
  have dlen : ∀ n, n ≤ nl → (dsA t L d x y n).length ≤ 6 * n := by
    intro n
    induction n with
    | zero => intro _; exact Nat.le_refl _
    | succ n ih =>
      intro hn
      rw [dsA_s, List.length_append]
      have h1 := ih (by omega)
      have h2 : (dsL t n (Int32.ofNat x) (Int32.ofNat y)).length ≤ 6 := by
        unfold dsL
        rw [List.length_map]
        refine Nat.le_trans (List.length_filter_le _ _) ?_
        rw [List.length_range, (r.2 n (by omega)).2, bN_of (by have := (H n (by omega)).2.1; omega)]
        exact (H n (by omega)).2.1
      split
      · omega
      · show _ + 0 ≤ _; omega
  have key : ∀ X : Option CS, Tr X (fun S => DaS (chg s 1 4) S A (dsA t L d x y nl)) → ∃ S, Option.bind X (fun v82 => some v82) = some S ∧ DaS (chg s 1 4) S A (dsA t L d x y nl) := by
    rintro X ⟨S, rfl, h⟩
    exact ⟨S, rfl, h⟩
  refine key _ ?_
  refine wh_cnt nl (fun n (a : CS × Int32) => a.2 = Int32.ofNat n ∧ DaS (chg s 1 4) a.1 A (dsA t L d x y n)) ?_ ?_ ⟨rfl, wf_chg hw, ⟨mc, h0⟩, fun _ _ => rfl, rfl, rfl, rfl⟩
  · rintro n ⟨U, _⟩ hn ⟨rfl, hU⟩
    right
    dsimp only at hU ⊢
    obtain ⟨h1, h2, ⟨m, h3⟩, h4⟩ := H n hn
    have u3 := k1 hU g3 (Or.inr (Or.inl rfl))
    have lC := k1 hU h1 (Or.inl (by show ¬ (59 : Nat) = 1013; decide))
    have lD := k1 hU h3 (Or.inr (Or.inr ⟨n, hn, rfl⟩))
    have sm : smL L n := ⟨(r.1.2.1 n hn).1, (r.1.2.1 n hn).2.1, (r.1.2.1 n hn).2.2⟩
    have smb := smL_b sm
    have sm2 := sm.2
    obtain ⟨⟨_, t50, t51, t52, t53⟩, t54⟩ := r.2 n hn
    rw [alHas_r u3 (by omega) (by omega), if_neg (by omega), Option.bind_some, if_neg (by decide), alNext_r u3 hn (by omega), Option.bind_some, toN_o lC rfl, Option.bind_some, xI_o (x := if pFl L n = true then 1 else 0) lC rfl rfl, Option.bind_some]
    rw [xI_o (x := Int32.ofNat (pX L n)) lC rfl rfl, xI_o (x := Int32.ofNat (pY L n)) lC rfl rfl]
    have am : ∃ v, (if (if pFl L n = true then (1 : Int32) else 0) = (if d < 2 then 0 else 1) then (if (if d < 2 then (0 : Int32) else 1) = 0 then Option.bind (some (Int32.ofNat (pX L n))) (fun x7 => (if x7 = ((if d = 1 then Int32.ofNat x - 1 else Int32.ofNat x) + 1) then some 1 else some 0)) else Option.bind (some (Int32.ofNat (pY L n))) (fun x8 => (if x8 = ((if d = 3 then Int32.ofNat y - 1 else Int32.ofNat y) + 1) then some 1 else some 0))) else some (0 : Int32)) = some v ∧ ((v = 0 ∧ ¬ cvP L d x y n) ∨ (v = 1 ∧ (if d < 2 then pFl L n = false ∧ pX L n = (if d = 0 then x + 1 else x) else pFl L n = true ∧ pY L n = (if d = 2 then y + 1 else y)))) := by
      simp only [Option.bind_some]
      unfold cvP
      by_cases z : d < 2
      · rw [if_pos z, if_pos z, if_pos z, if_pos rfl]
        have c1 : Int32.ofNat (pX L n) = ((if d = 1 then Int32.ofNat x - 1 else Int32.ofNat x) + 1) ↔ pX L n = (if d = 0 then x + 1 else x) := by
          by_cases w : d = 1
          · rw [if_pos w, if_neg (by omega), Int32.sub_add_cancel]; exact i_inj (by omega) (by omega)
          · rw [if_neg w, if_pos (by omega), i_suc]; exact i_inj (by omega) (by omega)
        by_cases a : pFl L n = true
        · rw [if_pos a, if_neg n10]
          exact ⟨_, rfl, Or.inl ⟨rfl, fun h => by rw [a] at h; cases h.1⟩⟩
        · have a' : pFl L n = false := by cases h : pFl L n; rfl; exact absurd h a
          rw [if_neg a, if_pos rfl]
          by_cases b : pX L n = (if d = 0 then x + 1 else x)
          · rw [if_pos (c1.mpr b)]
            exact ⟨_, rfl, Or.inr ⟨rfl, a', b⟩⟩
          · rw [if_neg (fun w => b (c1.mp w))]
            exact ⟨_, rfl, Or.inl ⟨rfl, fun h => b h.2.1⟩⟩
      · rw [if_neg z, if_neg z, if_neg z, if_neg n10]
        have c1 : Int32.ofNat (pY L n) = ((if d = 3 then Int32.ofNat y - 1 else Int32.ofNat y) + 1) ↔ pY L n = (if d = 2 then y + 1 else y) := by
          by_cases w : d = 3
          · rw [if_pos w, if_neg (by omega), Int32.sub_add_cancel]; exact i_inj (by omega) (by omega)
          · rw [if_neg w, if_pos (by omega), i_suc]; exact i_inj (by omega) (by omega)
        by_cases a : pFl L n = true
        · rw [if_pos a, if_pos rfl]
          by_cases b : pY L n = (if d = 2 then y + 1 else y)
          · rw [if_pos (c1.mpr b)]
            exact ⟨_, rfl, Or.inr ⟨rfl, a, b⟩⟩
          · rw [if_neg (fun w => b (c1.mp w))]
            exact ⟨_, rfl, Or.inl ⟨rfl, fun h => b h.2.1⟩⟩
        · rw [if_neg a, if_neg (show ¬ (0 : Int32) = 1 by decide)]
          exact ⟨_, rfl, Or.inl ⟨rfl, fun h => a h.1⟩⟩
    obtain ⟨v, e1, e2⟩ := am
    rw [e1, Option.bind_some]
    obtain ⟨V, hV⟩ : ∃ V, (if (if d < 2 then (0 : Int32) else 1) = 0 then Option.bind (some (Int32.ofNat (pY L n))) (fun x9 => some ((if d = 3 then Int32.ofNat y - 1 else Int32.ofNat y) - x9)) else Option.bind (some (Int32.ofNat (pX L n))) (fun x10 => some ((if d = 1 then Int32.ofNat x - 1 else Int32.ofNat x) - x10))) = some V ∧ V = (if d < 2 then (if d = 3 then Int32.ofNat y - 1 else Int32.ofNat y) - Int32.ofNat (pY L n) else (if d = 1 then Int32.ofNat x - 1 else Int32.ofNat x) - Int32.ofNat (pX L n)) := by
      simp only [Option.bind_some]
      by_cases z : d < 2
      · rw [if_pos z, if_pos z, if_pos rfl]; exact ⟨_, rfl, rfl⟩
      · rw [if_neg z, if_neg z, if_neg n10]; exact ⟨_, rfl, rfl⟩
    rw [hV.1, Option.bind_some]
    have key2 : ∀ X : Option CS, Tr X (fun S' => DaS (chg s 1 4) S' A (dsA t L d x y (n + 1))) → ∃ a', Option.bind X (fun v81 => (some (.inl (v81, Int32.ofNat n + 1)) : Option (Sum (CS × Int32) CS))) = some (.inl a') ∧ a'.2 = Int32.ofNat (n + 1) ∧ DaS (chg s 1 4) a'.1 A (dsA t L d x y (n + 1)) := by
      rintro X ⟨S', rfl, h⟩
      exact ⟨_, rfl, i_suc n, h⟩
    refine key2 _ ?_
    rcases e2 with ⟨rfl, nc⟩ | ⟨rfl, ax⟩
    · refine wh_cnt 0 (fun _ (a : CS × Int32) => a = (U, 0)) (fun k a hk => absurd hk (Nat.not_lt_zero _)) ?_ rfl
      rintro a rfl
      dsimp only
      have done : DaS (chg s 1 4) U A (dsA t L d x y (n + 1)) := by
        rw [dsA_s, if_neg nc, List.append_nil]
        exact hU
      rw [xN_o (b := LD n) lC rfl rfl, Option.bind_some, if_pos (isK_t lD rfl), alSize_r lD, Option.bind_some]
      by_cases z : (0 : Int32) < Int32.ofNat (nd n)
      · rw [if_pos z, if_pos rfl]; exact ⟨_, rfl, done⟩
      · rw [if_neg z]; exact ⟨_, rfl, done⟩
    · have eV : V = (if t.2.2.1 52 n = 0 then Int32.ofNat y - t.2.2.1 51 n else Int32.ofNat x - t.2.2.1 50 n) := by
        rw [hV.2, t52, t51, t50]
        by_cases z : d < 2
        · rw [if_pos z] at ax ⊢
          rw [ax.1, if_neg (by omega), show (if false = true then (1 : Int32) else 0) = 0 from rfl, if_pos rfl]
        · rw [if_neg z] at ax ⊢
          rw [ax.1, if_neg (by omega), show (if true = true then (1 : Int32) else 0) = 1 from rfl, if_neg n10]
      have isd : ∀ k, isT t n k (Int32.ofNat x) (Int32.ofNat y) ↔ ¬ V < t.2.2.1 55 (6 * n + k) ∧ V < t.2.2.1 56 (6 * n + k) := fun k => by
        unfold isT
        rw [← eV]
      have nocv : ¬ cvP L d x y n → ∀ k, k < nd n → ¬ isT t n k (Int32.ofNat x) (Int32.ofNat y) := by
        intro nc k hk
        obtain ⟨a, b, o1, o2, o3, o4⟩ := dN n k hn hk
        rw [isd, o1, o2, hV.2]
        rintro ⟨q1, q2⟩
        unfold cvP at nc
        by_cases z : d < 2
        · rw [if_pos z] at nc ax q1 q2
          have hH : pHY L n = pY L n + pN L n := by unfold pHY; rw [ax.1, if_neg (by decide)]
          rw [if_neg (by omega), ← i_ofI, ← i_ofI, ← i_ofI, i_subI] at q1 q2
          by_cases w : y < pY L n
          · exact q1 ((ofI_lt (by omega) (by omega) (by omega) (by omega)).mpr (by omega))
          · have := (ofI_lt (by omega) (by omega) (by omega) (by omega)).mp q2
            exact nc ⟨ax.1, ax.2, by omega, by omega⟩
        · rw [if_neg z] at nc ax q1 q2
          have hH : pHX L n = pX L n + pN L n := by unfold pHX; rw [ax.1, if_pos rfl]
          rw [if_neg (by omega), ← i_ofI, ← i_ofI, ← i_ofI, i_subI] at q1 q2
          by_cases w : x < pX L n
          · exact q1 ((ofI_lt (by omega) (by omega) (by omega) (by omega)).mpr (by omega))
          · have := (ofI_lt (by omega) (by omega) (by omega) (by omega)).mp q2
            exact nc ⟨ax.1, ax.2, by omega, by omega⟩
      have fin : ((List.range (nd n)).filter (fun k => decide (isT t n k (Int32.ofNat x) (Int32.ofNat y)))).map (fun k => 6 * n + k) = (if cvP L d x y n then dsL t n (Int32.ofNat x) (Int32.ofNat y) else []) := by
        by_cases z : cvP L d x y n
        · rw [if_pos z]
          unfold dsL
          rw [t54, bN_of (by omega)]
        · rw [if_neg z, List.filter_eq_nil_iff.mpr (fun k hk w => nocv z k (List.mem_range.mp hk) (of_decide_eq_true w))]
          rfl
      have dl := dlen n (by omega)
      refine wh_cnt (nd n) (fun k (a : CS × Int32) => a.2 = Int32.ofNat k ∧ DaS (chg s 1 4) a.1 A (dsA t L d x y n ++ ((List.range k).filter (fun k => decide (isT t n k (Int32.ofNat x) (Int32.ofNat y)))).map (fun k => 6 * n + k))) ?_ ?_ ⟨rfl, ?_⟩
      · rintro k ⟨W, _⟩ hk ⟨rfl, hW⟩
        right
        dsimp only at hW ⊢
        obtain ⟨da, db, dr, o1, o2, o3, _⟩ := h4 k hk
        have wC := k1 hW h1 (Or.inl (by show ¬ (59 : Nat) = 1013; decide))
        have wD := k1 hW h3 (Or.inr (Or.inr ⟨n, hn, rfl⟩))
        have wd := k1 hW o1 (Or.inl (by show ¬ (60 : Nat) = 1013; decide))
        have ll : (dsA t L d x y n ++ ((List.range k).filter (fun k => decide (isT t n k (Int32.ofNat x) (Int32.ofNat y)))).map (fun k => 6 * n + k)).length < 1000 := by
          rw [List.length_append, List.length_map]
          have := List.length_filter_le (fun k => decide (isT t n k (Int32.ofNat x) (Int32.ofNat y))) (List.range k)
          rw [List.length_range] at this
          omega
        have i3 := isd k
        rw [o2, o3] at i3
        rw [xN_o (b := LD n) wC rfl rfl, Option.bind_some, if_pos (isK_t wD rfl), alSize_r wD, Option.bind_some, if_pos ((i_lt (by omega) (by omega)).mpr hk), if_neg n10, Option.bind_some, if_pos (isK_t wD rfl), alGet_r wD hk (by omega), Option.bind_some, toN_o wd rfl, Option.bind_some, xI_o (x := Int32.ofNat da) wd rfl rfl, Option.bind_some, xI_o (x := Int32.ofNat db) wd rfl rfl, xI_o (x := Int32.ofNat n) wC rfl rfl]
        by_cases a : isT t n k (Int32.ofNat x) (Int32.ofNat y)
        · obtain ⟨b1, b2⟩ := i3.mp a
          obtain ⟨S', c1, c2⟩ := da_add hW ll (6 * n + k)
          rw [if_neg b1, Option.bind_some, if_pos b2, Option.bind_some, i_mulL, i_add, c1, Option.bind_some, i_suc]
          refine ⟨_, rfl, rfl, ?_⟩
          have ep : ([k] : List Nat).filter (fun k => decide (isT t n k (Int32.ofNat x) (Int32.ofNat y))) = [k] := List.filter_cons_of_pos (p := fun k => decide (isT t n k (Int32.ofNat x) (Int32.ofNat y))) (decide_eq_true a)
          rw [List.range_succ, List.filter_append, List.map_append, ← List.append_assoc, ep]
          exact c2
        · have nn : (if V < Int32.ofNat da then some W else Option.bind (some (Int32.ofNat db)) (fun x17 => (if V < x17 then Option.bind (some (Int32.ofNat n)) (fun x18 => Option.bind (some (chg W 1 1)) (fun s19 => (if isK s19 [13] A = true then Option.bind (alAdd s19 A (.int ((6 * x18) + Int32.ofNat k))) (fun s20 => some s20) else none))) else some W))) = some W := by
            by_cases b1 : V < Int32.ofNat da
            · rw [if_pos b1]
            · rw [if_neg b1, Option.bind_some, if_neg (fun b2 => a (i3.mpr ⟨b1, b2⟩))]
          rw [nn, Option.bind_some, i_suc]
          refine ⟨_, rfl, rfl, ?_⟩
          have ep : ([k] : List Nat).filter (fun k => decide (isT t n k (Int32.ofNat x) (Int32.ofNat y))) = [] := List.filter_cons_of_neg (p := fun k => decide (isT t n k (Int32.ofNat x) (Int32.ofNat y))) (fun w => a (of_decide_eq_true w))
          rw [List.range_succ, List.filter_append, List.map_append, ep]
          show DaS (chg s 1 4) W A (_ ++ (_ ++ []))
          rw [List.append_nil]
          exact hW
      · rintro ⟨W, _⟩ ⟨rfl, hW⟩
        dsimp only at hW ⊢
        have wC := k1 hW h1 (Or.inl (by show ¬ (59 : Nat) = 1013; decide))
        have wD := k1 hW h3 (Or.inr (Or.inr ⟨n, hn, rfl⟩))
        rw [xN_o (b := LD n) wC rfl rfl, Option.bind_some, if_pos (isK_t wD rfl), alSize_r wD, Option.bind_some, if_neg (fun z => by have := (i_lt (by omega) (by omega)).mp z; omega)]
        refine ⟨_, rfl, ?_⟩
        rw [dsA_s, ← fin]
        exact hW
      · show DaS (chg s 1 4) U A (_ ++ [])
        rw [List.append_nil]
        exact hU
  · rintro ⟨U, _⟩ ⟨rfl, hU⟩
    dsimp only at hU ⊢
    have u3 := k1 hU g3 (Or.inr (Or.inl rfl))
    rw [alHas_r u3 (by omega) (by omega), if_pos rfl, Option.bind_some, if_pos rfl]
    exact ⟨_, rfl, hU⟩
end
