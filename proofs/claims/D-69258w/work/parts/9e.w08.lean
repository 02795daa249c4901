/-! the warden: what is told -/
/-- whether a number is one of those that are told -/
def tol (t : TS) (c : Nat) (v : Int32) : Bool := inB v 20 && decide (t.2.2.1 c (bN v) = 1)
theorem tol_nat {t : TS} {c : Nat} {v : Int32} (h : tol t c v = true) : ∃ z, z < 20 ∧ v = Int32.ofNat z ∧ t.2.2.1 c z = 1 := by
  unfold tol at h
  rw [Bool.and_eq_true, decide_eq_true_eq] at h
  obtain ⟨z, hz, rfl⟩ := inB_nat 20 (by omega) h.1
  have : bN (Int32.ofNat z) = z := i_clamp (by omega)
  rw [this] at h
  exact ⟨z, hz, rfl, h.2⟩
theorem tol_get {s : CS} {t : TS} {a c : Nat} {mc : Int32} {es : List (Value × Value)} {Z : Nat → Nat} (h : s.1 a = some (true, false, 1042, .int mc :: fl es)) (hm : Mp rkI es (fun z => if 0 ≤ z ∧ z < (20 : Nat) ∧ t.2.2.1 c z.toNat = 1 then some (.ref (Z z.toNat)) else none)) (hi : ∀ x ∈ es.map Prod.fst, ∃ i, x = .int i) (v : Int32) : tmGet s a (.int v) = some (if tol t c v = true then .ref (Z (bN v)) else .null) := by
  rw [mp_get (P := fun z => t.2.2.1 c z = 1) (f := fun z => .ref (Z z)) h hm hi]
  congr 1
  have hv : v.toNatClampNeg = v.toInt.toNat := rfl
  have e : (0 ≤ v.toInt ∧ v.toInt < ((20 : Nat) : Int) ∧ t.2.2.1 c v.toNatClampNeg = 1) ↔ tol t c v = true := by
    unfold tol
    rw [Bool.and_eq_true, decide_eq_true_eq]
    unfold inB
    rw [decide_eq_true_eq, Int32.lt_iff_toInt_lt, Int32.lt_iff_toInt_lt]
    show _ ↔ (¬ v.toInt < 0 ∧ v.toInt < 20) ∧ t.2.2.1 c v.toNatClampNeg = 1
    constructor
    · rintro ⟨a, b, c⟩; exact ⟨⟨by omega, by omega⟩, c⟩
    · rintro ⟨⟨a, b⟩, c⟩; exact ⟨by omega, by omega, c⟩
  by_cases y : tol t c v = true
  · rw [if_pos y, if_pos (e.mpr y)]; rfl
  · rw [if_neg y, if_neg (fun z => y (e.mp z))]
theorem t_tol {t : TS} {c : Nat} (v v2 n : Int32) (h : ∀ z, z < 20 → v01 (t.2.2.1 c z)) : Option.bind (t_560 v 20 t) (fun x1 => (if x1 = 0 then some 0 else Option.bind (rdI t c 40 v) (fun x2 => (if x2 = 0 then some 0 else Option.bind (t_560 v2 n t) (fun x3 => (if x3 = 0 then some (0 : Int32) else some 1)))))) = some (if (tol t c v && inB v2 n) = true then 1 else 0) := by
  rw [isInB, Option.bind_some, isInB]
  unfold tol
  cases hr : inB v 20 with
  | false => simp
  | true =>
    obtain ⟨z, hz, rfl⟩ := inB_nat 20 (by omega) hr
    have : bN (Int32.ofNat z) = z := i_clamp (by omega)
    rw [this, rdI_n (by omega) (by omega)]
    rcases h z hz with y | y
    · rw [y]; simp
    · rw [y]; cases inB v2 n <;> simp
theorem toR_o {s : CS} {a ci : Nat} {w : Bool} {fs : List Value} {tab : List Nat} (h : s.1 a = some (w, false, ci, fs)) (hc : tab.contains (ci % 1000) = true) : toR s tab (.ref a) = some (some a) := by
  show (if isK s tab a = true then some (some a) else none) = _
  rw [if_pos (isK_t h hc)]
theorem bindA {A B C : Type} {o : Option A} {f : A → Option B} {g : B → Option C} {x : B} (h : Option.bind o f = some x) : Option.bind o (fun a => Option.bind (f a) g) = g x := by
  cases o with
  | none => cases h
  | some a => rw [Option.bind_some] at h ⊢; rw [h, Option.bind_some]
section
variable {own : Nat → Nat} {s : CS} {t : TS} {np sz mx zm am rl nr na ec : Nat} {P Z ZP A RW od : Nat → Nat}
theorem c_zone (q : R7x s.1 t np sz mx zm am rl nr na ec P Z ZP A RW od) (v1 v2 : Int32) : c_512 151 v1 v2 s = if (tol t 105 v1 && inB v2 4) = true then some (.inl (if v2 = 0 then (if isOnB t (bN v1) = true then 1 else 0) else if v2 = 1 then (if isSuB t (bN v1) = true then 1 else 0) else if v2 = 2 then t.2.2.1 106 (bN v1) else Int32.ofNat (zOn t (bN v1) (bN (t.2.2.1 107 (bN v1)))), chg s 1 1)) else some (.inr (s.2.1, exs (chg s 1 1) 11)) := by
  have q0 := q.1
  have q3 := q.2.2.2.1
  have hnp := q.2.1.2.2.1
  obtain ⟨w1, _, ⟨mz, ez, w3, w4, w5⟩, _⟩ := q.2.2.2.1
  unfold c_512
  rw [xN_o (b := mx) q0.1 rfl rfl, Option.bind_some, xN_o (b := zm) w1 rfl rfl, Option.bind_some, Option.bind_some, if_pos (isK_t (s := chg s 1 1) w3 rfl), tol_get (s := chg s 1 1) w3 w4 w5, Option.bind_some]
  cases ht : tol t 105 v1 with
  | false =>
    rw [if_neg (by simp)]
    show Option.bind (some none) _ = _
    simp [need_eq, chg]
  | true =>
    obtain ⟨z, hz, rfl, h1⟩ := tol_nat ht
    have hbz : bN (Int32.ofNat z) = z := i_clamp (by omega)
    obtain ⟨n, n1, n2, n3, n4, _⟩ := zon_of hnp q3 hz h1
    rw [if_pos rfl, hbz, toR_o (s := chg s 1 1) n4 rfl, Option.bind_some, if_neg (by simp), show (3 : Int32) = Int32.ofNat 3 from rfl, orLe (by omega), show Int32.ofNat (3 + 1) = 4 from rfl, Option.bind_some, need_eq]
    cases hr2 : inB v2 4 with
    | false => simp [chg]
    | true =>
      have qc : R7x (chg s 1 1).1 t np sz mx zm am rl nr na ec P Z ZP A RW od := q
      have k47 : isK (chg s 1 1) [47] 151 = true := isK_t (s := chg s 1 1) q0.1 rfl
      rw [if_pos rfl, if_neg (by decide), Option.bind_some, Sum.elim_inl]
      simp only [Option.bind_some, k47, if_true, c_isOn qc hz h1, c_isSu qc hz h1, c_onOf qc hz h1, xI_o (s := chg s 1 1) (tab := [(90, 1)]) (x := t.2.2.1 106 z) n4 rfl rfl, Bool.and_self]
      by_cases y0 : v2 = 0
      · simp only [y0, if_true]
        cases isOnB t z <;> simp
      · by_cases y1 : v2 = 1
        · simp only [y0, y1, if_true, if_false]
          cases isSuB t z <;> simp
        · by_cases y2 : v2 = 2
          · simp [y0, y1, y2]
          · simp [y0, y1, y2]
theorem t_zone (q : R7x s.1 t np sz mx zm am rl nr na ec P Z ZP A RW od) (v1 v2 : Int32) : t_630 v1 v2 t = if (tol t 105 v1 && inB v2 4) = true then some (if v2 = 0 then (if isOnB t (bN v1) = true then 1 else 0) else if v2 = 1 then (if isSuB t (bN v1) = true then 1 else 0) else if v2 = 2 then t.2.2.1 106 (bN v1) else Int32.ofNat (zOn t (bN v1) (bN (t.2.2.1 107 (bN v1)))), ptI t 0 0) else some (0, ptI t 0 1) := by
  have q0 := q.1
  have q3 := q.2.2.2.1
  have hnp := q.2.1.2.2.1
  obtain ⟨_, _, _, _, _, _, _, w12, _⟩ := q.2.2.2.1
  unfold t_630
  rw [bindA (t_tol v1 v2 4 (fun z hz => (w12 z hz).1)), goes_eq]
  cases ht : tol t 105 v1 with
  | false => simp [ptI]
  | true =>
    obtain ⟨z, hz, rfl, h1⟩ := tol_nat ht
    have hbz : bN (Int32.ofNat z) = z := i_clamp (by omega)
    cases hr2 : inB v2 4 with
    | false => simp [ptI]
    | true =>
      have hb : ¬ t.1 1 = 0 := fun y => by
        have := ((q0.2.2.2 y).2 z hz).1
        rw [h1] at this; exact absurd this (by decide)
      have q3p : W3 s.1 (ptI t 0 0) np mx zm am rl nr na Z ZP A RW od := q3
      have d1 : t_797 (Int32.ofNat z) (ptI t 0 0) = some (if isOnB t z = true then 1 else 0) := t_isOn hnp q3p hz h1
      have d2 : t_800 (Int32.ofNat z) (ptI t 0 0) = some (if isSuB t z = true then 1 else 0) := t_isSu hnp q3p hz h1
      have d3 : t_798 (Int32.ofNat z) 1 (ptI t 0 0) = some (Int32.ofNat (zOn t z (bN (t.2.2.1 107 z)))) := (t_ofZ hnp q3p hz h1).1
      have d4 : rdI (ptI t 0 0) 106 40 (Int32.ofNat z) = some (t.2.2.1 106 z) := rdI_n (by omega) (by omega)
      simp only [Bool.and_self, if_true, show ¬ (1 : Int32) = 0 by decide, hb, or_self, if_false, Option.bind_some, d1, d2, d3, d4, hbz]
      by_cases y0 : v2 = 0
      · simp only [y0, if_true]
        cases isOnB t z <;> simp
      · by_cases y1 : v2 = 1
        · simp only [y0, y1, if_true, if_false]
          cases isSuB t z <;> simp
        · by_cases y2 : v2 = 2
          · simp [y0, y1, y2]
          · simp [y0, y1, y2]
theorem wa_zone (hw : wfS s) (r : R7 (rs s.1 own 7) t) (v1 v2 : Int32) : Rg thr0 (fun X => X = 7) 7 (fun H t => R7 (H 7) t) own s t 1 1 (c_512 151 v1 v2 s) (t_630 v1 v2 t) := by
  have r00 := r
  obtain ⟨np, sz, mx, zm, am, rl, nr, na, ec, P, Z, ZP, A, RW, od, r⟩ := r
  have q := R7_raw r
  rw [c_zone q, t_zone q]
  by_cases y : (tol t 105 v1 && inB v2 4) = true
  · rw [if_pos y, if_pos y]
    exact Rg.same (a := 1) (b := 1) hw (R7_pt r00) rfl rfl (Nat.le_refl _) (Nat.le_refl _)
  · rw [if_neg y, if_neg y]
    exact Rg.arg (a := 1) (b := 1) hw r00 rfl rfl (Nat.le_refl _) (Nat.le_refl _)
theorem st_of {t : TS} {a : Nat} (h : okAct t a) : (stR (t.2.2.1 117 a) = 33 ↔ t.2.2.1 117 a = 2) ∧ (stR (t.2.2.1 117 a) = 59 ↔ t.2.2.1 117 a = 1) ∧ (stR (t.2.2.1 117 a) = 60 ↔ t.2.2.1 117 a = 0) := by
  obtain ⟨_, _, _, _, ⟨v, h1, h2⟩, _⟩ := h
  rw [h2]
  have : v = 0 ∨ v = 1 ∨ v = 2 := by omega
  rcases this with rfl | rfl | rfl <;> decide
theorem c_act (k7 : K7 s.1) (q : R7x s.1 t np sz mx zm am rl nr na ec P Z ZP A RW od) (v1 v2 : Int32) : c_511 151 v1 v2 s = if (tol t 109 v1 && inB v2 6) = true then some (.inl (if v2 = 0 then t.2.2.1 117 (bN v1) else if v2 = 1 then t.2.2.1 118 (bN v1) else if v2 = 2 then t.2.2.1 110 (bN v1) else if v2 = 3 then t.2.2.1 111 (bN v1) else if v2 = 4 then t.2.2.1 112 (bN v1) else t.2.2.1 113 (bN v1), chg s 1 1)) else some (.inr (s.2.1, exs (chg s 1 1) 11)) := by
  have q0 := q.1
  obtain ⟨w1, _, _, ⟨mz, ez, w3, w4, w5⟩, _⟩ := q.2.2.2.1
  unfold c_511
  rw [xN_o (b := mx) q0.1 rfl rfl, Option.bind_some, xN_o (b := am) w1 rfl rfl, Option.bind_some, Option.bind_some, if_pos (isK_t (s := chg s 1 1) w3 rfl), tol_get (s := chg s 1 1) w3 w4 w5, Option.bind_some]
  cases ht : tol t 109 v1 with
  | false =>
    rw [if_neg (by simp)]
    show Option.bind (some none) _ = _
    simp [need_eq, chg]
  | true =>
    obtain ⟨z, hz, rfl, h1⟩ := tol_nat ht
    have hbz : bN (Int32.ofNat z) = z := i_clamp (by omega)
    obtain ⟨n4, n5, n6⟩ := q.2.2.2.2.1.1 z hz h1
    rw [if_pos rfl, hbz, toR_o (s := chg s 1 1) n4 rfl, Option.bind_some, if_neg (by simp), show (5 : Int32) = Int32.ofNat 5 from rfl, orLe (by omega), show Int32.ofNat (5 + 1) = 6 from rfl, Option.bind_some, need_eq]
    cases hr2 : inB v2 6 with
    | false => simp [chg]
    | true =>
      have e0 : ∀ k : Nat, k < 6 → (v2.toInt = (k : Int) ↔ v2 = Int32.ofNat k) := by
        intro k hk
        rw [← Int32.toInt_inj, i_toInt (by omega)]
      obtain ⟨_, _, _, h113, ⟨st, hst1, hst2⟩, _⟩ := n6
      have hst : Option.bind (xN (chg s 1 1) [(91, 5)] (A z)) (fun a19 => (if isK (chg s 1 1) [132] a19 = true then Option.bind (c_311 a19 (chg s 1 1)) (fun x20 => some (Sum.inl (β := Nat × CS) (x20, chg s 1 1))) else none)) = some (.inl (t.2.2.1 117 z, chg s 1 1)) := by
        rw [xN_o (s := chg s 1 1) (b := stR (t.2.2.1 117 z)) n4 rfl rfl, Option.bind_some, hst2]
        have : st = 0 ∨ st = 1 ∨ st = 2 := by omega
        rcases this with rfl | rfl | rfl
        · rw [show stR (Int32.ofNat 0) = 60 by decide, if_pos (isK_t (s := chg s 1 1) k7.2.2.1 rfl)]
          unfold c_311
          rw [xI_o (s := chg s 1 1) (x := 0) k7.2.2.1 rfl rfl]; rfl
        · rw [show stR (Int32.ofNat 1) = 59 by decide, if_pos (isK_t (s := chg s 1 1) k7.2.1 rfl)]
          unfold c_311
          rw [xI_o (s := chg s 1 1) (x := 1) k7.2.1 rfl rfl]; rfl
        · rw [show stR (Int32.ofNat 2) = 33 by decide, if_pos (isK_t (s := chg s 1 1) k7.1 rfl)]
          unfold c_311
          rw [xI_o (s := chg s 1 1) (x := 2) k7.1 rfl rfl]; rfl
      rw [if_pos rfl, if_neg (by decide), Option.bind_some, Sum.elim_inl]
      simp only [Option.bind_some, hst, xI_o (s := chg s 1 1) (tab := [(91, 6)]) (x := t.2.2.1 118 z) n4 rfl rfl, xI_o (s := chg s 1 1) (tab := [(91, 1)]) (x := t.2.2.1 110 z) n4 rfl rfl, xI_o (s := chg s 1 1) (tab := [(91, 2)]) (x := t.2.2.1 111 z) n4 rfl rfl, xI_o (s := chg s 1 1) (tab := [(91, 3)]) (x := t.2.2.1 112 z) n4 rfl rfl, xI_o (s := chg s 1 1) (tab := [(91, 4)]) (x := t.2.2.1 113 z) n4 rfl rfl, Bool.and_self, if_true]
      have f0 : v2.toInt = 0 ↔ v2 = 0 := e0 0 (by omega)
      have f1 : v2.toInt = 1 ↔ v2 = 1 := e0 1 (by omega)
      have f2 : v2.toInt = 2 ↔ v2 = 2 := e0 2 (by omega)
      have f3 : v2.toInt = 3 ↔ v2 = 3 := e0 3 (by omega)
      have f4 : v2.toInt = 4 ↔ v2 = 4 := e0 4 (by omega)
      have e113 : (if t.2.2.1 113 z = 0 then some (Sum.inl (β := Nat × CS) ((0 : Int32), chg s 1 1)) else some (.inl (1, chg s 1 1))) = some (.inl (t.2.2.1 113 z, chg s 1 1)) := by
        rcases h113 with y | y
        · rw [y]; rfl
        · rw [y]; rfl
      rw [e113]
      simp only [f0, f1, f2, f3, f4]
      by_cases y0 : v2 = 0
      · rw [if_pos y0, if_pos y0]
      · rw [if_neg y0, if_neg y0]
        by_cases y1 : v2 = 1
        · rw [if_pos y1, if_pos y1]
        · rw [if_neg y1, if_neg y1]
          by_cases y2 : v2 = 2
          · rw [if_pos y2, if_pos y2]
          · rw [if_neg y2, if_neg y2]
            by_cases y3 : v2 = 3
            · rw [if_pos y3, if_pos y3]
            · rw [if_neg y3, if_neg y3]
              by_cases y4 : v2 = 4
              · rw [if_pos y4, if_pos y4]
              · rw [if_neg y4, if_neg y4]
theorem t_act (q : R7x s.1 t np sz mx zm am rl nr na ec P Z ZP A RW od) (v1 v2 : Int32) : t_629 v1 v2 t = if (tol t 109 v1 && inB v2 6) = true then some (if v2 = 0 then t.2.2.1 117 (bN v1) else if v2 = 1 then t.2.2.1 118 (bN v1) else if v2 = 2 then t.2.2.1 110 (bN v1) else if v2 = 3 then t.2.2.1 111 (bN v1) else if v2 = 4 then t.2.2.1 112 (bN v1) else t.2.2.1 113 (bN v1), ptI t 0 0) else some (0, ptI t 0 1) := by
  have q0 := q.1
  obtain ⟨_, _, _, _, _, _, _, w12, _⟩ := q.2.2.2.1
  unfold t_629
  rw [bindA (t_tol v1 v2 6 (fun z hz => (w12 z hz).2.1)), goes_eq]
  cases ht : tol t 109 v1 with
  | false => simp [ptI]
  | true =>
    obtain ⟨z, hz, rfl, h1⟩ := tol_nat ht
    have hbz : bN (Int32.ofNat z) = z := i_clamp (by omega)
    cases hr2 : inB v2 6 with
    | false => simp [ptI]
    | true =>
      have hb : ¬ t.1 1 = 0 := fun y => by
        have := ((q0.2.2.2 y).2 z hz).2
        rw [h1] at this; exact absurd this (by decide)
      obtain ⟨_, _, _, h113, _⟩ := (q.2.2.2.2.1.1 z hz h1).2.2
      have d : t_802 (Int32.ofNat z) v2 (ptI t 0 0) = some (if v2 = 0 then t.2.2.1 117 z else if v2 = 1 then t.2.2.1 118 z else if v2 = 2 then t.2.2.1 110 z else if v2 = 3 then t.2.2.1 111 z else if v2 = 4 then t.2.2.1 112 z else t.2.2.1 113 z) := by
        unfold t_802
        simp only [rdI_n (s := ptI t 0 0) (len := 20) hz (by omega), rdI_n (s := ptI t 0 0) (len := 40) (show z < 40 by omega) (by omega), Option.bind_some]
        have e : (if (ptI t 0 0).2.2.1 113 z = 0 then some (0 : Int32) else some 1) = some (t.2.2.1 113 z) := by
          show (if t.2.2.1 113 z = 0 then some (0 : Int32) else some 1) = _
          rcases h113 with y | y
          · rw [y]; rfl
          · rw [y]; rfl
        rw [e]
        simp only [iteS]; rfl
      simp only [Bool.and_self, if_true, show ¬ (1 : Int32) = 0 by decide, hb, or_self, if_false, Option.bind_some, d, hbz]
theorem wa_act (hw : wfS s) (k7 : K7 (rs s.1 own 11)) (r : R7 (rs s.1 own 7) t) (v1 v2 : Int32) : Rg thr0 (fun X => X = 7) 7 (fun H t => R7 (H 7) t) own s t 1 1 (c_511 151 v1 v2 s) (t_629 v1 v2 t) := by
  have r00 := r
  obtain ⟨np, sz, mx, zm, am, rl, nr, na, ec, P, Z, ZP, A, RW, od, r⟩ := r
  have q := R7_raw r
  rw [c_act (k7_of k7) q, t_act q]
  by_cases y : (tol t 109 v1 && inB v2 6) = true
  · rw [if_pos y, if_pos y]
    exact Rg.same (a := 1) (b := 1) hw (R7_pt r00) rfl rfl (Nat.le_refl _) (Nat.le_refl _)
  · rw [if_neg y, if_neg y]
    exact Rg.arg (a := 1) (b := 1) hw r00 rfl rfl (Nat.le_refl _) (Nat.le_refl _)
end
