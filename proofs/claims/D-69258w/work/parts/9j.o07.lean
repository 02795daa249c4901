/-! building: the gate's relation -/
section
variable {own : Nat → Nat} {s U : CS} {tu t T : TS} {L : PLn} {nl nr : Nat} {st ln : Nat → Nat} {lab : Int → Int → Int} {nm : Nat → Int32} {nd : Nat → Nat} {GA : Nat → Nat} {n0 : Nat}
theorem rm_bel {F : FT t L nl nr st ln lab nm} (q : Nat) : bel (rmP (Int32.ofNat (spn L nl st ln nr)) (gLL (gS L nl) lab q)) (spn L nl st ln nr + 1) := by
  unfold rmP
  rcases LL_lt F q with h | ⟨n, h, hn⟩
  · rw [if_pos h]; exact ⟨_, by omega, rfl⟩
  · rw [if_neg (by omega), h, i_ofI]; exact ⟨n, by omega, rfl⟩
/-- rows of a portal after the building -/
theorem por_T (F : FT t L nl nr st ln lab nm) (hd : drR t L nl nd) (h9 : t.1 9 = Int32.ofNat (spn L nl st ln nr)) (r : PorS t T L nl lab (gapA t L nl lab nd nl)) {j : Nat} (hj : j < (gapA t L nl lab nd nl).length) : ∃ l d p u, (gapA t L nl lab nd nl).getD j (0, 0, 0) = (l, d, p) ∧ l < nl ∧ kL L nl p = l ∧ p < nP L nl ∧ u = max (dA t l d) (kAn L nl p) ∧ u < kB L nl p ∧ u ≤ 24 ∧ T.2.2.1 7 j = rmP (Int32.ofNat (spn L nl st ln nr)) (gLL (gS L nl) lab (2 * p)) ∧ T.2.2.1 8 j = rmP (Int32.ofNat (spn L nl st ln nr)) (gLL (gS L nl) lab (2 * p + 1)) ∧ T.2.2.1 9 j = Int32.ofNat l ∧ T.2.2.1 10 j = Int32.ofNat d ∧ T.2.2.1 11 j = Int32.ofNat u ∧ T.2.2.1 15 j = 1000000 ∧ flB T j = (if pFl L l = true then 1 else 0) ∧ cxP T j = Int32.ofNat (pX L l) + (if pFl L l = true then Int32.ofNat u else 0) ∧ cyP T j = Int32.ofNat (pY L l) + (if pFl L l = true then 0 else Int32.ofNat u) ∧ gLL (gS L nl) lab (2 * p) ≠ gLL (gS L nl) lab (2 * p + 1) := by
  have n20 := F.1.1
  obtain ⟨a, r1, r2⟩ := r
  have hm : (gapA t L nl lab nd nl).getD j (0, 0, 0) ∈ gapA t L nl lab nd nl := by
    rw [List.getD_eq_getElem?_getD, List.getElem?_eq_getElem hj]
    exact List.getElem_mem hj
  obtain ⟨m1, m2, m3, m4, m5, m6⟩ := gapA_m hm
  obtain ⟨x1, x2, x3, x4, x5, x6⟩ := r2 j hj
  rw [h9] at x1 x2
  generalize (gapA t L nl lab nd nl).getD j (0, 0, 0) = g at *
  obtain ⟨l, d, p⟩ := g
  dsimp only at *
  obtain ⟨ps, tg⟩ := F.2.2.2.2.1
  obtain ⟨d1, d2, _⟩ := hd l m1
  have f52 : T.2.2.1 52 l = (if pFl L l = true then 1 else 0) := by rw [a.2.2.1 52 (by simp)]; exact tg.1.1 l m1
  have b9 : bN (T.2.2.1 9 j) = l := by rw [x3]; exact bN_of (by omega)
  have fl : flB T j = (if pFl L l = true then 1 else 0) := by unfold flB; rw [b9]; exact f52
  have kb := (k_in m3).2.2.1
  rw [m4] at kb
  have hN : pN L l ≤ 24 := by
    obtain ⟨_, c1, c2⟩ := F.1.2.1 l m1
    unfold pHX at c1
    unfold pHY at c2
    by_cases z : pFl L l = true
    · rw [if_pos z] at c1; omega
    · rw [if_neg z] at c2; omega
  refine ⟨l, d, p, _, rfl, m1, m4, m3, rfl, by omega, by omega, x1, x2, x3, x4, x5, x6, fl, ?_, ?_, m6⟩
  · unfold cxP
    rw [fl, b9, a.2.2.1 50 (by simp), d1, x5]
    by_cases z : pFl L l = true
    · rw [if_pos z, if_pos z, if_neg n10]
    · rw [if_neg z, if_neg z, if_pos rfl]
  · unfold cyP
    rw [fl, b9, a.2.2.1 51 (by simp), d2, x5]
    by_cases z : pFl L l = true
    · rw [if_pos z, if_pos z, if_neg n10]
    · rw [if_neg z, if_neg z, if_pos rfl]
theorem por_ok (F : FT t L nl nr st ln lab nm) (hd : drR t L nl nd) (h9 : t.1 9 = Int32.ofNat (spn L nl st ln nr)) (r : PorS t T L nl lab (gapA t L nl lab nd nl)) {j : Nat} (hj : j < (gapA t L nl lab nd nl).length) : okPor T j := by
  have hle := FT_le F
  have n20 := F.1.1
  obtain ⟨l, d, p, u, eg, h1, h2, h3, h4, h5, h5', x7, x8, x9, x10, x11, x15, fl, cx, cy, ne⟩ := por_T F hd h9 r hj
  have e9 : T.1 9 = Int32.ofNat (spn L nl st ln nr) := by rw [r.1.1 9 (by simp)]; exact h9
  have b9 : bN (T.1 9) = spn L nl st ln nr := by rw [e9]; exact bN_of (by omega)
  have re := rm_eq F h9 (2 * p) (2 * p + 1)
  rw [h9] at re
  have n78 : T.2.2.1 7 j ≠ T.2.2.1 8 j := by rw [x7, x8]; exact fun w => ne (re.mp w)
  have ku : kAn L nl p ≤ u := by rw [h4]; exact Nat.le_max_right _ _
  obtain ⟨la, lb⟩ := por_lab F h3 ku h5
  rw [h2] at la lb
  have no : ∀ {G : Int}, rmP (Int32.ofNat (spn L nl st ln nr)) G ≠ T.1 9 → G ≠ -1 := fun h w => h (by rw [w, e9]; exact if_pos rfl)
  unfold okPor
  rw [b9]
  refine ⟨by rw [x7]; exact rm_bel (F := F) _, by rw [x8]; exact rm_bel (F := F) _, n78, by rw [x9]; exact ⟨l, by omega, rfl⟩, ?_, fun ro hr hro => ?_⟩
  · rw [fl]
    by_cases z : pFl L l = true
    · rw [if_pos z]; exact Or.inr rfl
    · rw [if_neg z]; exact Or.inl rfl
  · unfold inC xIn yIn
    rw [fl, cx, cy]
    rcases (show pFl L l = true ∨ pFl L l = false by cases pFl L l <;> simp) with z | z
    · obtain ⟨l1, l2⟩ := la z
      have e10 : ¬ ((1 : Int32) = 0 ∧ ro = T.2.2.1 7 j) := fun w => n10 w.1
      rw [if_pos z, if_pos z, if_pos z, if_neg e10, i_add]
      rcases hr with rfl | rfl
      · rw [x7] at hro
        have := lab_in F (by rw [← l1]; exact no hro)
        rw [if_neg (show ¬ ((1 : Int32) ≠ 0 ∧ T.2.2.1 7 j = T.2.2.1 8 j) from fun w => n78 w.2)]
        exact ⟨⟨_, by omega, rfl⟩, ⟨pY L l, by omega, Int32.add_zero _⟩⟩
      · rw [x8] at hro
        have := lab_in F (by rw [← l2]; exact no hro)
        rw [if_pos (show (1 : Int32) ≠ 0 ∧ T.2.2.1 8 j = T.2.2.1 8 j from ⟨n10, rfl⟩)]
        refine ⟨⟨_, by omega, rfl⟩, ⟨pY L l - 1, by omega, ?_⟩⟩
        rw [Int32.add_zero, i_subL (show 1 ≤ pY L l by omega)]
    · have z' : ¬ pFl L l = true := by rw [z]; decide
      obtain ⟨l1, l2⟩ := lb z
      rw [if_neg z', if_neg z', if_neg z', i_add]
      have e00 : ¬ ((0 : Int32) ≠ 0 ∧ ro = T.2.2.1 8 j) := fun w => w.1 rfl
      rw [if_neg e00]
      rcases hr with rfl | rfl
      · rw [x7] at hro
        have := lab_in F (by rw [← l1]; exact no hro)
        rw [if_pos (show (0 : Int32) = 0 ∧ T.2.2.1 7 j = T.2.2.1 7 j from ⟨rfl, rfl⟩)]
        refine ⟨⟨pX L l - 1, by omega, ?_⟩, ⟨_, by omega, rfl⟩⟩
        rw [Int32.add_zero, i_subL (show 1 ≤ pX L l by omega)]
      · rw [x8] at hro
        have := lab_in F (by rw [← l2]; exact no hro)
        rw [if_neg (show ¬ ((0 : Int32) = 0 ∧ T.2.2.1 8 j = T.2.2.1 7 j) from fun w => n78 w.2.symm)]
        exact ⟨⟨pX L l, by omega, Int32.add_zero _⟩, ⟨_, by omega, rfl⟩⟩
end
