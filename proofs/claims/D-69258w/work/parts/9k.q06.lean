/-! permits: the lower number of a fraction is never 0 -/
section
variable {s : CS} {t T : TS}
theorem gd_le {u l : Int64} (hl : l ≠ 0) : (gdv u l).toInt.natAbs ≤ l.toInt.natAbs := by
  obtain ⟨g, e, h⟩ := wh_ind (step := fun p4 : Int64 × Int64 => (if (lg_cmp p4.2 0) = 0 then (some (.inr p4.1) : Option (Sum (Int64 × Int64) Int64)) else (if p4.2 = 0 then none else some (.inl (p4.2, p4.1 - p4.1 / p4.2 * p4.2))))) (st := (u, l)) (P := fun p => (p.2 = 0 ∧ p.1.toInt.natAbs ≤ l.toInt.natAbs) ∨ (p.2 ≠ 0 ∧ p.2.toInt.natAbs ≤ l.toInt.natAbs)) (Q := fun g => g.toInt.natAbs ≤ l.toInt.natAbs) (fun p => p.2.toInt.natAbs) (by
    rintro ⟨x, y⟩ h
    dsimp only at h ⊢
    by_cases z : y = 0
    · left
      rw [if_pos ((lc_0 _ _).mpr z)]
      refine ⟨_, rfl, ?_⟩
      rcases h with v | v
      · exact v.2
      · exact absurd z v.1
    · right
      rw [if_neg (fun w => z ((lc_0 _ _).mp w)), if_neg z]
      have hy : y.toInt.natAbs ≤ l.toInt.natAbs := by
        rcases h with v | v
        · exact absurd v.1 z
        · exact v.2
      have lt : (x - x / y * y).toInt.natAbs < y.toInt.natAbs := by
        rw [l_rem z]
        have h0 := l_n0 z
        rcases Int.lt_or_gt_of_ne h0 with v | v
        · have h1 := Int.tmod_lt_of_pos x.toInt (b := -y.toInt) (by omega)
          have h2 := Int.lt_tmod_of_pos x.toInt (b := -y.toInt) (by omega)
          rw [Int.tmod_neg] at h1 h2
          omega
        · have h1 := Int.tmod_lt_of_pos x.toInt (b := y.toInt) v
          have h2 := Int.lt_tmod_of_pos x.toInt (b := y.toInt) v
          omega
      refine ⟨_, rfl, ?_, lt⟩
      by_cases w : x - x / y * y = 0
      · exact Or.inl ⟨w, hy⟩
      · exact Or.inr ⟨w, Nat.le_trans (Nat.le_of_lt lt) hy⟩) (Or.inr ⟨hl, Nat.le_refl _⟩)
  have e2 : gdv u l = g := by unfold gdv; rw [e]; rfl
  rw [e2]; exact h
theorem l_neg0 {x : Int64} (h : x ≠ 0) : -x ≠ 0 := fun w => by
  have e3 : - -x = x := Int64.neg_neg
  rw [w] at e3
  exact h (e3.symm.trans rfl)
theorem gda_m1 (u l : Int64) : gda u l ≠ -1 ∧ (gda u l).toInt.natAbs = (gdv u l).toInt.natAbs := by
  have r := l_rng (gdv u l)
  have e0 : (0 : Int64).toInt = 0 := rfl
  have e1 : (-1 : Int64).toInt = -1 := by decide
  unfold gda
  by_cases h : gdv u l < 0
  · rw [if_pos h]
    rw [Int64.lt_iff_toInt_lt, e0] at h
    by_cases z : (gdv u l).toInt = -9223372036854775808
    · have e2 : gdv u l = Int64.minValue := Int64.toInt_inj.mp (z.trans (by decide))
      rw [e2]; decide
    · have e3 : (-gdv u l).toInt = -(gdv u l).toInt := by
        rw [Int64.toInt_neg]; exact Int.bmod_eq_of_le (by omega) (by omega)
      refine ⟨fun w => ?_, by rw [e3]; omega⟩
      rw [w, e1] at e3
      omega
  · rw [if_neg h]
    rw [Int64.lt_iff_toInt_lt, e0] at h
    refine ⟨fun w => ?_, rfl⟩
    rw [w, e1] at h
    omega
theorem frL_ne {u l : Int64} (h : l ≠ 0) : frL u l ≠ 0 := by
  obtain ⟨h1, h2⟩ := gda_m1 u l
  have h3 := gd_le (u := u) h
  have key : l / gda u l ≠ 0 := fun w => by
    have e := l_divE (a := l) (b := gda u l) (Or.inr h1)
    rw [w, show (0 : Int64).toInt = 0 from rfl] at e
    have e2 := Int.mul_tdiv_add_tmod l.toInt (gda u l).toInt
    rw [← e, Int.mul_zero, Int.zero_add] at e2
    have g0 := l_n0 (gda_ne (u := u) h)
    have l0 := l_n0 h
    rcases Int.lt_or_gt_of_ne g0 with v | v
    · have h1 := Int.tmod_lt_of_pos l.toInt (b := -(gda u l).toInt) (by omega)
      have h2 := Int.lt_tmod_of_pos l.toInt (b := -(gda u l).toInt) (by omega)
      rw [Int.tmod_neg] at h1 h2
      omega
    · have h1 := Int.tmod_lt_of_pos l.toInt (b := (gda u l).toInt) v
      have h2 := Int.lt_tmod_of_pos l.toInt (b := (gda u l).toInt) v
      omega
  unfold frL
  split
  · exact l_neg0 key
  · exact key
/-- a product of numbers that are not 0 is not 0, if it is exact -/
theorem ovM_ne {a b : Int64} (h : ¬ ovM a b = true) (ha : a ≠ 0) (hb : b ≠ 0) : a * b ≠ 0 := fun w => by
  have no : noO a b := Classical.byContradiction (fun z => h (ovM_no.mpr z))
  have e := l_mulE no
  rw [w, show (0 : Int64).toInt = 0 from rfl] at e
  rcases Int.mul_eq_zero.mp e.symm with z | z
  · exact l_n0 ha z
  · exact l_n0 hb z
/-- what an operation (2 plus, 3 less, 4 times, 5 by) makes of two fractions: what is open, or a fraction -/
noncomputable def frR (u l : Int64) : Int32 × Int64 × Int64 := if frO u l = true then (2, 0, 0) else (0, frU u l, frL u l)
noncomputable def frP (o : Bool) (r : Int32 × Int64 × Int64) : Int32 × Int64 × Int64 := if o = true then (2, 0, 0) else r
noncomputable def frop (k : Int32) (a b c d : Int64) : Int32 × Int64 × Int64 :=
  if k = 5 then (if c = 0 then (3, 0, 0) else frP (ovM a d) (frP (ovM b c) (frR (a * d) (b * c))))
  else if k = 4 then frP (ovM a c) (frP (ovM b d) (frR (a * c) (b * d)))
  else if k = 3 then frP (ovM a d) (frP (ovM c b) (frP (ovS (a * d) (c * b)) (frP (ovM b d) (frR (a * d - c * b) (b * d)))))
  else frP (ovM a d) (frP (ovM c b) (frP (ovA (a * d) (c * b)) (frP (ovM b d) (frR (a * d + c * b) (b * d)))))
end
