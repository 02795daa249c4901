/-! permits: exact products -/
section
variable {s : CS} {t : TS}
def noO (a b : Int64) : Prop := -9223372036854775808 ≤ a.toInt * b.toInt ∧ a.toInt * b.toInt < 9223372036854775808
theorem l_rng (a : Int64) : -9223372036854775808 ≤ a.toInt ∧ a.toInt < 9223372036854775808 := by
  have h1 := Int64.le_toInt a
  have h2 := Int64.toInt_lt a
  omega
theorem l_n0 {a : Int64} (h : a ≠ 0) : a.toInt ≠ 0 := fun w => h (Int64.toInt_inj.mp (w.trans rfl))
theorem l_mulE {a b : Int64} (h : noO a b) : (a * b).toInt = a.toInt * b.toInt := by
  obtain ⟨h1, h2⟩ := h
  rw [Int64.toInt_mul]
  exact Int.bmod_eq_of_le (by omega) (by omega)
theorem l_divE {a b : Int64} (h : a ≠ Int64.minValue ∨ b ≠ -1) : (a / b).toInt = a.toInt.tdiv b.toInt := by
  rcases h with h | h
  · exact Int64.toInt_div_of_ne_left a b h
  · exact Int64.toInt_div_of_ne_right a b h
theorem l_mA {a b : Int64} (h : noO a b) (hb : b ≠ 0) : a * b / b = a := by
  apply Int64.toInt_inj.mp
  rw [l_divE, l_mulE h]
  · exact Int.mul_tdiv_cancel _ (l_n0 hb)
  · by_cases z : b = -1
    · left
      intro w
      have e := l_mulE h
      rw [w, z] at e
      have := l_rng a
      have e1 : (Int64.minValue).toInt = -9223372036854775808 := by decide
      have e2 : ((-1 : Int64)).toInt = -1 := by decide
      rw [e1, e2] at e
      omega
    · exact Or.inr z
theorem l_mB {a b : Int64} (hb : b ≠ 0) (e : a * b / b = a) (h : ¬ (a = Int64.minValue ∧ b = -1)) : noO a b := by
  have ra := l_rng a
  have rb := l_rng b
  by_cases z : b = -1
  · have e2 : b.toInt = -1 := by rw [z]; decide
    have : a.toInt ≠ -9223372036854775808 := fun w => h ⟨Int64.toInt_inj.mp (w.trans (by decide)), z⟩
    unfold noO
    rw [e2]
    omega
  · have e3 : a.toInt = (a * b).toInt.tdiv b.toInt := by rw [← l_divE (Or.inr z), e]
    have e4 := Int.mul_tdiv_add_tmod (a * b).toInt b.toInt
    rw [← e3] at e4
    have e5 : (a * b).toInt.tmod b.toInt < 9223372036854775808 ∧ -9223372036854775808 < (a * b).toInt.tmod b.toInt := by
      have h0 := l_n0 hb
      rcases Int.lt_or_gt_of_ne h0 with y | y
      · have h1 := Int.tmod_lt_of_pos (a * b).toInt (b := -b.toInt) (by omega)
        have h2 := Int.lt_tmod_of_pos (a * b).toInt (b := -b.toInt) (by omega)
        rw [Int.tmod_neg] at h1 h2
        omega
      · have h1 := Int.tmod_lt_of_pos (a * b).toInt (b := b.toInt) y
        have h2 := Int.lt_tmod_of_pos (a * b).toInt (b := b.toInt) y
        omega
    have e6 := Int64.toInt_mul a b
    have e7 := Int.emod_bmod (a.toInt * b.toInt) (2 ^ 64)
    obtain ⟨k, hk⟩ : ∃ k : Int, (a * b).toInt = a.toInt * b.toInt + 18446744073709551616 * k := by
      refine ⟨-((a.toInt * b.toInt - (a * b).toInt) / 18446744073709551616), ?_⟩
      have : (18446744073709551616 : Int) ∣ a.toInt * b.toInt - (a * b).toInt := by
        rw [e6]
        exact Int.dvd_self_sub_bmod
      omega
    have rr := l_rng (a * b)
    have cm : b.toInt * a.toInt = a.toInt * b.toInt := Int.mul_comm ..
    unfold noO
    rw [cm] at e4
    omega
end
