/-! permits: exact products, the component -/
section
variable {s : CS} {t : TS}
theorem ovM_no {a b : Int64} : ovM a b = true ↔ ¬ noO a b := by
  have key : ovM a b = false ↔ noO a b := by
    unfold ovM
    constructor
    · intro h
      by_cases h1 : a = 0
      · have e : a.toInt = 0 := by rw [h1]; rfl
        unfold noO; rw [e]; omega
      · by_cases h2 : b = 0
        · have e : b.toInt = 0 := by rw [h2]; rfl
          unfold noO; rw [e]; omega
        · simp only [ne_eq, h1, h2, not_false_eq_true, decide_true, Bool.true_and, Bool.or_eq_false_iff, decide_eq_false_iff_not, Decidable.not_not] at h
          refine l_mB h2 h.1 (fun w => ?_)
          have e := h.2
          rw [w.1, w.2] at e
          exact absurd e (by decide)
    · intro h
      by_cases h1 : a = 0
      · simp [h1]
      · by_cases h2 : b = 0
        · simp [h2]
        · have e1 := l_mA h h2
          have e2 : a * b / a = b := by
            rw [Int64.mul_comm a b]
            exact l_mA (by unfold noO at h ⊢; rw [Int.mul_comm]; exact h) h1
          simp [e1, e2]
  cases h : ovM a b with
  | true => exact ⟨fun _ w => absurd ((key.mpr w).symm.trans h) (by decide), fun _ => rfl⟩
  | false => exact ⟨fun w => absurd w (by decide), fun w => absurd (key.mp h) w⟩
theorem l_abs (a : Int64) : ∃ y, c_50 a s = some y ∧ (y.toBitVec.toNat < 2147483648 → -2147483648 < a.toInt ∧ a.toInt < 2147483648) := by
  unfold c_50
  by_cases h : lg_cmp a 0 < 0
  · rw [if_pos h]
    refine ⟨_, rfl, fun w => ?_⟩
    have h' := (lc_neg a 0).mp h
    rw [Int64.lt_iff_toInt_lt] at h'
    have h0 : (0 : Int64).toInt = 0 := rfl
    rw [h0] at h'
    have e : (-a).toInt = ((-a).toBitVec.toNat : Int) := by
      show (-a).toBitVec.toInt = _
      rw [BitVec.toInt_eq_toNat_cond, if_pos (by omega)]
    have ra := l_rng a
    have e2 := Int64.toInt_neg a
    rw [e] at e2
    have e3 : (-a.toInt).bmod (2 ^ 64) = -a.toInt ∨ a.toInt = -9223372036854775808 := by
      by_cases z : a.toInt = -9223372036854775808
      · exact Or.inr z
      · exact Or.inl (Int.bmod_eq_of_le (by omega) (by omega))
    rcases e3 with e3 | e3
    · rw [e3] at e2; omega
    · rw [e3, show (- -9223372036854775808 : Int).bmod (2 ^ 64) = -9223372036854775808 by decide] at e2
      omega
  · rw [if_neg h]
    refine ⟨_, rfl, fun w => ?_⟩
    have e : a.toInt = (a.toBitVec.toNat : Int) := by
      show a.toBitVec.toInt = _
      rw [BitVec.toInt_eq_toNat_cond, if_pos (by omega)]
    omega
theorem l_sh {x y : Int64} (h : ((x ||| y).toUInt64 >>> ((31 : Int32).toInt64.toUInt64 &&& Int64.toUInt64 63)).toInt64 = 0) : x.toBitVec.toNat < 2147483648 ∧ y.toBitVec.toNat < 2147483648 := by
  have e1 : ((31 : Int32).toInt64.toUInt64 &&& Int64.toUInt64 63) = 31 := by decide
  rw [e1] at h
  have e2 : ((x ||| y).toUInt64 >>> 31).toNat = 0 := by
    have := congrArg (fun z : Int64 => z.toUInt64.toNat) h
    simp only [UInt64.toUInt64_toInt64] at this
    exact this.trans rfl
  rw [UInt64.toNat_shiftRight] at e2
  have e3 : (x ||| y).toUInt64.toNat = x.toBitVec.toNat ||| y.toBitVec.toNat := rfl
  rw [e3, show (31 : UInt64).toNat % 64 = 31 from rfl, Nat.shiftRight_eq_div_pow] at e2
  have h1 : x.toBitVec.toNat ≤ x.toBitVec.toNat ||| y.toBitVec.toNat := Nat.left_le_or
  have h2 : y.toBitVec.toNat ≤ x.toBitVec.toNat ||| y.toBitVec.toNat := Nat.right_le_or
  omega
theorem c_mulX (a b : Int64) : c_52 a b s = if ovM a b = true then some (.inr (s.2.1, exAr s)) else some (.inl (a * b, s)) := by
  unfold c_52
  obtain ⟨x, ex, hx⟩ := l_abs (s := s) a
  obtain ⟨y, ey, hy⟩ := l_abs (s := s) b
  rw [ex, Option.bind_some, ey, Option.bind_some]
  simp only [lc_0]
  by_cases h : ((x ||| y).toUInt64 >>> ((31 : Int32).toInt64.toUInt64 &&& Int64.toUInt64 63)).toInt64 = 0
  · rw [if_pos h]
    obtain ⟨h1, h2⟩ := l_sh h
    obtain ⟨a1, a2⟩ := hx h1
    obtain ⟨b1, b2⟩ := hy h2
    have no : noO a b := by
      have m : (a.toInt * b.toInt).natAbs ≤ 2147483648 * 2147483648 := by
        rw [Int.natAbs_mul]
        exact Nat.mul_le_mul (by omega) (by omega)
      unfold noO
      omega
    rw [if_neg (fun w => ovM_no.mp w no)]
  · rw [if_neg h]
    by_cases h2 : b = 0
    · have no : noO a b := by
        have e : b.toInt = 0 := by rw [h2]; rfl
        unfold noO; rw [e]; omega
      rw [if_pos h2, if_neg (fun w => ovM_no.mp w no), Option.bind_some, Sum.elim_inl]
      by_cases z : a = -9223372036854775808
      · rw [if_pos z, if_neg (by rw [h2]; decide), Option.bind_some, Sum.elim_inr]
      · rw [if_neg z, Option.bind_some, Sum.elim_inr]
    · rw [if_neg h2, if_neg h2]
      by_cases h3 : a * b / b = a
      · rw [if_pos h3, Option.bind_some, Sum.elim_inl]
        by_cases z : a = -9223372036854775808
        · by_cases z2 : b = -1
          · have no : ¬ noO a b := by
              unfold noO
              rw [z, z2, show (-9223372036854775808 : Int64).toInt = -9223372036854775808 by decide, show (-1 : Int64).toInt = -1 by decide]
              omega
            rw [if_pos z, if_pos z2, if_pos (ovM_no.mpr no), Option.bind_some, Sum.elim_inl, ex_33]
          · have no := l_mB h2 h3 (fun w => z2 w.2)
            rw [if_pos z, if_neg z2, if_neg (fun w => ovM_no.mp w no), Option.bind_some, Sum.elim_inr]
        · have no := l_mB h2 h3 (fun w => z (w.1.trans (by decide)))
          rw [if_neg z, if_neg (fun w => ovM_no.mp w no), Option.bind_some, Sum.elim_inr]
      · have no : ¬ noO a b := fun w => h3 (l_mA w h2)
        rw [if_neg h3, if_pos (ovM_no.mpr no), Option.bind_some, Sum.elim_inr, Option.bind_some, Sum.elim_inl, ex_33]
end
