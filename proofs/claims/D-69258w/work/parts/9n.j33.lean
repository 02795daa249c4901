/-! the library: numberOfTrailingZeros -/
section
variable {E : lE} {M : lMem}
def uSh (v k : Int32) : Int32 := (v.toUInt32 >>> (k.toUInt32 &&& Int32.toUInt32 31)).toInt32
def nz4 (v n : Int32) : Int32 := n + uSh v 1
def nz3 (v n : Int32) : Int32 := if v ≤ 4 then nz4 v n else nz4 (uSh v 2) (n + 2)
def nz2 (v n : Int32) : Int32 := if v ≤ 16 then nz3 v n else nz3 (uSh v 4) (n + 4)
def nz1 (v n : Int32) : Int32 := if v ≤ 256 then nz2 v n else nz2 (uSh v 8) (n + 8)
def nz0 (v n : Int32) : Int32 := if v ≤ 65536 then nz1 v n else nz1 (uSh v 16) (n + 16)
theorem nz_4 {v n : Int32} {lv : lL} {D : Nat} (l0 : lGet lv 0 = some (.int v)) (l1 : lGet lv 1 = some (.int n)) : lGo E prog D cd_106 48 (lv, [], M) (.inl (some (.int (nz4 v n))), M) := by
  refine lGo.loadI rfl l1 ?_
  refine lGo.loadI rfl l0 ?_
  refine lGo.step rfl (fun _ => rfl) ?_; dsimp only
  refine lGo.step rfl (fun _ => rfl) ?_; dsimp only
  refine lGo.step rfl (fun _ => rfl) ?_; dsimp only
  exact lGo.done rfl (fun _ => rfl)
theorem nz_3 {v n : Int32} {lv : lL} {D : Nat} (l0 : lGet lv 0 = some (.int v)) (l1 : lGet lv 1 = some (.int n)) : lGo E prog D cd_106 40 (lv, [], M) (.inl (some (.int (nz3 v n))), M) := by
  refine lGo.loadI rfl l0 ?_
  refine lGo.step rfl (fun _ => rfl) ?_; dsimp only
  refine lGo.step rfl (fun _ => rfl) ?_; dsimp only
  unfold nz3
  by_cases h : v ≤ 4
  · rw [if_pos h]
    refine lGo.brT (decide_eq_true h) ?_
    exact nz_4 l0 l1
  · rw [if_neg h]
    refine lGo.brF (decide_eq_false h) ?_
    refine lGo.inc rfl l1 ?_
    refine lGo.loadI rfl (x := v) (by repeat (first | assumption | exact lGet_s1 | refine lGet_sn ?_ (by decide) (by first | exact Or.inl (by decide) | exact Or.inr rfl))) ?_
    refine lGo.step rfl (fun _ => rfl) ?_; dsimp only
    refine lGo.step rfl (fun _ => rfl) ?_; dsimp only
    refine lGo.step rfl (fun _ => rfl) ?_; dsimp only
    exact nz_4 (v := uSh v 2) (n := n + 2) lGet_s1 (by repeat (first | assumption | exact lGet_s1 | refine lGet_sn ?_ (by decide) (by first | exact Or.inl (by decide) | exact Or.inr rfl)))
theorem nz_2 {v n : Int32} {lv : lL} {D : Nat} (l0 : lGet lv 0 = some (.int v)) (l1 : lGet lv 1 = some (.int n)) : lGo E prog D cd_106 32 (lv, [], M) (.inl (some (.int (nz2 v n))), M) := by
  refine lGo.loadI rfl l0 ?_
  refine lGo.step rfl (fun _ => rfl) ?_; dsimp only
  refine lGo.step rfl (fun _ => rfl) ?_; dsimp only
  unfold nz2
  by_cases h : v ≤ 16
  · rw [if_pos h]
    refine lGo.brT (decide_eq_true h) ?_
    exact nz_3 l0 l1
  · rw [if_neg h]
    refine lGo.brF (decide_eq_false h) ?_
    refine lGo.inc rfl l1 ?_
    refine lGo.loadI rfl (x := v) (by repeat (first | assumption | exact lGet_s1 | refine lGet_sn ?_ (by decide) (by first | exact Or.inl (by decide) | exact Or.inr rfl))) ?_
    refine lGo.step rfl (fun _ => rfl) ?_; dsimp only
    refine lGo.step rfl (fun _ => rfl) ?_; dsimp only
    refine lGo.step rfl (fun _ => rfl) ?_; dsimp only
    exact nz_3 (v := uSh v 4) (n := n + 4) lGet_s1 (by repeat (first | assumption | exact lGet_s1 | refine lGet_sn ?_ (by decide) (by first | exact Or.inl (by decide) | exact Or.inr rfl)))
theorem nz_1 {v n : Int32} {lv : lL} {D : Nat} (l0 : lGet lv 0 = some (.int v)) (l1 : lGet lv 1 = some (.int n)) : lGo E prog D cd_106 24 (lv, [], M) (.inl (some (.int (nz1 v n))), M) := by
  refine lGo.loadI rfl l0 ?_
  refine lGo.step rfl (fun _ => rfl) ?_; dsimp only
  refine lGo.step rfl (fun _ => rfl) ?_; dsimp only
  unfold nz1
  by_cases h : v ≤ 256
  · rw [if_pos h]
    refine lGo.brT (decide_eq_true h) ?_
    exact nz_2 l0 l1
  · rw [if_neg h]
    refine lGo.brF (decide_eq_false h) ?_
    refine lGo.inc rfl l1 ?_
    refine lGo.loadI rfl (x := v) (by repeat (first | assumption | exact lGet_s1 | refine lGet_sn ?_ (by decide) (by first | exact Or.inl (by decide) | exact Or.inr rfl))) ?_
    refine lGo.step rfl (fun _ => rfl) ?_; dsimp only
    refine lGo.step rfl (fun _ => rfl) ?_; dsimp only
    refine lGo.step rfl (fun _ => rfl) ?_; dsimp only
    exact nz_2 (v := uSh v 8) (n := n + 8) lGet_s1 (by repeat (first | assumption | exact lGet_s1 | refine lGet_sn ?_ (by decide) (by first | exact Or.inl (by decide) | exact Or.inr rfl)))
theorem nz_0 {v n : Int32} {lv : lL} {D : Nat} (l0 : lGet lv 0 = some (.int v)) (l1 : lGet lv 1 = some (.int n)) : lGo E prog D cd_106 16 (lv, [], M) (.inl (some (.int (nz0 v n))), M) := by
  refine lGo.loadI rfl l0 ?_
  refine lGo.step rfl (fun _ => rfl) ?_; dsimp only
  refine lGo.step rfl (fun _ => rfl) ?_; dsimp only
  unfold nz0
  by_cases h : v ≤ 65536
  · rw [if_pos h]
    refine lGo.brT (decide_eq_true h) ?_
    exact nz_1 l0 l1
  · rw [if_neg h]
    refine lGo.brF (decide_eq_false h) ?_
    refine lGo.inc rfl l1 ?_
    refine lGo.loadI rfl (x := v) (by repeat (first | assumption | exact lGet_s1 | refine lGet_sn ?_ (by decide) (by first | exact Or.inl (by decide) | exact Or.inr rfl))) ?_
    refine lGo.step rfl (fun _ => rfl) ?_; dsimp only
    refine lGo.step rfl (fun _ => rfl) ?_; dsimp only
    refine lGo.step rfl (fun _ => rfl) ?_; dsimp only
    exact nz_1 (v := uSh v 16) (n := n + 16) lGet_s1 (by repeat (first | assumption | exact lGet_s1 | refine lGet_sn ?_ (by decide) (by first | exact Or.inl (by decide) | exact Or.inr rfl)))
theorem nz_ok : ∀ t : Fin 32, (if 0 < Int32.ofNat (2 ^ t.val - 1) then nz0 (Int32.ofNat (2 ^ t.val - 1)) 1 else Int32.ofNat (2 ^ t.val - 1) &&& 32) = Int32.ofNat t.val := by decide +kernel
/-- the lowest bit that is set -/
theorem low_nat {X t : Nat} (h1 : X.testBit t = true) (h2 : ∀ j, j < t → X.testBit j = false) : ∃ r, X = 2 ^ (t + 1) * r + 2 ^ t := by
  have e1 : X % 2 ^ t = 0 := by
    apply Nat.eq_of_testBit_eq
    intro j
    rw [Nat.testBit_mod_two_pow, Nat.zero_testBit]
    by_cases z : j < t
    · rw [h2 j z, Bool.and_false]
    · rw [decide_eq_false z, Bool.false_and]
  have e2 : X / 2 ^ t % 2 = 1 := by
    rw [Nat.testBit_eq_decide_div_mod_eq] at h1
    exact of_decide_eq_true h1
  refine ⟨X / 2 ^ t / 2, ?_⟩
  have e3 := Nat.div_add_mod X (2 ^ t)
  have e4 := Nat.div_add_mod (X / 2 ^ t) 2
  rw [e1, Nat.add_zero] at e3
  rw [e2] at e4
  conv => lhs; rw [← e3, ← e4]
  rw [Nat.mul_add, Nat.mul_one, ← Nat.mul_assoc, Nat.pow_succ]
theorem low_msk {X t : Nat} (hX : X < 2 ^ 32) (h1 : X.testBit t = true) (h2 : ∀ j, j < t → X.testBit j = false) : (X ^^^ (2 ^ 32 - 1)) &&& (X - 1) = 2 ^ t - 1 := by
  obtain ⟨r, hr⟩ := low_nat h1 h2
  have hp : 0 < 2 ^ t := Nat.pow_pos (by decide)
  have hX1 : X - 1 = 2 ^ (t + 1) * r + (2 ^ t - 1) := by omega
  have hlt : 2 ^ t - 1 < 2 ^ (t + 1) := by rw [Nat.pow_succ]; omega
  have hlt2 : 2 ^ t < 2 ^ (t + 1) := by rw [Nat.pow_succ]; omega
  apply Nat.eq_of_testBit_eq
  intro j
  rw [Nat.testBit_and, Nat.testBit_xor, Nat.testBit_two_pow_sub_one, Nat.testBit_two_pow_sub_one, hX1, Nat.testBit_two_pow_mul_add _ hlt, Nat.testBit_two_pow_sub_one]
  by_cases z : j < t
  · have h32 : j < 32 := by
      apply Classical.byContradiction
      intro w
      have : X < 2 ^ t := Nat.lt_of_lt_of_le hX (Nat.pow_le_pow_right (by decide) (by omega))
      have := Nat.testBit_lt_two_pow this
      rw [h1] at this
      cases this
    rw [h2 j z, if_pos (by omega), decide_eq_true z, decide_eq_true h32]
    rfl
  · rw [decide_eq_false z]
    by_cases z2 : j = t
    · rw [if_pos (by omega), Bool.and_false]
    · rw [if_neg (by omega)]
      have e : X.testBit j = r.testBit (j - (t + 1)) := by
        rw [hr, Nat.testBit_two_pow_mul_add _ hlt2, if_neg (by omega)]
      rw [← e]
      by_cases h32 : j < 32
      · rw [decide_eq_true h32]
        cases X.testBit j <;> rfl
      · rw [Nat.testBit_lt_two_pow (Nat.lt_of_lt_of_le hX (Nat.pow_le_pow_right (by decide) (by omega)))]
        rw [Bool.and_false]
theorem sp_106 {X t : Nat} (hX : X < 2 ^ 32) (h1 : X.testBit t = true) (h2 : ∀ j, j < t → X.testBit j = false) : lSp E prog 1 106 [.int (Int32.ofNat X)] M (.inl (some (.int (Int32.ofNat t))), M) := by
  have ht : t < 32 := by
    apply Classical.byContradiction
    intro w
    have := Nat.testBit_lt_two_pow (Nat.lt_of_lt_of_le hX (Nat.pow_le_pow_right (show 2 > 0 by decide) (show 32 ≤ t by omega)))
    rw [h1] at this
    cases this
  have h0 : 1 ≤ X := by
    rcases Nat.eq_zero_or_pos X with w | w
    · subst w
      rw [Nat.zero_testBit] at h1
      cases h1
    · exact w
  have e : (Int32.ofNat X ^^^ -1) &&& (Int32.ofNat X - 1) = Int32.ofNat (2 ^ t - 1) := by
    rw [show (-1 : Int32) = Int32.ofNat (2 ^ 32 - 1) from by decide, show (1 : Int32) = Int32.ofNat 1 from rfl, i_xor, i_sub h0, i_and, low_msk hX h1 h2]
  have k := nz_ok ⟨t, ht⟩
  dsimp only at k
  refine lGo.sp (D := 0) pg_106 (Nat.le_of_ble_eq_true rfl) ?_
  refine lGo.step rfl (fun _ => rfl) ?_; dsimp only
  refine lGo.step rfl (fun _ => rfl) ?_; dsimp only
  refine lGo.step rfl (fun _ => rfl) ?_; dsimp only
  refine lGo.step rfl (fun _ => rfl) ?_; dsimp only
  refine lGo.step rfl (fun _ => rfl) ?_; dsimp only
  refine lGo.step rfl (fun _ => rfl) ?_; dsimp only
  refine lGo.step rfl (fun _ => rfl) ?_; dsimp only
  rw [e]
  refine lGo.step rfl (fun _ => rfl) ?_; dsimp only
  refine lGo.step rfl (fun _ => rfl) ?_; dsimp only
  refine lGo.step rfl (fun _ => rfl) ?_; dsimp only
  by_cases z : 0 < Int32.ofNat (2 ^ t - 1)
  · rw [if_pos z] at k
    refine lGo.brT (decide_eq_true z) ?_
    refine lGo.step rfl (fun _ => rfl) ?_; dsimp only
    refine lGo.step rfl (fun _ => rfl) ?_; dsimp only
    rw [← k]
    exact nz_0 rfl rfl
  · rw [if_neg z] at k
    refine lGo.brF (decide_eq_false z) ?_
    refine lGo.step rfl (fun _ => rfl) ?_; dsimp only
    refine lGo.step rfl (fun _ => rfl) ?_; dsimp only
    refine lGo.step rfl (fun _ => rfl) ?_; dsimp only
    rw [k]
    exact lGo.done rfl (fun _ => rfl)
theorem sp_115 {x : Int64} {t : Nat} (h1 : tbL x t = true) (h2 : ∀ j, j < t → tbL x j = false) : lSp E prog 2 115 [.long x] M (.inl (some (.int (Int32.ofNat t))), M) := by
  have ht : t < 64 := by
    apply Classical.byContradiction
    intro w
    rw [tb_ge (by omega)] at h1
    cases h1
  obtain ⟨X, hX⟩ : ∃ X, X = x.toBitVec.toNat := ⟨_, rfl⟩
  have hX64 : X < 2 ^ 64 := by rw [hX]; exact x.toBitVec.isLt
  have hb : ∀ j, tbL x j = X.testBit j := fun j => by rw [hX]; rfl
  have hx : x = Int64.ofNat X := by
    apply Int64.toBitVec_inj.mp
    rw [hX]
    show _ = BitVec.ofNat 64 _
    rw [BitVec.ofNat_toNat, BitVec.setWidth_eq]
  have e1 : x.toInt32 = Int32.ofNat (X % 2 ^ 32) := by
    apply Int32.toBitVec_inj.mp
    rw [Int64.toBitVec_toInt32, BitVec.signExtend_eq_setWidth_of_le _ (by decide)]
    apply BitVec.eq_of_toNat_eq
    rw [BitVec.toNat_setWidth, ← hX]
    show _ = (BitVec.ofNat 32 _).toNat
    rw [BitVec.toNat_ofNat, Nat.mod_mod]
  have e2 : ((x.toUInt64 >>> ((32 : Int32).toInt64.toUInt64 &&& Int64.toUInt64 63)).toInt64).toInt32 = Int32.ofNat (X / 2 ^ 32) := by
    apply Int32.toBitVec_inj.mp
    rw [Int64.toBitVec_toInt32, BitVec.signExtend_eq_setWidth_of_le _ (by decide)]
    apply BitVec.eq_of_toNat_eq
    rw [BitVec.toNat_setWidth, show ((32 : Int32).toInt64.toUInt64 &&& Int64.toUInt64 63) = 32 from by decide]
    show (x.toUInt64 >>> 32).toBitVec.toNat % 2 ^ 32 = (BitVec.ofNat 32 _).toNat
    rw [UInt64.toBitVec_shiftRight, BitVec.toNat_ofNat]
    show (x.toBitVec >>> (32 : BitVec 64)).toNat % 2 ^ 32 = _
    rw [BitVec.ushiftRight_eq', BitVec.toNat_ushiftRight, ← hX, Nat.shiftRight_eq_div_pow]
    rfl
  refine lGo.sp (D := 1) pg_115 (Nat.le_of_ble_eq_true rfl) ?_
  refine lGo.step rfl (fun _ => rfl) ?_; dsimp only
  refine lGo.step rfl (fun _ => rfl) ?_; dsimp only
  refine lGo.step rfl (fun _ => rfl) ?_; dsimp only
  refine lGo.step rfl (fun _ => rfl) ?_; dsimp only
  rw [e1]
  refine lGo.step rfl (fun _ => rfl) ?_; dsimp only
  by_cases z : t < 32
  · have n1 : (X % 2 ^ 32).testBit t = true := by
      rw [Nat.testBit_mod_two_pow, decide_eq_true z, ← hb, h1]
      rfl
    have n2 : ∀ j, j < t → (X % 2 ^ 32).testBit j = false := fun j hj => by
      rw [Nat.testBit_mod_two_pow, ← hb, h2 j hj, Bool.and_false]
    have n0 : ¬ Int32.ofNat (X % 2 ^ 32) = 0 := by
      intro w
      have : (BitVec.ofNat 32 (X % 2 ^ 32)) = BitVec.ofNat 32 0 := congrArg Int32.toBitVec w
      have := congrArg BitVec.toNat this
      rw [BitVec.toNat_ofNat, BitVec.toNat_ofNat, Nat.mod_mod] at this
      rw [this] at n1
      rw [Nat.zero_mod, Nat.zero_testBit] at n1
      cases n1
    refine lGo.brT (decide_eq_true n0) ?_
    refine lGo.step rfl (fun _ => rfl) ?_; dsimp only
    refine lGo.call (n := 1) rfl ⟨Nat.le_of_ble_eq_true rfl, Nat.le_of_ble_eq_true rfl⟩ (sp_106 (Nat.mod_lt _ (by decide)) n1 n2) ?_
    exact lGo.done rfl (fun _ => rfl)
  · have n0 : X % 2 ^ 32 = 0 := by
      apply Nat.eq_of_testBit_eq
      intro j
      rw [Nat.testBit_mod_two_pow, Nat.zero_testBit]
      by_cases w : j < 32
      · rw [← hb, h2 j (by omega), Bool.and_false]
      · rw [decide_eq_false w, Bool.false_and]
    rw [n0]
    refine lGo.brF (by rfl) ?_
    refine lGo.step rfl (fun _ => rfl) ?_; dsimp only
    refine lGo.step rfl (fun _ => rfl) ?_; dsimp only
    refine lGo.step rfl (fun _ => rfl) ?_; dsimp only
    refine lGo.step rfl (fun _ => rfl) ?_; dsimp only
    refine lGo.step rfl (fun _ => rfl) ?_; dsimp only
    rw [e2]
    have n1 : (X / 2 ^ 32).testBit (t - 32) = true := by
      rw [Nat.testBit_div_two_pow, ← hb, show t - 32 + 32 = t by omega]
      exact h1
    have n2 : ∀ j, j < t - 32 → (X / 2 ^ 32).testBit j = false := fun j hj => by
      rw [Nat.testBit_div_two_pow, ← hb, h2 _ (by omega)]
    refine lGo.call (n := 1) rfl ⟨Nat.le_of_ble_eq_true rfl, Nat.le_of_ble_eq_true rfl⟩ (sp_106 (Nat.div_lt_of_lt_mul hX64) n1 n2) ?_
    refine lGo.step rfl (fun _ => rfl) ?_; dsimp only
    refine lGo.step rfl (fun _ => rfl) ?_; dsimp only
    rw [show (32 : Int32) + Int32.ofNat (t - 32) = Int32.ofNat t from by rw [show (32 : Int32) = Int32.ofNat 32 from rfl, i_add, show 32 + (t - 32) = t by omega]]
    exact lGo.done rfl (fun _ => rfl)
end
