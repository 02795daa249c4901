/-! the library: bits of longs -/
/-- bit j of a word -/
def tbL (x : Int64) (j : Nat) : Bool := x.toBitVec.getLsbD j
theorem tb_or (x z : Int64) (j : Nat) : tbL (x ||| z) j = (tbL x j || tbL z j) := by
  unfold tbL
  rw [Int64.toBitVec_or, BitVec.getLsbD_or]
theorem tb_and (x z : Int64) (j : Nat) : tbL (x &&& z) j = (tbL x j && tbL z j) := by
  unfold tbL
  rw [Int64.toBitVec_and, BitVec.getLsbD_and]
theorem tb_xor (x z : Int64) (j : Nat) : tbL (x ^^^ z) j = (tbL x j ^^ tbL z j) := by
  unfold tbL
  rw [Int64.toBitVec_xor, BitVec.getLsbD_xor]
theorem tb_ext {x z : Int64} (h : ∀ j, j < 64 → tbL x j = tbL z j) : x = z := by
  apply Int64.toBitVec_inj.mp
  apply BitVec.eq_of_getLsbD_eq
  intro i hi
  exact h i hi
theorem tb_ge {x : Int64} {j : Nat} (h : 64 ≤ j) : tbL x j = false := by
  unfold tbL
  exact BitVec.getLsbD_of_ge _ _ h
theorem tb_0 (j : Nat) : tbL 0 j = false := by
  unfold tbL
  show (0 : BitVec 64).getLsbD j = false
  exact BitVec.getLsbD_zero
theorem tb_m1 {j : Nat} (h : j < 64) : tbL (-1) j = true := by
  unfold tbL
  rw [show (-1 : Int64).toBitVec = BitVec.allOnes 64 from by decide, BitVec.getLsbD_allOnes]
  exact decide_eq_true h
theorem tb_z {x : Int64} : x = 0 ↔ ∀ j, j < 64 → tbL x j = false := by
  constructor
  · intro h j _
    rw [h, tb_0]
  · intro h
    exact tb_ext (fun j hj => (h j hj).trans (tb_0 j).symm)
theorem sh_ix {k : Nat} (h : k < 2147483648) : (Int32.ofNat k).toInt64 &&& 63 = Int64.ofNat (k % 64) := by
  have h1 : (Int32.ofNat k).toInt64 = Int64.ofNat k := by
    apply Int64.toInt.inj
    rw [Int32.toInt_toInt64, i_toInt h, Int64.toInt_ofNat_of_lt (by omega)]
  rw [h1]
  show Int64.ofBitVec (BitVec.ofNat 64 k &&& BitVec.ofNat 64 63) = Int64.ofBitVec (BitVec.ofNat 64 (k % 64))
  rw [← BitVec.ofNat_and, show 63 = 2 ^ 6 - 1 from rfl, Nat.and_two_pow_sub_one_eq_mod]
theorem sh_mod : ∀ b : Fin 64, ((Int64.ofNat b.val).toBitVec.smod 64) = BitVec.ofNat 64 b.val := by decide +kernel
theorem tb_shl (x : Int64) {k j : Nat} (hk : k < 64) (hj : j < 64) : tbL (x <<< Int64.ofNat k) j = (decide (k ≤ j) && tbL x (j - k)) := by
  unfold tbL
  rw [Int64.toBitVec_shiftLeft]
  have h := sh_mod ⟨k, hk⟩
  dsimp only at h
  rw [h]
  rw [BitVec.shiftLeft_eq', BitVec.getLsbD_shiftLeft, BitVec.toNat_ofNat, Nat.mod_eq_of_lt (show k < 2 ^ 64 by omega)]
  by_cases z : k ≤ j
  · rw [decide_eq_true z, decide_eq_true hj, show decide (j < k) = false from decide_eq_false (by omega)]
    simp
  · rw [decide_eq_false z, show decide (j < k) = true from decide_eq_true (by omega)]
    simp
theorem tb_1 (j : Nat) : tbL 1 j = decide (j = 0) := by
  by_cases h : j < 64
  · have : ∀ j : Fin 64, tbL 1 j.val = decide (j.val = 0) := by decide +kernel
    exact this ⟨j, h⟩
  · rw [tb_ge (by omega)]
    exact (decide_eq_false (by omega)).symm
/-- the mask of one bit -/
theorem tb_sh1 {k j : Nat} (hk : k < 64) (hj : j < 64) : tbL (1 <<< Int64.ofNat k) j = decide (j = k) := by
  rw [tb_shl 1 hk hj, tb_1]
  by_cases z : j = k
  · subst z
    simp
  · rw [show decide (j = k) = false from decide_eq_false z]
    by_cases w : k ≤ j
    · rw [show decide (j - k = 0) = false from decide_eq_false (by omega), Bool.and_false]
    · rw [show decide (k ≤ j) = false from decide_eq_false w, Bool.false_and]
/-- the mask of the bits from one on -/
theorem tb_shm {k j : Nat} (hk : k < 64) (hj : j < 64) : tbL ((-1 : Int64) <<< Int64.ofNat k) j = decide (k ≤ j) := by
  rw [tb_shl _ hk hj]
  by_cases z : k ≤ j
  · rw [tb_m1 (by omega), Bool.and_true]
  · rw [decide_eq_false z, Bool.false_and]
theorem bit_setL {x : Int64} {k j : Nat} (hk : k < 64) (hj : j < 64) : tbL (x ||| 1 <<< Int64.ofNat k) j = (tbL x j || decide (j = k)) := by
  rw [tb_or, tb_sh1 hk hj]
theorem bit_clr {x : Int64} {k j : Nat} (hk : k < 64) (hj : j < 64) : tbL (x &&& (1 <<< Int64.ofNat k ^^^ -1)) j = (tbL x j && !decide (j = k)) := by
  rw [tb_and, tb_xor, tb_sh1 hk hj, tb_m1 hj, Bool.xor_true]
theorem bit_tst {x : Int64} {k : Nat} (hk : k < 64) : (x &&& 1 <<< Int64.ofNat k = 0) ↔ tbL x k = false := by
  rw [tb_z]
  constructor
  · intro h
    have := h k hk
    rw [tb_and, tb_sh1 hk hk, decide_eq_true rfl, Bool.and_true] at this
    exact this
  · intro h j hj
    rw [tb_and, tb_sh1 hk hj]
    by_cases z : j = k
    · rw [z, h, Bool.false_and]
    · rw [decide_eq_false z, Bool.and_false]
theorem bit_from {x : Int64} {k j : Nat} (hk : k < 64) (hj : j < 64) : tbL (x &&& (-1 : Int64) <<< Int64.ofNat k) j = (tbL x j && decide (k ≤ j)) := by
  rw [tb_and, tb_shm hk hj]
