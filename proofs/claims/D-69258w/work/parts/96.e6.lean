/-! bits of numbers -/
theorem i_and (a b : Nat) : Int32.ofNat a &&& Int32.ofNat b = Int32.ofNat (a &&& b) := by
  show Int32.ofBitVec (BitVec.ofNat 32 a &&& BitVec.ofNat 32 b) = Int32.ofBitVec (BitVec.ofNat 32 (a &&& b))
  rw [BitVec.ofNat_and]
theorem i_or (a b : Nat) : Int32.ofNat a ||| Int32.ofNat b = Int32.ofNat (a ||| b) := by
  show Int32.ofBitVec (BitVec.ofNat 32 a ||| BitVec.ofNat 32 b) = Int32.ofBitVec (BitVec.ofNat 32 (a ||| b))
  rw [BitVec.ofNat_or]
theorem i_xor (a b : Nat) : Int32.ofNat a ^^^ Int32.ofNat b = Int32.ofNat (a ^^^ b) := by
  show Int32.ofBitVec (BitVec.ofNat 32 a ^^^ BitVec.ofNat 32 b) = Int32.ofBitVec (BitVec.ofNat 32 (a ^^^ b))
  rw [BitVec.ofNat_xor]
theorem i_and2 (a n : Nat) : Int32.ofNat a &&& Int32.ofNat (2 ^ n - 1) = Int32.ofNat (a % 2 ^ n) := by
  rw [i_and, Nat.and_two_pow_sub_one_eq_mod]
theorem i_and255 (a : Nat) : Int32.ofNat a &&& 255 = Int32.ofNat (a % 256) := i_and2 a 8
theorem i_and127 (a : Nat) : Int32.ofNat a &&& 127 = Int32.ofNat (a % 128) := i_and2 a 7
theorem i_and31 (a : Nat) : Int32.ofNat a &&& 31 = Int32.ofNat (a % 32) := i_and2 a 5
theorem i_andB (a : Nat) : Int32.ofNat a &&& 1 = Int32.ofNat (a % 2) := i_and2 a 1
theorem i_div {a b : Nat} (ha : a < 2147483648) (hb : b < 2147483648) : Int32.ofNat a / Int32.ofNat b = Int32.ofNat (a / b) := (Int32.ofNat_div (by omega) (by omega)).symm
theorem i_divL {a b : Nat} (ha : a < 2147483648) (hb : (OfNat.ofNat b : Nat) < 2147483648) : Int32.ofNat a / (no_index (OfNat.ofNat b : Int32)) = Int32.ofNat (a / (OfNat.ofNat b : Nat)) := i_div ha hb
theorem i_modL {a b : Nat} (ha : a < 2147483648) (hb : (OfNat.ofNat b : Nat) < 2147483648) : Int32.ofNat a - Int32.ofNat a / (no_index (OfNat.ofNat b : Int32)) * (no_index (OfNat.ofNat b : Int32)) = Int32.ofNat (a % (OfNat.ofNat b : Nat)) := by
  show Int32.ofNat a - Int32.ofNat a / Int32.ofNat b * Int32.ofNat b = Int32.ofNat (a % b)
  have hb' : b < 2147483648 := hb
  rw [i_div ha hb', i_mul, i_sub (Nat.div_mul_le_self a b)]
  congr 1
  have := Nat.div_add_mod a b
  rw [Nat.mul_comm] at this
  omega
theorem i_shr {a b : Nat} (ha : a < 2147483648) (hb : b < 32) : Int32.ofNat a >>> Int32.ofNat b = Int32.ofNat (a / 2 ^ b) := by
  rw [← Int32.toInt_inj, i_toInt (Nat.lt_of_le_of_lt (Nat.div_le_self _ _) ha)]
  show ((Int32.ofNat a).toBitVec.sshiftRight' ((Int32.ofNat b).toBitVec.smod 32)).toInt = _
  rw [BitVec.toInt_sshiftRight']
  have h1 : ∀ b : Fin 32, ((Int32.ofNat b.val).toBitVec.smod 32).toNat = b.val := by decide +kernel
  have h2 := h1 ⟨b, hb⟩
  simp only at h2
  rw [h2]
  show (Int32.ofNat a).toInt >>> b = _
  rw [i_toInt ha, Int.shiftRight_eq_div_pow]
  norm_cast
theorem i_shl {a b : Nat} (hb : b < 32) : Int32.ofNat a <<< Int32.ofNat b = Int32.ofNat (a * 2 ^ b) := by
  have h1 : ∀ b : Fin 32, ((Int32.ofNat b.val).toBitVec.smod 32) = BitVec.ofNat 32 b.val := by decide +kernel
  have h2 := h1 ⟨b, hb⟩
  simp only at h2
  show Int32.ofBitVec (BitVec.ofNat 32 a <<< ((Int32.ofNat b).toBitVec.smod 32)) = Int32.ofBitVec (BitVec.ofNat 32 (a * 2 ^ b))
  rw [h2]
  congr 1
  apply BitVec.eq_of_toNat_eq
  simp [Nat.shiftLeft_eq, Nat.mod_eq_of_lt (show b < 4294967296 by omega)]
/-! bits of characters -/
def pc8 (b : Nat) : Nat := b % 2 + b / 2 % 2 + b / 4 % 2 + b / 8 % 2 + b / 16 % 2 + b / 32 % 2 + b / 64 % 2 + b / 128 % 2
def lb (b k : Nat) : Nat := if k = 0 then 0 else if k < 9 then b / 2 ^ (k - 1) % 2 else if k = 9 then pc8 b % 2 else 1
theorem lb_2 (b k : Nat) : lb b k = 0 ∨ lb b k = 1 := by
  unfold lb
  split
  · simp
  · split
    · omega
    · split <;> omega
theorem bcnt : ∀ b : Fin 256, ((c_110 (Int32.ofNat b.val) (fun _ => none, 0, 0, 0)).getD 0) = Int32.ofNat (pc8 b.val) := by decide +kernel
theorem bc_of {b : Nat} (h : b < 256) (s : CS) : c_110 (Int32.ofNat b) s = some (Int32.ofNat (pc8 b)) := by
  have h1 := bcnt ⟨b, h⟩
  simp only at h1
  have h2 : c_110 (Int32.ofNat b) s = some ((c_110 (Int32.ofNat b) (fun _ => none, 0, 0, 0)).getD 0) := rfl
  rw [h2, h1]
theorem c_lb {b k : Nat} (hb : b < 256) (hk : k < 11) (s : CS) : c_1107 (Int32.ofNat b) (Int32.ofNat k) s = some (Int32.ofNat (lb b k)) := by
  unfold c_1107 lb
  by_cases h0 : k = 0
  · subst h0; simp
  · rw [if_neg (by rw [i_eqL (by omega) (by omega)]; exact h0), if_neg h0]
    by_cases h9 : k < 9
    · rw [if_pos ((i_ltL (by omega) (by omega)).mpr h9), if_pos h9, i_subL (show 1 ≤ k by omega), i_and31, i_shr (by omega) (by omega), i_andB, Nat.mod_eq_of_lt (show k - 1 < 32 by omega)]
    · rw [if_neg (by rw [i_ltL (by omega) (by omega)]; exact h9), if_neg h9]
      by_cases h : k = 9
      · subst h
        rw [if_pos (show Int32.ofNat 9 = 9 from rfl), if_pos rfl, bc_of hb, Option.bind_some, i_andB]
      · rw [if_neg (by rw [i_eqL (by omega) (by omega)]; exact h), if_neg h]; rfl
theorem t_ones {b : Nat} (hb : b < 256) (s : TS) : t_837 (Int32.ofNat b) s = some (Int32.ofNat (pc8 b)) := by
  unfold t_837
  have st : ∀ k a : Nat, k < 8 → (if (Int32.ofNat k : Int32) < 8 then some (Sum.inl (β := Int32) (Int32.ofNat a + ((Int32.ofNat b >>> (Int32.ofNat k &&& 31)) &&& 1), Int32.ofNat k + 1)) else some (.inr (Int32.ofNat a))) = some (.inl (Int32.ofNat (a + b / 2 ^ k % 2), Int32.ofNat (k + 1))) := by
    intro k a hk
    rw [if_pos ((i_ltL (by omega) (by omega)).mpr hk), i_and31, i_shr (by omega) (by omega), i_andB, i_add, i_suc, Nat.mod_eq_of_lt (show k < 32 by omega)]
  rw [show ((0 : Int32), (0 : Int32)) = (Int32.ofNat 0, Int32.ofNat 0) from rfl]
  rw [wh_inl (st 0 0 (by omega)), wh_inl (st 1 _ (by omega)), wh_inl (st 2 _ (by omega)), wh_inl (st 3 _ (by omega)), wh_inl (st 4 _ (by omega)), wh_inl (st 5 _ (by omega)), wh_inl (st 6 _ (by omega)), wh_inl (st 7 _ (by omega))]
  rw [wh_inr (x := Int32.ofNat (pc8 b))]
  · rfl
  · simp only [show Int32.ofNat (7 + 1) = 8 from rfl]
    rw [if_neg (by decide)]
    simp [pc8]
theorem t_lb {b k : Nat} (hb : b < 256) (hk : k < 11) (s : TS) : t_836 (Int32.ofNat b) (Int32.ofNat k) s = some (Int32.ofNat (lb b k)) := by
  unfold t_836 lb
  by_cases h : k = 9
  · subst h
    rw [if_pos (show Int32.ofNat 9 = 9 from rfl), t_ones hb, Option.bind_some, i_modL (by unfold pc8; omega) (by omega)]
    simp only [show ¬ (9 : Nat) = 0 by omega, show ¬ (9 : Nat) < 9 by omega, if_false, if_true]
    by_cases h2 : pc8 b % 2 = 1
    · rw [h2]; rfl
    · rw [show pc8 b % 2 = 0 by omega]; rfl
  · rw [if_neg (by rw [i_eqL (by omega) (by omega)]; exact h)]
    by_cases h0 : k = 0
    · subst h0; rfl
    · rw [if_pos ((i_Llt (by omega) (by omega)).mpr (by omega)), if_neg h0]
      by_cases h10 : k = 10
      · subst h10; rfl
      · rw [if_neg (by rw [i_eqL (by omega) (by omega)]; exact h10), if_pos (show k < 9 by omega), i_subL (show 1 ≤ k by omega), i_and31, i_shr (by omega) (by omega), i_andB, Nat.mod_eq_of_lt (show k - 1 < 32 by omega)]
        by_cases h2 : b / 2 ^ (k - 1) % 2 = 1
        · rw [h2]; rfl
        · rw [show b / 2 ^ (k - 1) % 2 = 0 by omega]; rfl
