/-! the library: Long.bitCount, the walk -/
section
variable {E : lE} {M : lMem}
theorem n64 {X : Nat} : (Int64.ofNat X).toBitVec = BitVec.ofNat 64 X := rfl
theorem n64_eq {X Z : Nat} (h : X % 2 ^ 64 = Z % 2 ^ 64) : Int64.ofNat X = Int64.ofNat Z := by
  apply Int64.toBitVec_inj.mp
  rw [n64, n64]
  apply BitVec.eq_of_toNat_eq
  rw [BitVec.toNat_ofNat, BitVec.toNat_ofNat]
  exact h
theorem n64_and (X Z : Nat) : Int64.ofNat X &&& Int64.ofNat Z = Int64.ofNat (X &&& Z) := by
  apply Int64.toBitVec_inj.mp
  rw [Int64.toBitVec_and, n64, n64, n64, BitVec.ofNat_and]
theorem n64_add (X Z : Nat) : Int64.ofNat X + Int64.ofNat Z = Int64.ofNat (X + Z) := by
  apply Int64.toBitVec_inj.mp
  rw [Int64.toBitVec_add, n64, n64, n64, BitVec.ofNat_add]
theorem n64_sub {X Z : Nat} (h : Z ≤ X) : Int64.ofNat X - Int64.ofNat Z = Int64.ofNat (X - Z) := by
  obtain ⟨d, rfl⟩ : ∃ d, X = d + Z := ⟨X - Z, by omega⟩
  rw [Nat.add_sub_cancel, ← n64_add]
  apply Int64.toBitVec_inj.mp
  rw [Int64.toBitVec_sub, Int64.toBitVec_add, BitVec.add_sub_cancel]
theorem n64_shr {X k : Nat} (hX : X < 2 ^ 64) (hk : k < 64) : ((Int64.ofNat X).toUInt64 >>> ((Int32.ofNat k).toInt64.toUInt64 &&& Int64.toUInt64 63)).toInt64 = Int64.ofNat (X / 2 ^ k) := by
  have e : ∀ k : Fin 64, (((Int32.ofNat k.val).toInt64.toUInt64 &&& Int64.toUInt64 63).toBitVec % (64 : BitVec 64)) = BitVec.ofNat 64 k.val := by decide +kernel
  have e := e ⟨k, hk⟩
  dsimp only at e
  apply Int64.toBitVec_inj.mp
  show ((Int64.ofNat X).toUInt64 >>> ((Int32.ofNat k).toInt64.toUInt64 &&& Int64.toUInt64 63)).toBitVec = _
  rw [UInt64.toBitVec_shiftRight, e, n64]
  apply BitVec.eq_of_toNat_eq
  show ((BitVec.ofNat 64 X) >>> (BitVec.ofNat 64 k)).toNat = _
  rw [BitVec.ushiftRight_eq', BitVec.toNat_ushiftRight, BitVec.toNat_ofNat, BitVec.toNat_ofNat, BitVec.toNat_ofNat, Nat.mod_eq_of_lt hX, Nat.mod_eq_of_lt (show k < 2 ^ 64 by omega), Nat.shiftRight_eq_div_pow, Nat.mod_eq_of_lt (Nat.lt_of_le_of_lt (Nat.div_le_self _ _) hX)]
theorem n64_i32 (X : Nat) : (Int64.ofNat X).toInt32 = Int32.ofNat X := by
  apply Int32.toBitVec_inj.mp
  rw [Int64.toBitVec_toInt32, BitVec.signExtend_eq_setWidth_of_le _ (by decide)]
  apply BitVec.eq_of_toNat_eq
  rw [BitVec.toNat_setWidth, n64, BitVec.toNat_ofNat]
  show X % 2 ^ 64 % 2 ^ 32 = (BitVec.ofNat 32 X).toNat
  rw [BitVec.toNat_ofNat]
  omega
theorem mpB_lt {f : Nat → Nat} (hf : ∀ b, b < 256 → f b < 256) : ∀ k X, mpB f k X < 256 ^ k := by
  intro k
  induction k with
  | zero => intro X; exact Nat.one_pos
  | succ k ih =>
    intro X
    have h1 := ih (X / 256)
    have h2 := hf (X % 256) (Nat.mod_lt _ (by decide))
    show f (X % 256) + 256 * mpB f k (X / 256) < 256 ^ (k + 1)
    rw [Nat.pow_succ]
    omega
theorem mpB_l1 (X : Nat) : mpB bf1 8 X < 2 ^ 64 := mpB_lt (fun b hb => (bf1_ok ⟨b, hb⟩).2.1) 8 X
theorem mpB_l2 (X : Nat) : mpB bf2 8 X < 2 ^ 64 := mpB_lt (fun b hb => by have := (bf1_ok ⟨b, hb⟩).2.2.1; dsimp only at this; omega) 8 X
theorem mpB_l3 (X : Nat) : mpB pcB8 8 X < 2 ^ 64 := mpB_lt (fun b hb => by have := (bf1_ok ⟨b, hb⟩).2.2.2.2.2; dsimp only at this; omega) 8 X
theorem i_a127 {Z : Nat} : Int32.ofNat Z &&& 127 = Int32.ofNat (Z % 128) := by
  rw [show (127 : Int32) = Int32.ofNat 127 from rfl, i_and, show 127 = 2 ^ 7 - 1 from rfl, Nat.and_two_pow_sub_one_eq_mod]
theorem tbL_nat {X j : Nat} (hX : X < 2 ^ 64) : tbL (Int64.ofNat X) j = X.testBit j := by
  unfold tbL
  rw [n64, BitVec.getLsbD_ofNat]
  by_cases h : j < 64
  · rw [decide_eq_true h, Bool.true_and]
  · rw [decide_eq_false h, Bool.false_and, Nat.testBit_lt_two_pow (Nat.lt_of_lt_of_le hX (Nat.pow_le_pow_right (by decide) (by omega)))]
theorem sp_118 {x : Int64} : lSp E prog 1 118 [.long x] M (.inl (some (.int (Int32.ofNat (cntL (tbL x) 64)))), M) := by
  obtain ⟨X, hX64, hx⟩ : ∃ X, X < 2 ^ 64 ∧ x = Int64.ofNat X := by
    refine ⟨x.toBitVec.toNat, x.toBitVec.isLt, ?_⟩
    apply Int64.toBitVec_inj.mp
    rw [n64, BitVec.ofNat_toNat, BitVec.setWidth_eq]
  have ec : cntL (tbL x) 64 = smbB 8 X := by
    rw [smbB_cnt]
    refine cntL_cg (fun j _ => ?_)
    rw [hx, tbL_nat hX64]
  rw [ec, hx]
  have l1 := mpB_l1 X
  have l2 := mpB_l2 X
  have l3 := mpB_l3 X
  obtain ⟨f1, f2⟩ := bc_4 X
  have b1 := (bc_1 8 X).1
  have b1e := (bc_1 8 X).2 hX64
  have b2 := bc_2 8 X
  have b3 := bc_3 8 X
  have m1 : (6148914691236517205 : Int64) = Int64.ofNat (mkB 85 8) := by decide
  have m2 : (3689348814741910323 : Int64) = Int64.ofNat (mkB 51 8) := by decide
  have m3 : (1085102592571150095 : Int64) = Int64.ofNat (mkB 15 8) := by decide
  have s1 : ∀ Z, Z < 2 ^ 64 → (((Int64.ofNat Z).toUInt64 >>> ((1 : Int32).toInt64.toUInt64 &&& Int64.toUInt64 63)).toInt64) = Int64.ofNat (Z / 2) := fun Z h => n64_shr (k := 1) h (by decide)
  have s2 : ∀ Z, Z < 2 ^ 64 → (((Int64.ofNat Z).toUInt64 >>> ((2 : Int32).toInt64.toUInt64 &&& Int64.toUInt64 63)).toInt64) = Int64.ofNat (Z / 4) := fun Z h => n64_shr (k := 2) h (by decide)
  have s3 : ∀ Z, Z < 2 ^ 64 → (((Int64.ofNat Z).toUInt64 >>> ((4 : Int32).toInt64.toUInt64 &&& Int64.toUInt64 63)).toInt64) = Int64.ofNat (Z / 16) := fun Z h => n64_shr (k := 4) h (by decide)
  have s4 : ∀ Z, Z < 2 ^ 64 → (((Int64.ofNat Z).toUInt64 >>> ((8 : Int32).toInt64.toUInt64 &&& Int64.toUInt64 63)).toInt64) = Int64.ofNat (Z / 256) := fun Z h => n64_shr (k := 8) h (by decide)
  have s5 : ∀ Z, Z < 2 ^ 64 → (((Int64.ofNat Z).toUInt64 >>> ((16 : Int32).toInt64.toUInt64 &&& Int64.toUInt64 63)).toInt64) = Int64.ofNat (Z / 65536) := fun Z h => n64_shr (k := 16) h (by decide)
  have s6 : ∀ Z, Z < 2 ^ 64 → (((Int64.ofNat Z).toUInt64 >>> ((32 : Int32).toInt64.toUInt64 &&& Int64.toUInt64 63)).toInt64) = Int64.ofNat (Z / 4294967296) := fun Z h => n64_shr (k := 32) h (by decide)
  have g4 : fd4 (mpB pcB8 8 X) < 2 ^ 64 := Nat.lt_of_le_of_lt (Nat.le_trans (Nat.le_add_right _ _) (Nat.le_add_right _ _)) f2
  have g5 : fd5 (mpB pcB8 8 X) < 2 ^ 64 := Nat.lt_of_le_of_lt (Nat.le_add_right _ _) f2
  refine lGo.sp (D := 0) pg_118 (Nat.le_of_ble_eq_true rfl) ?_
  refine lGo.step rfl (fun _ => rfl) ?_; dsimp only
  refine lGo.step rfl (fun _ => rfl) ?_; dsimp only
  refine lGo.step rfl (fun _ => rfl) ?_; dsimp only
  refine lGo.step rfl (fun _ => rfl) ?_; dsimp only
  rw [s1 _ hX64]
  refine lGo.step rfl (fun _ => rfl) ?_; dsimp only
  refine lGo.step rfl (fun _ => rfl) ?_; dsimp only
  rw [m1, n64_and]
  refine lGo.step rfl (fun _ => rfl) ?_; dsimp only
  rw [n64_sub b1, b1e]
  obtain ⟨Y, hY⟩ : ∃ Y, Y = mpB bf1 8 X := ⟨_, rfl⟩
  rw [← hY] at l1 b2 ⊢
  refine lGo.step rfl (fun _ => rfl) ?_; dsimp only
  refine lGo.step rfl (fun _ => rfl) ?_; dsimp only
  refine lGo.step rfl (fun _ => rfl) ?_; dsimp only
  refine lGo.step rfl (fun _ => rfl) ?_; dsimp only
  rw [m2, n64_and]
  refine lGo.step rfl (fun _ => rfl) ?_; dsimp only
  refine lGo.step rfl (fun _ => rfl) ?_; dsimp only
  refine lGo.step rfl (fun _ => rfl) ?_; dsimp only
  rw [s2 _ l1]
  refine lGo.step rfl (fun _ => rfl) ?_; dsimp only
  refine lGo.step rfl (fun _ => rfl) ?_; dsimp only
  rw [m2, n64_and]
  refine lGo.step rfl (fun _ => rfl) ?_; dsimp only
  rw [n64_add, b2]
  obtain ⟨Z, hZ⟩ : ∃ Z, Z = mpB bf2 8 X := ⟨_, rfl⟩
  rw [← hZ] at l2 b3 ⊢
  refine lGo.step rfl (fun _ => rfl) ?_; dsimp only
  refine lGo.step rfl (fun _ => rfl) ?_; dsimp only
  refine lGo.step rfl (fun _ => rfl) ?_; dsimp only
  refine lGo.step rfl (fun _ => rfl) ?_; dsimp only
  refine lGo.step rfl (fun _ => rfl) ?_; dsimp only
  rw [s3 _ l2]
  refine lGo.step rfl (fun _ => rfl) ?_; dsimp only
  rw [n64_add]
  refine lGo.step rfl (fun _ => rfl) ?_; dsimp only
  refine lGo.step rfl (fun _ => rfl) ?_; dsimp only
  rw [m3, n64_and, b3]
  obtain ⟨V, hV⟩ : ∃ V, V = mpB pcB8 8 X := ⟨_, rfl⟩
  rw [← hV] at l3 f1 f2 g4 g5 ⊢
  refine lGo.step rfl (fun _ => rfl) ?_; dsimp only
  refine lGo.step rfl (fun _ => rfl) ?_; dsimp only
  refine lGo.step rfl (fun _ => rfl) ?_; dsimp only
  refine lGo.step rfl (fun _ => rfl) ?_; dsimp only
  refine lGo.step rfl (fun _ => rfl) ?_; dsimp only
  rw [s4 _ l3]
  refine lGo.step rfl (fun _ => rfl) ?_; dsimp only
  rw [n64_add, show V + V / 256 = fd4 V from rfl]
  refine lGo.step rfl (fun _ => rfl) ?_; dsimp only
  refine lGo.step rfl (fun _ => rfl) ?_; dsimp only
  refine lGo.step rfl (fun _ => rfl) ?_; dsimp only
  refine lGo.step rfl (fun _ => rfl) ?_; dsimp only
  refine lGo.step rfl (fun _ => rfl) ?_; dsimp only
  rw [s5 _ g4]
  refine lGo.step rfl (fun _ => rfl) ?_; dsimp only
  rw [n64_add, show fd4 V + fd4 V / 65536 = fd5 V from rfl]
  refine lGo.step rfl (fun _ => rfl) ?_; dsimp only
  refine lGo.step rfl (fun _ => rfl) ?_; dsimp only
  refine lGo.step rfl (fun _ => rfl) ?_; dsimp only
  refine lGo.step rfl (fun _ => rfl) ?_; dsimp only
  refine lGo.step rfl (fun _ => rfl) ?_; dsimp only
  rw [s6 _ g5]
  refine lGo.step rfl (fun _ => rfl) ?_; dsimp only
  rw [n64_add, show fd5 V + fd5 V / 4294967296 = fd6 V from rfl]
  refine lGo.step rfl (fun _ => rfl) ?_; dsimp only
  refine lGo.step rfl (fun _ => rfl) ?_; dsimp only
  refine lGo.step rfl (fun _ => rfl) ?_; dsimp only
  rw [n64_i32]
  refine lGo.step rfl (fun _ => rfl) ?_; dsimp only
  refine lGo.step rfl (fun _ => rfl) ?_; dsimp only
  rw [i_a127, f1]
  exact lGo.done rfl (fun _ => rfl)
end
