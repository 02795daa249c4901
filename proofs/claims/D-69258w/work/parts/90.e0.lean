/-! plain facts about the store -/
theorem lUpd_at (h : lHeap) (a q : Nat) (c : lCell) : lUpd h a c q = if q = a then some c else h q := rfl
def exs (s : CS) (k : Nat) : CS := (lUpd s.1 s.2.1 (true, false, k, [.ref s.2.1, .ref 17, .ref 18, .null, .null, .int 0]), s.2.1 + 1, s.2.2.1 + 1, s.2.2.2 + 6)
theorem lUpdU (h : lHeap) (a : Nat) (c d : lCell) : lUpd (lUpd h a c) a d = lUpd h a d := by
  funext q
  simp only [lUpd_at]
  split <;> rfl
theorem need_eq (v : Int32) (s : CS) : c_394 v s = if v = 0 then some (.inr (s.2.1, exs s 11)) else some (.inl s) := by
  unfold c_394
  split
  · simp [nw, nwc, c_73, c_71, c_69, c_66, xP, lUpd_at, lLook, cup, lUpdU, exs, isK, kdo, isX, isF, fillT1, fillT2]
  · rfl
theorem may_eq (v : Int32) (s : CS) : c_395 v s = if v = 0 then some (.inr (s.2.1, exs s 12)) else some (.inl s) := by
  unfold c_395
  split
  · simp [nw, nwc, c_74, c_71, c_69, c_66, xP, lUpd_at, lLook, cup, lUpdU, exs, isK, kdo, isX, isF, fillT1, fillT2]
  · rfl
/-! numbers: what is at least 0 and below some bound is a natural number -/
theorem i_nat {x : Int32} {n : Nat} (hn : n < 2147483648) (h1 : ¬ x < 0) (h2 : x < Int32.ofNat n) : ∃ k, k < n ∧ x = Int32.ofNat k := by
  have h3 : 0 ≤ x.toInt := by
    have := Int32.not_lt.mp h1
    rw [Int32.le_iff_toInt_le] at this
    exact this
  have h4 : x.toInt < n := by
    rw [Int32.lt_iff_toInt_lt, Int32.toInt_ofNat_of_lt (by omega)] at h2
    exact h2
  refine ⟨x.toInt.toNat, by omega, ?_⟩
  rw [← Int32.toInt_inj, Int32.toInt_ofNat_of_lt (by omega)]
  omega
theorem i_clamp {k : Nat} (h : k < 2147483648) : (Int32.ofNat k).toNatClampNeg = k := by
  show (Int32.ofNat k).toInt.toNat = k
  rw [Int32.toInt_ofNat_of_lt (by omega)]
  omega
theorem i_nlt0 {k : Nat} (h : k < 2147483648) : ¬ Int32.ofNat k < 0 := by
  rw [Int32.lt_iff_toInt_lt, Int32.toInt_ofNat_of_lt (by omega)]
  show ¬ (k : Int) < 0
  omega
theorem i_lt {j k : Nat} (hj : j < 2147483648) (hk : k < 2147483648) : Int32.ofNat j < Int32.ofNat k ↔ j < k := by
  rw [Int32.lt_iff_toInt_lt, Int32.toInt_ofNat_of_lt (by omega), Int32.toInt_ofNat_of_lt (by omega)]
  omega
theorem i_inj {j k : Nat} (hj : j < 2147483648) (hk : k < 2147483648) : Int32.ofNat j = Int32.ofNat k ↔ j = k := by
  constructor
  · intro h
    have := congrArg Int32.toInt h
    rw [Int32.toInt_ofNat_of_lt (by omega), Int32.toInt_ofNat_of_lt (by omega)] at this
    omega
  · intro h; rw [h]
/-- the reference's check of arguments and state -/
theorem goes_eq (x y : Int32) (s : TS) : t_558 x y s = some (if x = 0 ∨ y = 0 then 0 else 1, ptI s 0 (if x = 0 then 1 else if y = 0 then 2 else 0)) := by
  unfold t_558
  by_cases h1 : x = 0
  · simp [h1, ptI]
  · by_cases h2 : y = 0
    · simp [h1, h2, ptI]
    · simp [h1, h2, ptI]
theorem isIn_eq (x n : Int32) (s : TS) : t_560 x n s = some (if ¬ x < 0 ∧ x < n then 1 else 0) := by
  unfold t_560
  by_cases h1 : x < 0
  · simp [h1]
  · by_cases h2 : x < n
    · simp [h1, h2]
    · simp [h1, h2]
