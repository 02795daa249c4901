/-! the library: StringBuilder.append of a number -/
theorem digs_app : ∀ (k n : Nat) (r : List Value), digs k n r = digs k n [] ++ r := by
  intro k
  induction k with
  | zero => intro n r; rfl
  | succ k ih =>
    intro n r
    unfold digs
    by_cases z : n < 10
    · rw [if_pos z, if_pos z]
      rfl
    · rw [if_neg z, if_neg z, ih, ih _ [_], List.append_assoc]
      rfl
theorem digs_len : ∀ (i k n : Nat) (r : List Value), 1 ≤ i → i ≤ k → n < 10 ^ i → (i = 1 ∨ 10 ^ (i - 1) ≤ n) → (digs k n r).length = i + r.length := by
  intro i
  induction i with
  | zero => intro k n r h; omega
  | succ i ih =>
    intro k n r _ hk hn hi
    obtain ⟨k, rfl⟩ : ∃ j, k = j + 1 := ⟨k - 1, by omega⟩
    unfold digs
    by_cases z : n < 10
    · rw [if_pos z]
      have : i = 0 := by
        rcases hi with h | h
        · omega
        · cases i with
          | zero => rfl
          | succ i =>
            have h1 : 10 ^ (i + 1) = 10 ^ i * 10 := Nat.pow_succ 10 i
            have h2 : 0 < 10 ^ i := Nat.pow_pos (by decide)
            rw [show i + 1 + 1 - 1 = i + 1 by omega] at h
            omega
      subst this
      simp only [List.length_cons]
      omega
    · rw [if_neg z]
      have i1 : 1 ≤ i := by
        rcases Nat.eq_zero_or_pos i with h | h
        · subst h
          have hn : n < 10 ^ (0 + 1) := hn
          rw [show 10 ^ (0 + 1) = 10 from rfl] at hn
          omega
        · exact h
      have h1 : 10 ^ (i + 1) = 10 ^ i * 10 := Nat.pow_succ 10 i
      have h3 : n / 10 < 10 ^ i := by omega
      rw [ih k (n / 10) _ i1 (by omega) h3 ?_, List.length_cons]
      · omega
      · rcases Nat.eq_or_lt_of_le i1 with h | h
        · exact Or.inl h.symm
        · right
          rcases hi with hi | hi
          · omega
          · obtain ⟨j, rfl⟩ : ∃ j, i = j + 1 := ⟨i - 1, by omega⟩
            have h4 : 10 ^ (j + 1) = 10 ^ j * 10 := Nat.pow_succ 10 j
            rw [show j + 1 + 1 - 1 = j + 1 by omega] at hi
            rw [show j + 1 - 1 = j by omega]
            omega
theorem i_tneg {n : Nat} (h : n < 2147483648) : (-Int32.ofNat n).toInt = -(n : Int) := by
  rw [Int32.toInt_neg, i_toInt h, Int.bmod_eq_of_le (by omega) (by omega)]
theorem i_nle {n m : Nat} (hn : n < 2147483648) (hm : m < 2147483648) : -Int32.ofNat n ≤ -Int32.ofNat m ↔ m ≤ n := by
  rw [Int32.le_iff_toInt_le, i_tneg hn, i_tneg hm]
  omega
theorem i_nlt {n m : Nat} (hn : n < 2147483648) (hm : m < 2147483648) : -Int32.ofNat n < -Int32.ofNat m ↔ m < n := by
  rw [Int32.lt_iff_toInt_lt, i_tneg hn, i_tneg hm]
  omega
theorem i_ndiv {n : Nat} (h : n < 2147483648) : -Int32.ofNat n / 100 = -Int32.ofNat (n / 100) := by
  apply Int32.toInt.inj
  rw [Int32.toInt_div, i_tneg h, i_tneg (by omega), show (100 : Int32).toInt = 100 from rfl, Int.neg_tdiv, Int.bmod_eq_of_le]
  · rw [Int.tdiv_eq_ediv_of_nonneg (by omega)]
    omega
  · rw [Int.tdiv_eq_ediv_of_nonneg (by omega)]; omega
  · rw [Int.tdiv_eq_ediv_of_nonneg (by omega)]; omega
theorem i_rem {n : Nat} : -Int32.ofNat (n / 100) * 100 - -Int32.ofNat n = Int32.ofNat (n % 100) := by
  rw [Int32.sub_eq_add_neg, Int32.neg_neg, Int32.neg_mul, Int32.add_comm, ← Int32.sub_eq_add_neg, show (100 : Int32) = Int32.ofNat 100 from rfl, i_mul, i_sub (by omega)]
  congr 1
  omega
section
variable {E : lE} {G : lHeap}
/-- how many digits -/
theorem sz_lp {M : lMem} {n : Nat} (hn : n < 2147483648) : ∀ (k i : Nat), i + k = 10 → 1 ≤ i → (i = 1 ∨ 10 ^ (i - 1) ≤ n) → ∀ lv, lGet lv 0 = some (.int (-Int32.ofNat n)) → lGet lv 1 = some (.int 0) → lGet lv 2 = some (.int (-Int32.ofNat (10 ^ i))) → lGet lv 3 = some (.int (Int32.ofNat i)) → ∀ D, lGo E prog D cd_100 13 (lv, [], M) (.inl (some (.int (Int32.ofNat (digs 10 n []).length))), M) := by
  intro k
  induction k with
  | zero =>
    intro i hi h1 hb lv l0 l1 l2 l3 D
    obtain rfl : i = 10 := by omega
    refine lGo.loadI rfl l3 ?_
    refine lGo.step rfl (fun _ => rfl) ?_; dsimp only
    refine lGo.step rfl (fun _ => rfl) ?_; dsimp only
    refine lGo.brT (by decide) ?_
    refine lGo.step rfl (fun _ => rfl) ?_; dsimp only
    refine lGo.loadI rfl l1 ?_
    refine lGo.step rfl (fun _ => rfl) ?_; dsimp only
    have : (digs 10 n []).length = 10 + 0 := digs_len 10 10 n [] (by decide) (by decide) (by omega) hb
    rw [this]
    exact lGo.done rfl (fun _ => rfl)
  | succ k ih =>
    intro i hi h1 hb lv l0 l1 l2 l3 D
    have hp : 10 ^ i ≤ 10 ^ 9 := Nat.pow_le_pow_right (by decide) (by omega)
    have hp : 10 ^ i ≤ 1000000000 := hp
    refine lGo.loadI rfl l3 ?_
    refine lGo.step rfl (fun _ => rfl) ?_; dsimp only
    refine lGo.step rfl (fun _ => rfl) ?_; dsimp only
    refine lGo.brF (decide_eq_false (fun w => ?_)) ?_
    · have := (i_le (j := 10) (k := i) (by omega) (by omega)).mp w
      omega
    refine lGo.loadI rfl l0 ?_
    refine lGo.loadI rfl l2 ?_
    refine lGo.step rfl (fun _ => rfl) ?_; dsimp only
    by_cases z : 10 ^ i ≤ n
    · refine lGo.brT (decide_eq_true ((i_nle hn (by omega)).mpr z)) ?_
      refine lGo.step rfl (fun _ => rfl) ?_; dsimp only
      refine lGo.loadI rfl l2 ?_
      refine lGo.step rfl (fun _ => rfl) ?_; dsimp only
      refine lGo.step rfl (fun _ => rfl) ?_; dsimp only
      have e : 10 * -Int32.ofNat (10 ^ i) = -Int32.ofNat (10 ^ (i + 1)) := by
        rw [Int32.mul_neg, show (10 : Int32) = Int32.ofNat 10 from rfl, i_mul, Nat.pow_succ, Nat.mul_comm]
      rw [e]
      refine lGo.inc rfl (x := Int32.ofNat i) (by repeat (first | assumption | exact lGet_s1 | refine lGet_sn ?_ (by decide) (by first | exact Or.inl (by decide) | exact Or.inr rfl))) ?_
      rw [i_suc]
      refine lGo.step rfl (fun _ => rfl) ?_; dsimp only
      exact ih (i + 1) (by omega) (by omega) (Or.inr z) _ (by repeat (first | assumption | exact lGet_s1 | refine lGet_sn ?_ (by decide) (by first | exact Or.inl (by decide) | exact Or.inr rfl))) (by repeat (first | assumption | exact lGet_s1 | refine lGet_sn ?_ (by decide) (by first | exact Or.inl (by decide) | exact Or.inr rfl))) (by repeat (first | assumption | exact lGet_s1 | refine lGet_sn ?_ (by decide) (by first | exact Or.inl (by decide) | exact Or.inr rfl))) (by repeat (first | assumption | exact lGet_s1 | refine lGet_sn ?_ (by decide) (by first | exact Or.inl (by decide) | exact Or.inr rfl))) D
    · refine lGo.brF (decide_eq_false (fun w => z ((i_nle hn (by omega)).mp w))) ?_
      refine lGo.loadI rfl l3 ?_
      refine lGo.loadI rfl l1 ?_
      refine lGo.step rfl (fun _ => rfl) ?_; dsimp only
      have : (digs 10 n []).length = i + 0 := digs_len i 10 n [] h1 (by omega) (by omega) hb
      rw [this, Nat.add_zero, show Int32.ofNat i + 0 = Int32.ofNat i from Int32.add_zero _]
      exact lGo.done rfl (fun _ => rfl)
theorem sp_100 {M : lMem} {n : Nat} (hn : n < 2147483648) : lSp E prog 1 100 [.int (Int32.ofNat n)] M (.inl (some (.int (Int32.ofNat (digs 10 n []).length))), M) := by
  refine lGo.sp (D := 0) pg_100 (Nat.le_of_ble_eq_true rfl) ?_
  refine lGo.step rfl (fun _ => rfl) ?_; dsimp only
  refine lGo.step rfl (fun _ => rfl) ?_; dsimp only
  refine lGo.step rfl (fun _ => rfl) ?_; dsimp only
  refine lGo.step rfl (fun _ => rfl) ?_; dsimp only
  refine lGo.brF (decide_eq_false (i_nlt0 hn)) ?_
  refine lGo.step rfl (fun _ => rfl) ?_; dsimp only
  refine lGo.step rfl (fun _ => rfl) ?_; dsimp only
  refine lGo.step rfl (fun _ => rfl) ?_; dsimp only
  refine lGo.step rfl (fun _ => rfl) ?_; dsimp only
  refine lGo.step rfl (fun _ => rfl) ?_; dsimp only
  refine lGo.step rfl (fun _ => rfl) ?_; dsimp only
  refine lGo.step rfl (fun _ => rfl) ?_; dsimp only
  refine lGo.step rfl (fun _ => rfl) ?_; dsimp only
  refine lGo.step rfl (fun _ => rfl) ?_; dsimp only
  exact sz_lp hn 9 1 rfl (by decide) (Or.inl rfl) _ rfl rfl rfl rfl 0
end
