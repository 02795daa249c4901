/-! the bus: characters that are heard -/
def ltN (t : TS) (q : Nat) : Nat → Nat
  | 0 => 0
  | c + 1 => ltN t q c + bN (t.2.2.1 141 (q + (c + 1))) * 2 ^ (c + 1)
theorem v01_N {x : Int32} (h : v01 x) : x = Int32.ofNat (bN x) ∧ bN x ≤ 1 := by
  rcases h with rfl | rfl
  · exact ⟨rfl, by decide⟩
  · exact ⟨rfl, by decide⟩
theorem lett_N {t : TS} {q c : Nat} (h : ∀ i, q < i → i ≤ q + c → v01 (t.2.2.1 141 i)) (hc : c ≤ 10) : lett t q c = Int32.ofNat (ltN t q c) ∧ ltN t q c < 2 ^ (c + 1) := by
  induction c with
  | zero => exact ⟨rfl, by simp [ltN]⟩
  | succ c ih =>
    obtain ⟨i1, i2⟩ := ih (fun i h1 h2 => h i h1 (by omega)) (by omega)
    obtain ⟨v1, v2⟩ := v01_N (h (q + (c + 1)) (by omega) (by omega))
    have e : ltN t q (c + 1) = ltN t q c + bN (t.2.2.1 141 (q + (c + 1))) * 2 ^ (c + 1) := rfl
    constructor
    · unfold lett
      rw [i1, i_and31, Nat.mod_eq_of_lt (show c + 1 < 32 by omega), v1, i_shl (by omega), i_or, e]
      congr 1
      rw [Nat.or_comm, ← Nat.shiftLeft_eq, ← Nat.shiftLeft_add_eq_or_of_lt i2, Nat.shiftLeft_eq]
      omega
    · rw [e, Nat.pow_succ 2 (c + 1)]
      have : bN (t.2.2.1 141 (q + (c + 1))) = 0 ∨ bN (t.2.2.1 141 (q + (c + 1))) = 1 := by omega
      rcases this with z | z <;> rw [z] <;> omega
/-- the byte of a character -/
def by8 (t : TS) (q : Nat) : Nat := bN (t.2.2.1 141 (q + 1)) + 2 * bN (t.2.2.1 141 (q + 2)) + 4 * bN (t.2.2.1 141 (q + 3)) + 8 * bN (t.2.2.1 141 (q + 4)) + 16 * bN (t.2.2.1 141 (q + 5)) + 32 * bN (t.2.2.1 141 (q + 6)) + 64 * bN (t.2.2.1 141 (q + 7)) + 128 * bN (t.2.2.1 141 (q + 8))
theorem ltN_10 (t : TS) (q : Nat) (h : ∀ i, q < i → i ≤ q + 10 → v01 (t.2.2.1 141 i)) : ltN t q 10 / 2 % 256 = by8 t q ∧ ltN t q 10 / 512 % 2 = bN (t.2.2.1 141 (q + 9)) ∧ ltN t q 10 / 1024 = bN (t.2.2.1 141 (q + 10)) ∧ by8 t q < 256 := by
  have b : ∀ i, q < i → i ≤ q + 10 → bN (t.2.2.1 141 i) ≤ 1 := fun i h1 h2 => (v01_N (h i h1 h2)).2
  have b1 := b (q + 1) (by omega) (by omega)
  have b2 := b (q + 2) (by omega) (by omega)
  have b3 := b (q + 3) (by omega) (by omega)
  have b4 := b (q + 4) (by omega) (by omega)
  have b5 := b (q + 5) (by omega) (by omega)
  have b6 := b (q + 6) (by omega) (by omega)
  have b7 := b (q + 7) (by omega) (by omega)
  have b8 := b (q + 8) (by omega) (by omega)
  have b9 := b (q + 9) (by omega) (by omega)
  have b10 := b (q + 10) (by omega) (by omega)
  have e : ltN t q 10 = bN (t.2.2.1 141 (q + 1)) * 2 + bN (t.2.2.1 141 (q + 2)) * 4 + bN (t.2.2.1 141 (q + 3)) * 8 + bN (t.2.2.1 141 (q + 4)) * 16 + bN (t.2.2.1 141 (q + 5)) * 32 + bN (t.2.2.1 141 (q + 6)) * 64 + bN (t.2.2.1 141 (q + 7)) * 128 + bN (t.2.2.1 141 (q + 8)) * 256 + bN (t.2.2.1 141 (q + 9)) * 512 + bN (t.2.2.1 141 (q + 10)) * 1024 := by
    simp [ltN]
  rw [e]
  unfold by8
  generalize bN (t.2.2.1 141 (q + 1)) = x1 at *
  generalize bN (t.2.2.1 141 (q + 2)) = x2 at *
  generalize bN (t.2.2.1 141 (q + 3)) = x3 at *
  generalize bN (t.2.2.1 141 (q + 4)) = x4 at *
  generalize bN (t.2.2.1 141 (q + 5)) = x5 at *
  generalize bN (t.2.2.1 141 (q + 6)) = x6 at *
  generalize bN (t.2.2.1 141 (q + 7)) = x7 at *
  generalize bN (t.2.2.1 141 (q + 8)) = x8 at *
  generalize bN (t.2.2.1 141 (q + 9)) = x9 at *
  generalize bN (t.2.2.1 141 (q + 10)) = x10 at *
  clear e b h
  omega
/-- how the reference reads it -/
theorem t_by8 {t : TS} {q : Nat} (h : ∀ i, q < i → i ≤ q + 10 → v01 (t.2.2.1 141 i)) (hq : q + 10 ≤ 180000) : wh (S := Int32 × Int32) (X := Int32) (fun p14 => (if 0 < p14.2 then Option.bind (α := Int32) (rdI t 141 180001 (Int32.ofNat q + p14.2)) (fun x4 => Option.bind (α := Int32) ((if x4 = 0 then some 0 else some 1)) (fun v30 => some (.inl ((2 * p14.1) + v30, p14.2 - 1)))) else some (.inr p14.1))) (0, 8) = some (Int32.ofNat (by8 t q)) := by
  have st : ∀ k a : Nat, 0 < k → k ≤ 8 → (if (0 : Int32) < Int32.ofNat k then Option.bind (α := Int32) (rdI t 141 180001 (Int32.ofNat q + Int32.ofNat k)) (fun x4 => Option.bind (α := Int32) ((if x4 = 0 then some 0 else some 1)) (fun v30 => some (Sum.inl (β := Int32) ((2 * Int32.ofNat a) + v30, Int32.ofNat k - 1)))) else some (.inr (Int32.ofNat a))) = some (.inl (Int32.ofNat (2 * a + bN (t.2.2.1 141 (q + k))), Int32.ofNat (k - 1))) := by
    intro k a h1 h2
    obtain ⟨v1, v2⟩ := v01_N (h (q + k) (by omega) (by omega))
    rw [if_pos ((i_Llt (by omega) (by omega)).mpr (by show 0 < k; exact h1)), i_add, rdI_n (by omega) (by omega), Option.bind_some]
    have z : (if t.2.2.1 141 (q + k) = 0 then some (0 : Int32) else some 1) = some (t.2.2.1 141 (q + k)) := by
      rcases h (q + k) (by omega) (by omega) with z | z <;> rw [z] <;> rfl
    rw [z, Option.bind_some, v1, i_mulL, i_add, i_bN (by omega), i_subL (a := 1) (by show 1 ≤ k; omega)]
  rw [show ((0 : Int32), (8 : Int32)) = (Int32.ofNat 0, Int32.ofNat 8) from rfl]
  rw [wh_inl (st 8 0 (by omega) (by omega)), wh_inl (st 7 _ (by omega) (by omega)), wh_inl (st 6 _ (by omega) (by omega)), wh_inl (st 5 _ (by omega) (by omega)), wh_inl (st 4 _ (by omega) (by omega)), wh_inl (st 3 _ (by omega) (by omega)), wh_inl (st 2 _ (by omega) (by omega)), wh_inl (st 1 _ (by omega) (by omega))]
  refine wh_inr ?_
  show (if (0 : Int32) < Int32.ofNat 0 then _ else _) = _
  rw [if_neg (by decide)]
  exact congrArg (fun x => some (Sum.inr (Int32.ofNat x))) (by unfold by8; omega)
