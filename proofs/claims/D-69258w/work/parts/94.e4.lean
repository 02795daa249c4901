/-! loops that count -/
theorem wh_cnt {A X : Type} {f : A → Option (A ⊕ X)} {Q : X → Prop} (n : Nat) (P : Nat → A → Prop) (h : ∀ k a, k < n → P k a → (∃ x, f a = some (.inr x) ∧ Q x) ∨ ∃ a', f a = some (.inl a') ∧ P (k + 1) a') (he : ∀ a, P n a → ∃ x, f a = some (.inr x) ∧ Q x) {a : A} (ha : P 0 a) : ∃ x, wh f a = some x ∧ Q x := by
  have key : ∀ j k a, k + j = n → P k a → ∃ x, wh f a = some x ∧ Q x := by
    intro j
    induction j with
    | zero =>
      intro k a hk hp
      obtain ⟨x, h1, h2⟩ := he a (by rw [show n = k by omega]; exact hp)
      exact ⟨x, wh_inr h1, h2⟩
    | succ j ih =>
      intro k a hk hp
      rcases h k a (by omega) hp with ⟨x, h1, h2⟩ | ⟨a', h1, h2⟩
      · exact ⟨x, wh_inr h1, h2⟩
      · obtain ⟨x, h3, h4⟩ := ih (k + 1) a' (by omega) h2
        exact ⟨x, (wh_inl h1).trans h3, h4⟩
  exact key n 0 a (by omega) ha
/-- two loops step by step -/
theorem wh_two {A X B Y : Type} {f : A → Option (A ⊕ X)} {g : B → Option (B ⊕ Y)} {Q : X → Y → Prop} (n : Nat) (P : Nat → A → B → Prop)
    (h : ∀ k a b, k < n → P k a b → (∃ x y, f a = some (.inr x) ∧ g b = some (.inr y) ∧ Q x y) ∨ ∃ a' b', f a = some (.inl a') ∧ g b = some (.inl b') ∧ P (k + 1) a' b')
    (he : ∀ a b, P n a b → ∃ x y, f a = some (.inr x) ∧ g b = some (.inr y) ∧ Q x y) {a : A} {b : B} (ha : P 0 a b) : ∃ x y, wh f a = some x ∧ wh g b = some y ∧ Q x y := by
  have key : ∀ j k a b, k + j = n → P k a b → ∃ x y, wh f a = some x ∧ wh g b = some y ∧ Q x y := by
    intro j
    induction j with
    | zero =>
      intro k a b hk hp
      obtain ⟨x, y, h1, h2, h3⟩ := he a b (by rw [show n = k by omega]; exact hp)
      exact ⟨x, y, wh_inr h1, wh_inr h2, h3⟩
    | succ j ih =>
      intro k a b hk hp
      rcases h k a b (by omega) hp with ⟨x, y, h1, h2, h3⟩ | ⟨a', b', h1, h2, h3⟩
      · exact ⟨x, y, wh_inr h1, wh_inr h2, h3⟩
      · obtain ⟨x, y, h4, h5, h6⟩ := ih (k + 1) a' b' (by omega) h3
        exact ⟨x, y, (wh_inl h1).trans h4, (wh_inl h2).trans h5, h6⟩
  exact key n 0 a b (by omega) ha
/-- two loops of which each ends by a measure of both -/
theorem wh_msr {A X B Y : Type} {f : A → Option (A ⊕ X)} {g : B → Option (B ⊕ Y)} {Q : X → Y → Prop} (m : A → B → Nat) (P : A → B → Prop)
    (h : ∀ a b, P a b → (∃ x y, f a = some (.inr x) ∧ g b = some (.inr y) ∧ Q x y) ∨ ∃ a' b', f a = some (.inl a') ∧ g b = some (.inl b') ∧ P a' b' ∧ m a' b' < m a b)
    {a : A} {b : B} (ha : P a b) : ∃ x y, wh f a = some x ∧ wh g b = some y ∧ Q x y := by
  generalize hn : m a b = n
  induction n using Nat.strongRecOn generalizing a b with
  | ind n ih =>
    rcases h a b ha with ⟨x, y, h1, h2, h3⟩ | ⟨a', b', h1, h2, h3, h4⟩
    · exact ⟨x, y, wh_inr h1, wh_inr h2, h3⟩
    · obtain ⟨x, y, h5, h6, h7⟩ := ih (m a' b') (by omega) h3 rfl
      exact ⟨x, y, (wh_inl h1).trans h5, (wh_inl h2).trans h6, h7⟩
/-! numbers -/
theorem i_suc (k : Nat) : Int32.ofNat k + 1 = Int32.ofNat (k + 1) := by rw [Int32.ofNat_add]; rfl
theorem i_add (j k : Nat) : Int32.ofNat j + Int32.ofNat k = Int32.ofNat (j + k) := (Int32.ofNat_add ..).symm
theorem i_mul (j k : Nat) : Int32.ofNat j * Int32.ofNat k = Int32.ofNat (j * k) := (Int32.ofNat_mul ..).symm
theorem i_le {j k : Nat} (hj : j < 2147483648) (hk : k < 2147483648) : Int32.ofNat j ≤ Int32.ofNat k ↔ j ≤ k := by
  rw [Int32.le_iff_toInt_le, Int32.toInt_ofNat_of_lt (by omega), Int32.toInt_ofNat_of_lt (by omega)]
  omega
theorem i_sub {j k : Nat} (h : k ≤ j) : Int32.ofNat j - Int32.ofNat k = Int32.ofNat (j - k) := by
  have : Int32.ofNat j = Int32.ofNat (j - k) + Int32.ofNat k := by rw [i_add, Nat.sub_add_cancel h]
  rw [this, Int32.add_sub_cancel]
theorem i_of {x : Int32} (h : ¬ x < 0) : ∃ k, k < 2147483648 ∧ x = Int32.ofNat k := by
  have h3 : 0 ≤ x.toInt := by
    have := Int32.not_lt.mp h
    rw [Int32.le_iff_toInt_le] at this
    exact this
  have h4 := Int32.toInt_lt x
  refine ⟨x.toInt.toNat, by omega, ?_⟩
  rw [← Int32.toInt_inj, Int32.toInt_ofNat_of_lt (by omega)]
  omega
theorem i_32 (k : Nat) : k.toInt32 = Int32.ofNat k := rfl
theorem i_lit (n : Nat) : (OfNat.ofNat n : Int32) = Int32.ofNat n := rfl
theorem i_toInt {k : Nat} (h : k < 2147483648) : (Int32.ofNat k).toInt = k := Int32.toInt_ofNat_of_lt (by omega)
theorem i_ne1 {k : Nat} (h : k < 2147483648) : Int32.ofNat k ≠ -1 := by
  intro e
  have := congrArg Int32.toInt e
  rw [i_toInt h] at this
  have h2 : (-1 : Int32).toInt = -1 := by decide
  omega
