/-! cells: walking numbers, the plain law: what a queue gives is what lowering gives -/
/-- the outside is reached from a cell within k steps -/
def rcW (ex : Nat → Prop) (adj : Nat → Nat → Prop) : Nat → Nat → Prop
  | 0, _ => False
  | k + 1, c => ex c ∨ ∃ b, adj c b ∧ rcW ex adj k b
theorem rcW_s {ex : Nat → Prop} {adj : Nat → Nat → Prop} : ∀ k c, rcW ex adj k c → rcW ex adj (k + 1) c := by
  intro k
  induction k with
  | zero => exact fun c h => absurd h id
  | succ k ih =>
    rintro c (h | ⟨b, h1, h2⟩)
    · exact Or.inl h
    · exact Or.inr ⟨b, h1, ih b h2⟩
theorem rcW_le {ex : Nat → Prop} {adj : Nat → Nat → Prop} {k m c : Nat} (h : k ≤ m) (r : rcW ex adj k c) : rcW ex adj m c := by
  induction m with
  | zero => rw [show k = 0 by omega] at r; exact r
  | succ m ih =>
    by_cases e : k = m + 1
    · rw [← e]; exact r
    · exact rcW_s m c (ih (by omega))
/-- right walking numbers -/
def wnR (ex : Nat → Prop) (adj : Nat → Nat → Prop) (f : Nat → Nat) : Prop := (∀ c, f c ≠ 0 → rcW ex adj (f c) c) ∧ (∀ c, ex c → f c = 1) ∧ ∀ c b, adj c b → f b ≠ 0 → f c ≠ 0 ∧ f c ≤ f b + 1
theorem wnR_le {ex : Nat → Prop} {adj : Nat → Nat → Prop} {f : Nat → Nat} (h : wnR ex adj f) : ∀ k c, rcW ex adj k c → f c ≠ 0 ∧ f c ≤ k := by
  intro k
  induction k with
  | zero => exact fun c h => absurd h id
  | succ k ih =>
    rintro c (h1 | ⟨b, h1, h2⟩)
    · rw [h.2.1 c h1]; omega
    · obtain ⟨h3, h4⟩ := ih b h2
      obtain ⟨h5, h6⟩ := h.2.2 c b h1 h3
      exact ⟨h5, by omega⟩
theorem wnR_eq {ex : Nat → Prop} {adj : Nat → Nat → Prop} {f g : Nat → Nat} (hf : wnR ex adj f) (hg : wnR ex adj g) (c : Nat) : f c = g c := by
  by_cases h : f c = 0
  · by_cases h2 : g c = 0
    · omega
    · exact absurd h (wnR_le hf _ c (hg.1 c h2)).1
  · have h1 := wnR_le hg _ c (hf.1 c h)
    have h2 := wnR_le hf _ c (hg.1 c h1.1)
    omega
/-- numbers are at most the count of cells -/
theorem wnR_ub {ex : Nat → Prop} {adj : Nat → Nat → Prop} {f : Nat → Nat} (hf : wnR ex adj f) : ∀ k c, f c = k + 2 → ∃ b, adj c b ∧ f b = k + 1 := by
  intro k c h
  have h1 := hf.1 c (by omega)
  rw [h] at h1
  rcases h1 with h1 | ⟨b, h1, h2⟩
  · have := hf.2.1 c h1; omega
  · have h3 := wnR_le hf _ b h2
    have h4 := hf.2.2 c b h1 h3.1
    exact ⟨b, h1, by omega⟩
/-! the queue: numbers so far, done cells, the queue in its order -/
/-- what holds while a queue is worked off (todo: cells beside the head not yet looked at are those of A) -/
def quI (ex : Nat → Prop) (adj : Nat → Nat → Prop) (f : Nat → Nat) (Q : List Nat) (dn : Nat → Prop) : Prop := (∀ c, f c ≠ 0 → rcW ex adj (f c) c) ∧ (∀ c, ex c → f c = 1) ∧ (∀ b, f b ≠ 0 → b ∈ Q ∨ dn b) ∧ (∀ b, dn b → ∀ c, adj c b → f c ≠ 0 ∧ f c ≤ f b + 1) ∧ (∀ b ∈ Q, f b ≠ 0) ∧ Q.Pairwise (fun a b => f a ≤ f b) ∧ ∀ h ∈ Q.head?, ∀ c, f c ≤ f h + 1
theorem quI_end {ex : Nat → Prop} {adj : Nat → Nat → Prop} {f : Nat → Nat} {dn : Nat → Prop} (h : quI ex adj f [] dn) : wnR ex adj f := by
  obtain ⟨h1, h2, h3, h4, _⟩ := h
  refine ⟨h1, h2, fun c b hc hb => ?_⟩
  rcases h3 b hb with w | w
  · cases w
  · exact h4 b w c hc
