/-! cells: the queue's steps, plain -/
def quJ (ex : Nat → Prop) (adj : Nat → Nat → Prop) (f : Nat → Nat) (Q : List Nat) (dn : Nat → Prop) : Prop := (∀ c, f c ≠ 0 → rcW ex adj (f c) c) ∧ (∀ c, ex c → f c = 1) ∧ (∀ b, f b ≠ 0 → b ∈ Q ∨ dn b) ∧ (∀ b, dn b → f b ≠ 0 ∧ ∀ c, adj c b → f c ≠ 0 ∧ f c ≤ f b + 1) ∧ (∀ b ∈ Q, f b ≠ 0) ∧ Q.Pairwise (fun a b => f a ≤ f b) ∧ ∀ h R, Q = h :: R → ∀ c, f c ≤ f h + 1
/-- while the cells beside b are looked at: A are those seen -/
def qmJ (ex : Nat → Prop) (adj : Nat → Nat → Prop) (f : Nat → Nat) (b : Nat) (Q : List Nat) (dn A : Nat → Prop) : Prop := (∀ c, f c ≠ 0 → rcW ex adj (f c) c) ∧ (∀ c, ex c → f c = 1) ∧ (∀ x, f x ≠ 0 → x ∈ Q ∨ dn x ∨ x = b) ∧ (∀ x, dn x → f x ≠ 0 ∧ ∀ c, adj c x → f c ≠ 0 ∧ f c ≤ f x + 1) ∧ (∀ x ∈ Q, f x ≠ 0 ∧ f b ≤ f x) ∧ Q.Pairwise (fun a b => f a ≤ f b) ∧ f b ≠ 0 ∧ (∀ c, f c ≤ f b + 1) ∧ ∀ c, A c → f c ≠ 0
theorem quJ_end {ex : Nat → Prop} {adj : Nat → Nat → Prop} {f : Nat → Nat} {dn : Nat → Prop} (h : quJ ex adj f [] dn) : wnR ex adj f := by
  obtain ⟨h1, h2, h3, h4, _⟩ := h
  refine ⟨h1, h2, fun c b hc hb => ?_⟩
  rcases h3 b hb with w | w
  · cases w
  · exact (h4 b w).2 c hc
theorem qmJ_in {ex : Nat → Prop} {adj : Nat → Nat → Prop} {f : Nat → Nat} {b : Nat} {R : List Nat} {dn : Nat → Prop} (h : quJ ex adj f (b :: R) dn) : qmJ ex adj f b R dn (fun _ => False) := by
  obtain ⟨h1, h2, h3, h4, h5, h6, h7⟩ := h
  have h6' := List.pairwise_cons.mp h6
  refine ⟨h1, h2, fun x hx => ?_, h4, fun x hx => ⟨h5 x (List.mem_cons_of_mem _ hx), h6'.1 x hx⟩, h6'.2, h5 b (List.mem_cons_self ..), h7 b R rfl, fun _ h => absurd h id⟩
  rcases h3 x hx with w | w
  · rcases List.mem_cons.mp w with w | w
    · exact Or.inr (Or.inr w)
    · exact Or.inl w
  · exact Or.inr (Or.inl w)
theorem qmJ_skip {ex : Nat → Prop} {adj : Nat → Nat → Prop} {f : Nat → Nat} {b : Nat} {Q : List Nat} {dn A A' : Nat → Prop} (h : qmJ ex adj f b Q dn A) (hA : ∀ c, A' c → A c ∨ f c ≠ 0) : qmJ ex adj f b Q dn A' := by
  obtain ⟨h1, h2, h3, h4, h5, h6, h7, h8, h9⟩ := h
  refine ⟨h1, h2, h3, h4, h5, h6, h7, h8, fun c hc => ?_⟩
  rcases hA c hc with w | w
  · exact h9 c w
  · exact w
theorem qmJ_add {ex : Nat → Prop} {adj : Nat → Nat → Prop} {f : Nat → Nat} {b c : Nat} {Q : List Nat} {dn A A' : Nat → Prop} (h : qmJ ex adj f b Q dn A) (hc : adj c b) (h0 : f c = 0) (hA : ∀ x, A' x → A x ∨ x = c) : qmJ ex adj (fun j => if j = c then f b + 1 else f j) b (Q ++ [c]) dn A' := by
  obtain ⟨h1, h2, h3, h4, h5, h6, h7, h8, h9⟩ := h
  have ne : ∀ x, f x ≠ 0 → (if x = c then f b + 1 else f x) = f x := fun x hx => if_neg (fun z => hx (by rw [z]; exact h0))
  have eb := ne b h7
  refine ⟨fun x hx => ?_, fun x hx => ?_, fun x hx => ?_, fun x hx => ?_, fun x hx => ?_, ?_, ?_, fun x => ?_, fun x hx => ?_⟩
  · dsimp only at hx ⊢
    by_cases w : x = c
    · rw [if_pos w, w]; exact Or.inr ⟨b, hc, h1 b h7⟩
    · rw [if_neg w] at hx ⊢; exact h1 x hx
  · have := h2 x hx
    dsimp only
    rw [ne x (by omega)]; exact this
  · dsimp only at hx
    by_cases w : x = c
    · exact Or.inl (by rw [w]; simp)
    · rw [if_neg w] at hx
      rcases h3 x hx with u | u
      · exact Or.inl (List.mem_append_left _ u)
      · exact Or.inr u
  · obtain ⟨g1, g2⟩ := h4 x hx
    dsimp only
    rw [ne x g1]
    refine ⟨g1, fun y hy => ?_⟩
    obtain ⟨g3, g4⟩ := g2 y hy
    rw [ne y g3]; exact ⟨g3, g4⟩
  · dsimp only
    rw [eb]
    rcases List.mem_append.mp hx with u | u
    · obtain ⟨g1, g2⟩ := h5 x u
      rw [ne x g1]; exact ⟨g1, g2⟩
    · rw [List.mem_singleton.mp u, if_pos rfl]; omega
  · refine List.pairwise_append.mpr ⟨?_, List.pairwise_singleton .., fun x hx y hy => ?_⟩
    · refine h6.imp_of_mem (fun {x y} hx hy hxy => ?_)
      dsimp only
      rw [ne x (h5 x hx).1, ne y (h5 y hy).1]; exact hxy
    · dsimp only
      rw [ne x (h5 x hx).1, List.mem_singleton.mp hy, if_pos rfl]; exact h8 x
  · dsimp only; rw [eb]; exact h7
  · dsimp only; rw [eb]
    split
    · exact Nat.le_refl _
    · exact h8 x
  · dsimp only
    rcases hA x hx with u | u
    · rw [ne x (h9 x u)]; exact h9 x u
    · rw [if_pos u]; omega
theorem qmJ_out {ex : Nat → Prop} {adj : Nat → Nat → Prop} {f : Nat → Nat} {b : Nat} {Q : List Nat} {dn A : Nat → Prop} (h : qmJ ex adj f b Q dn A) (hA : ∀ c, adj c b → A c) : quJ ex adj f Q (fun x => dn x ∨ x = b) := by
  obtain ⟨h1, h2, h3, h4, h5, h6, h7, h8, h9⟩ := h
  refine ⟨h1, h2, h3, fun x hx => ?_, fun x hx => (h5 x hx).1, h6, fun y R e c => ?_⟩
  · rcases hx with u | u
    · exact h4 x u
    · rw [u]; exact ⟨h7, fun c hc => ⟨h9 c (hA c hc), h8 c⟩⟩
  · have := (h5 y (by rw [e]; exact List.mem_cons_self ..)).2
    have := h8 c
    omega
