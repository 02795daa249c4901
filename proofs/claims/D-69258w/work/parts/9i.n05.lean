/-! spaces renumbered -/
section RNB
variable {L : PLn} {nl nr : Nat} {st ln : Nat → Nat} {lab : Int → Int → Int}
theorem LabN_of (hg : gdL L nl) (h : RF L nl nr st ln) (hl : gLab (gS L nl) (2 * nP L nl) lab) {f : Int → Int} (h0 : f (lab (-1) (-1)) = -1) (h1 : ∀ k, k < nr → lfB L nl st ln k = true → f (fcS L nl st lab k) = spn L nl st ln k) : LabN L nl nr st ln (fun i j => f (lab i j)) := by
  have fam := RF_fam hg h hl
  have geo := gS_geo hg hl
  have vals : ∀ i j, lab i j = lab (-1) (-1) ∨ ∃ k, k < nr ∧ lfB L nl st ln k = true ∧ fcS L nl st lab k = lab i j := by
    intro i j
    by_cases z : lab i j = lab (-1) (-1)
    · exact Or.inl z
    · obtain ⟨k, a, b, c⟩ := Fam.left geo fam z
      exact Or.inr ⟨k, a, (lfB_i hg h hl a).mpr c, b⟩
  have inj : ∀ i j i' j', f (lab i j) = f (lab i' j') → lab i j = lab i' j' := by
    intro i j i' j' e
    rcases vals i j with a | ⟨k, a1, a2, a3⟩ <;> rcases vals i' j' with b | ⟨k', b1, b2, b3⟩
    · exact a.trans b.symm
    · rw [a, h0, ← b3, h1 k' b1 b2] at e; omega
    · rw [b, h0, ← a3, h1 k a1 a2] at e; omega
    · rw [← a3, ← b3, h1 k a1 a2, h1 k' b1 b2] at e
      have := spn_inj a2 b2 (by omega)
      rw [← a3, ← b3, this]
  refine ⟨⟨fun i j hn => congrArg f (hl.1 i j hn), fun i j hn => congrArg f (hl.2.1 i j hn), fun T h1 h2 i j i' j' e => hl.2.2 T h1 h2 i j i' j' (inj _ _ _ _ e)⟩, h0, ?_⟩
  intro k hk hL
  have : fcS L nl st (fun i j => f (lab i j)) k = f (fcS L nl st lab k) := by
    unfold fcS gLL gqd
    repeat' split
    all_goals rfl
  rw [this]
  exact h1 k hk hL
end RNB
