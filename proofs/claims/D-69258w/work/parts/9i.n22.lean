/-! the plan in the reference: spaces get their numbers -/
theorem i_ofI (n : Nat) : Int32.ofInt (n : Int) = Int32.ofNat n := by
  rw [← Int32.toInt_inj]
  simp [Int32.toInt_ofInt, Int32.toInt_ofNat']
section
variable {L : PLn} {nl nr : Nat} {t T : TS} {ps : List Nat} {st ln : Nat → Nat} {lab : Int → Int → Int}
/-- what a label becomes, by the first k rings -/
noncomputable def ldF (L : PLn) (nl : Nat) (st ln : Nat → Nat) (lab : Int → Int → Int) (k : Nat) (z : Int) : Int := if z = lab (-1) (-1) then -1 else if h : ∃ k', k' < k ∧ lfB L nl st ln k' = true ∧ fcS L nl st lab k' = z then spn L nl st ln h.choose else -2
theorem ldF_out (k : Nat) : ldF L nl st ln lab k (lab (-1) (-1)) = -1 := if_pos rfl
theorem lf_uni (hg : gdL L nl) (h : RF L nl nr st ln) (hl : gLab (gS L nl) (2 * nP L nl) lab) {k k' : Nat} (hk : k < nr) (hk' : k' < nr) (h1 : lfB L nl st ln k = true) (h2 : lfB L nl st ln k' = true) (e : fcS L nl st lab k = fcS L nl st lab k') : k = k' :=
  Fam.uniq (gS_geo hg hl) (RF_fam hg h hl) hk hk' ((lfB_i hg h hl hk).mp h1) ((lfB_i hg h hl hk').mp h2) e
theorem lf_out (hg : gdL L nl) (h : RF L nl nr st ln) (hl : gLab (gS L nl) (2 * nP L nl) lab) {k : Nat} (hk : k < nr) (h1 : lfB L nl st ln k = true) : fcS L nl st lab k ≠ lab (-1) (-1) := by
  rcases Fam.or (gS_geo hg hl) (RF_fam hg h hl) hk with q | q
  · exact q.2.1
  · exact absurd ((lfB_i hg h hl hk).mp h1) q.1
theorem ldF_lf (hg : gdL L nl) (h : RF L nl nr st ln) (hl : gLab (gS L nl) (2 * nP L nl) lab) {j k : Nat} (hj : j ≤ nr) (hk : k < j) (h1 : lfB L nl st ln k = true) : ldF L nl st ln lab j (fcS L nl st lab k) = spn L nl st ln k := by
  unfold ldF
  rw [if_neg (lf_out hg h hl (by omega) h1)]
  have e : ∃ k', k' < j ∧ lfB L nl st ln k' = true ∧ fcS L nl st lab k' = fcS L nl st lab k := ⟨k, hk, h1, rfl⟩
  rw [dif_pos e]
  obtain ⟨a, b, c⟩ := e.choose_spec
  rw [lf_uni hg h hl (by omega) (by omega) b h1 c]
/-- a ring goes by -/
theorem ldF_succ (hg : gdL L nl) (h : RF L nl nr st ln) (hl : gLab (gS L nl) (2 * nP L nl) lab) {k : Nat} (hk : k < nr) : (lfB L nl st ln k = true → ldF L nl st ln lab k (fcS L nl st lab k) = -2 ∧ ∀ z, ldF L nl st ln lab (k + 1) z = if z = fcS L nl st lab k then (spn L nl st ln k : Int) else ldF L nl st ln lab k z) ∧ (¬ lfB L nl st ln k = true → ldF L nl st ln lab k (fcS L nl st lab k) ≠ -2 ∧ ∀ z, ldF L nl st ln lab (k + 1) z = ldF L nl st ln lab k z) := by
  have keep : ∀ z, (lfB L nl st ln k = true → z ≠ fcS L nl st lab k) → ldF L nl st ln lab (k + 1) z = ldF L nl st ln lab k z := by
    intro z hz
    unfold ldF
    by_cases e0 : z = lab (-1) (-1)
    · rw [if_pos e0, if_pos e0]
    · rw [if_neg e0, if_neg e0]
      by_cases e : ∃ k', k' < k ∧ lfB L nl st ln k' = true ∧ fcS L nl st lab k' = z
      · have e' : ∃ k', k' < k + 1 ∧ lfB L nl st ln k' = true ∧ fcS L nl st lab k' = z := by obtain ⟨a, b, c⟩ := e; exact ⟨a, by omega, c⟩
        rw [dif_pos e, dif_pos e']
        obtain ⟨a1, a2, a3⟩ := e.choose_spec
        obtain ⟨b1, b2, b3⟩ := e'.choose_spec
        rw [lf_uni hg h hl (by omega) (by omega) b2 a2 (b3.trans a3.symm)]
      · rw [dif_neg e, dif_neg]
        rintro ⟨k', a, b, c⟩
        by_cases w : k' = k
        · rw [w] at b c; exact hz b c.symm
        · exact e ⟨k', by omega, b, c⟩
  constructor
  · intro h1
    constructor
    · unfold ldF
      rw [if_neg (lf_out hg h hl hk h1), dif_neg]
      rintro ⟨k', a, b, c⟩
      have := lf_uni hg h hl (by omega) hk b h1 c
      omega
    · intro z
      by_cases e : z = fcS L nl st lab k
      · rw [if_pos e, e, ldF_lf hg h hl hk (by omega) h1]
      · rw [if_neg e]; exact keep z (fun _ => e)
  · intro h1
    refine ⟨?_, fun z => keep z (fun q => absurd q h1)⟩
    by_cases e0 : fcS L nl st lab k = lab (-1) (-1)
    · rw [e0, ldF_out]; omega
    · obtain ⟨i, j, e⟩ := Fam.cell (RF_fam hg h hl) hk
      obtain ⟨k', a, b, c⟩ := Fam.left (gS_geo hg hl) (RF_fam hg h hl) (i := i) (j := j) (by rw [e]; exact e0)
      have c' := (lfB_i hg h hl a).mpr c
      have b' : fcS L nl st lab k' = fcS L nl st lab k := b.trans e
      have := lf_first hg h hl a hk c' h1 b'
      rw [← b', ldF_lf hg h hl (by omega) this c']
      omega
theorem ldF_LabN (hg : gdL L nl) (h : RF L nl nr st ln) (hl : gLab (gS L nl) (2 * nP L nl) lab) : LabN L nl nr st ln (fun i j => ldF L nl st ln lab nr (lab i j)) := LabN_of hg h hl (f := ldF L nl st ln lab nr) (ldF_out nr) (fun _ hk h1 => ldF_lf hg h hl (Nat.le_refl _) hk h1)
end
