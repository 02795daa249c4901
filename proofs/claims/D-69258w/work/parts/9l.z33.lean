/-! the house's build: the plan stays as it was found -/
section
variable {s S : CS} {own : Nat → Nat} {t T : TS} {L : PLn} {nl nr : Nat} {st ln : Nat → Nat} {lab : Int → Int → Int} {LC LD : Nat → Nat} {DC : Nat → Nat → Nat} {nd : Nat → Nat} {fd fL ou ol mp : Nat} {pid nid aid : Nat → Nat → Nat} {si rc rl sp sl : Nat → Nat}
theorem PlB_ext (p : PlB s t L nl nr st ln lab LC LD DC nd fd fL ou ol mp pid nid aid si rc rl sp sl) (e : ∀ a c, (179 ≤ a ∨ a = 102 ∨ a = 103) → s.1 a = some c → S.1 a = some c) : PlB S t L nl nr st ln lab LC LD DC nd fd fL ou ol mp pid nid aid si rc rl sp sl := by
  obtain ⟨F, ⟨f, g⟩, q1, q2, q3, H, D, Hb, ⟨ml, g3⟩, q4⟩ := p
  exact ⟨⟨F.1, FD_own (LC' := LC) F.2 (Nat.le_refl _) (fun a c h h' => e a c (Or.inl h) h') (fun _ _ => rfl)⟩, ⟨f, e _ _ (Or.inr (Or.inl rfl)) g⟩, q1, q2, q3, DrH_ext2 H Hb (fun a c h h' => e a c (Or.inl h) h'), fun l i hl hi => e _ _ (Or.inl ((Hb l hl).2.2 i hi)) (D l i hl hi), Hb, ⟨ml, e _ _ (Or.inr (Or.inr rfl)) g3⟩, q4⟩
theorem PlB_cg (p : PlB s t L nl nr st ln lab LC LD DC nd fd fL ou ol mp pid nid aid si rc rl sp sl) (e1 : T.1 = t.1) (e2 : ∀ c, c ≠ 47 → T.2.2.1 c = t.2.2.1 c) : PlB s T L nl nr st ln lab LC LD DC nd fd fL ou ol mp pid nid aid si rc rl sp sl := by
  have w := fun c (h : c ≠ 47) => e2 c h
  have key : PlB s T L nl nr st ln lab LC LD DC nd fd fL ou ol mp pid nid aid si rc rl sp sl = PlB s t L nl nr st ln lab LC LD DC nd fd fL ou ol mp pid nid aid si rc rl sp sl := by
    simp only [PlB, FNx, FT, TGe, TPl, ptR, pcR, edR, rwR, lbR, rgR, rwP, ln1, drN, drR, DrH, dcC, e1, w 50 (by omega), w 51 (by omega), w 52 (by omega), w 53 (by omega), w 54 (by omega), w 55 (by omega), w 56 (by omega), w 57 (by omega), w 58 (by omega), w 59 (by omega), w 60 (by omega), w 64 (by omega), w 66 (by omega), w 67 (by omega), w 68 (by omega), w 69 (by omega), w 70 (by omega), w 72 (by omega), w 73 (by omega)]
  rw [key]; exact p
theorem PlB.edh (p : PlB s t L nl nr st ln lab LC LD DC nd fd fL ou ol mp pid nid aid si rc rl sp sl) (hw : wfS s) (hs : 179 ≤ s.2.1) (g : ∃ z f, s.1 170 = some (true, false, 50, .ref 101 :: z :: .ref 171 :: .ref 172 :: .ref 173 :: .ref 174 :: .ref 175 :: f)) : EdH s t L nl LC LD DC nd := by
  obtain ⟨F, ⟨f, g2⟩, q1, q2, q3, H, D, Hb, g3, q4⟩ := p
  exact ⟨hw, hs, q1, q2, ⟨_, g2⟩, g3, H, D, Hb, g⟩
end
