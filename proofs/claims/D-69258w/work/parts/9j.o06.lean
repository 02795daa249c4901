/-! building: portals lie inside -/
section
variable {t T : TS} {L : PLn} {nl nr : Nat} {st ln : Nat → Nat} {lab : Int → Int → Int} {nm : Nat → Int32}
theorem por_lab (F : FT t L nl nr st ln lab nm) {p u : Nat} (hp : p < nP L nl) (h1 : kAn L nl p ≤ u) (h2 : u < kB L nl p) : (pFl L (kL L nl p) = true → gLL (gS L nl) lab (2 * p) = lab (pX L (kL L nl p) + u : Nat) (pY L (kL L nl p)) ∧ gLL (gS L nl) lab (2 * p + 1) = lab (pX L (kL L nl p) + u : Nat) ((pY L (kL L nl p) : Int) - 1)) ∧ (pFl L (kL L nl p) = false → gLL (gS L nl) lab (2 * p) = lab ((pX L (kL L nl p) : Int) - 1) (pY L (kL L nl p) + u : Nat) ∧ gLL (gS L nl) lab (2 * p + 1) = lab (pX L (kL L nl p)) (pY L (kL L nl p) + u : Nat)) := by
  have G := gS_geo F.1 F.2.2.2.1.1
  obtain ⟨p1, l1, a1, b1, rfl', e2, e3, e4, e5, e6, e7, e8, e9⟩ := gS_c (L := L) (nl := nl) (s := 2 * p) (by omega)
  obtain ⟨p2, l2, a2, b2, rfl'', f2, f3, f4, f5, f6, f7, f8, f9⟩ := gS_c (L := L) (nl := nl) (s := 2 * p + 1) (by omega)
  rw [show 2 * p / 2 = p by omega] at rfl'
  rw [show (2 * p + 1) / 2 = p by omega] at rfl''
  subst rfl'
  subst rfl''
  subst e3
  subst e4
  subst e5
  subst f3
  subst f4
  subst f5
  constructor
  · intro hF
    rcases e9 with ⟨z0, zF, z, z1, z2, z3, z4⟩ | ⟨z0, zF, _⟩ | ⟨z0, _⟩ | ⟨z0, _⟩
    · rcases f9 with ⟨y0, _⟩ | ⟨y0, _⟩ | ⟨y0, yF, y, y1, y2, y3, y4⟩ | ⟨y0, yF, _⟩
      · omega
      · omega
      · refine ⟨(G.LLH (s := 2 * p2) (by omega) (i := (pX L (kL L nl p2) + u : Nat)) (j := (pY L (kL L nl p2) : Nat)) ⟨z2, Or.inl ⟨z, by omega, by omega⟩⟩).1 z, (G.LLH (s := 2 * p2 + 1) (by omega) (i := (pX L (kL L nl p2) + u : Nat)) (j := (pY L (kL L nl p2) : Nat)) ⟨y2, Or.inr ⟨y, by omega, by omega⟩⟩).2 y⟩
      · rw [hF] at yF; cases yF
    · rw [hF] at zF; cases zF
    · omega
    · omega
  · intro hF
    rcases e9 with ⟨z0, zF, _⟩ | ⟨z0, zF, z, z1, z2, z3, z4⟩ | ⟨z0, _⟩ | ⟨z0, _⟩
    · rw [hF] at zF; cases zF
    · rcases f9 with ⟨y0, _⟩ | ⟨y0, _⟩ | ⟨y0, yF, _⟩ | ⟨y0, yF, y, y1, y2, y3, y4⟩
      · omega
      · omega
      · rw [hF] at yF; cases yF
      · refine ⟨(G.LLV (s := 2 * p2) (by omega) (i := (pX L (kL L nl p2) : Nat)) (j := (pY L (kL L nl p2) + u : Nat)) ⟨z1, Or.inl ⟨z, by omega, by omega⟩⟩).1 z, (G.LLV (s := 2 * p2 + 1) (by omega) (i := (pX L (kL L nl p2) : Nat)) (j := (pY L (kL L nl p2) + u : Nat)) ⟨y1, Or.inr ⟨y, by omega, by omega⟩⟩).2 y⟩
    · omega
    · omega
/-- a cell with a label is inside -/
theorem lab_in (F : FT t L nl nr st ln lab nm) {i j : Int} (h : lab i j ≠ -1) : 0 ≤ i ∧ i < 24 ∧ 0 ≤ j ∧ j < 24 := by
  have G := gS_geo F.1 F.2.2.2.1.1
  exact G.inBox (by rw [F.2.2.2.1.2.1]; exact h)
end
