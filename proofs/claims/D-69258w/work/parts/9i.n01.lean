/-! the plan's sides: 2 p along piece p, 2 p + 1 back -/
noncomputable def gS (L : PLn) (nl : Nat) : SD := fun s =>
  if s % 2 = 0 then (if pFl L (kL L nl (s / 2)) = true then 0 else 1, (aX L (kL L nl (s / 2)) (kAn L nl (s / 2)) : Nat), (aY L (kL L nl (s / 2)) (kAn L nl (s / 2)) : Nat), (aX L (kL L nl (s / 2)) (kB L nl (s / 2)) : Nat), (aY L (kL L nl (s / 2)) (kB L nl (s / 2)) : Nat))
  else (if pFl L (kL L nl (s / 2)) = true then 2 else 3, (aX L (kL L nl (s / 2)) (kB L nl (s / 2)) : Nat), (aY L (kL L nl (s / 2)) (kB L nl (s / 2)) : Nat), (aX L (kL L nl (s / 2)) (kAn L nl (s / 2)) : Nat), (aY L (kL L nl (s / 2)) (kAn L nl (s / 2)) : Nat))
section GS
variable {L : PLn} {nl : Nat}
/-- all that a side is, by its piece -/
theorem gS_c {s : Nat} (hs : s < 2 * nP L nl) : ∃ p l a b, p = s / 2 ∧ p < nP L nl ∧ kL L nl p = l ∧ kAn L nl p = a ∧ kB L nl p = b ∧ l < nl ∧ a < b ∧ b ≤ pN L l ∧
    ((s % 2 = 0 ∧ pFl L l = true ∧ gdr (gS L nl) s = 0 ∧ gx0 (gS L nl) s = pX L l + a ∧ gy0 (gS L nl) s = pY L l ∧ gx1 (gS L nl) s = pX L l + b ∧ gy1 (gS L nl) s = pY L l)
    ∨ (s % 2 = 0 ∧ pFl L l = false ∧ gdr (gS L nl) s = 1 ∧ gx0 (gS L nl) s = pX L l ∧ gy0 (gS L nl) s = pY L l + a ∧ gx1 (gS L nl) s = pX L l ∧ gy1 (gS L nl) s = pY L l + b)
    ∨ (s % 2 = 1 ∧ pFl L l = true ∧ gdr (gS L nl) s = 2 ∧ gx0 (gS L nl) s = pX L l + b ∧ gy0 (gS L nl) s = pY L l ∧ gx1 (gS L nl) s = pX L l + a ∧ gy1 (gS L nl) s = pY L l)
    ∨ (s % 2 = 1 ∧ pFl L l = false ∧ gdr (gS L nl) s = 3 ∧ gx0 (gS L nl) s = pX L l ∧ gy0 (gS L nl) s = pY L l + b ∧ gx1 (gS L nl) s = pX L l ∧ gy1 (gS L nl) s = pY L l + a)) := by
  have hp : s / 2 < nP L nl := by omega
  obtain ⟨h1, h2, h3, _⟩ := k_in hp
  refine ⟨s / 2, _, _, _, rfl, hp, rfl, rfl, rfl, h1, h2, h3, ?_⟩
  unfold gdr gx0 gy0 gx1 gy1 gS aX aY
  rcases Nat.mod_two_eq_zero_or_one s with e | e <;> cases hF : pFl L (kL L nl (s / 2)) <;> simp [e]
theorem pHX_t {l : Nat} (h : pFl L l = true) : pHX L l = pX L l + pN L l ∧ pHY L l = pY L l := by unfold pHX pHY; rw [if_pos h, if_pos h]; exact ⟨rfl, rfl⟩
theorem pHX_f {l : Nat} (h : pFl L l = false) : pHX L l = pX L l ∧ pHY L l = pY L l + pN L l := by
  have : ¬ pFl L l = true := by rw [h]; decide
  unfold pHX pHY; rw [if_neg this, if_neg this]; exact ⟨rfl, rfl⟩
theorem aX_t {l d : Nat} (h : pFl L l = true) : aX L l d = pX L l + d ∧ aY L l d = pY L l := by unfold aX aY; rw [if_pos h, if_pos h]; exact ⟨rfl, rfl⟩
theorem aX_f {l d : Nat} (h : pFl L l = false) : aX L l d = pX L l ∧ aY L l d = pY L l + d := by
  have : ¬ pFl L l = true := by rw [h]; decide
  unfold aX aY; rw [if_neg this, if_neg this]; exact ⟨rfl, rfl⟩
/-- the piece of a unit of a line -/
theorem gS_u {l d : Nat} (hl : l < nl) (hd : d < pN L l) : ∃ p, p < nP L nl ∧ kL L nl p = l ∧ kAn L nl p ≤ d ∧ d < kB L nl p ∧
    ((pFl L l = true ∧ gcH (gS L nl) (2 * p) (pX L l + d : Nat) (pY L l) ∧ gcH (gS L nl) (2 * p + 1) (pX L l + d : Nat) (pY L l)) ∨ (pFl L l = false ∧ gcV (gS L nl) (2 * p) (pX L l) (pY L l + d : Nat) ∧ gcV (gS L nl) (2 * p + 1) (pX L l) (pY L l + d : Nat))) := by
  obtain ⟨p, h1, h2, h3, h4⟩ := k_cov hl hd
  refine ⟨p, h1, h2, h3, h4, ?_⟩
  obtain ⟨p1, l1, a1, b1, q1, q2, q3, q4, q5, q6, q7, q8, c1⟩ := gS_c (L := L) (nl := nl) (s := 2 * p) (by omega)
  obtain ⟨p2, l2, a2, b2, r1, r2, r3, r4, r5, r6, r7, r8, c2⟩ := gS_c (L := L) (nl := nl) (s := 2 * p + 1) (by omega)
  rw [show 2 * p / 2 = p by omega] at q1
  rw [show (2 * p + 1) / 2 = p by omega] at r1
  subst q1
  subst r1
  rw [h2] at q3 r3
  subst q3 r3 q4 q5 r4 r5
  have f2 : ¬ (2 * p2 + 1) % 2 = 0 := by omega
  have f1 : ¬ (2 * p2) % 2 = 1 := by omega
  rcases c1 with ⟨c0, c1, c3, c4, c5, c6, c7⟩ | ⟨c0, c1, c3, c4, c5, c6, c7⟩ | c1 | c1
  · rcases c2 with c2 | c2 | ⟨d0, d1, d3, d4, d5, d6, d7⟩ | ⟨d0, d1, d3⟩
    · exact absurd c2.1 f2
    · exact absurd c2.1 f2
    · refine Or.inl ⟨c1, ?_, ?_⟩
      · unfold gcH; rw [c3, c4, c5, c6]; omega
      · unfold gcH; rw [d3, d4, d5, d6]; omega
    · rw [c1] at d1; cases d1
  · rcases c2 with c2 | c2 | ⟨d0, d1, d3⟩ | ⟨d0, d1, d3, d4, d5, d6, d7⟩
    · exact absurd c2.1 f2
    · exact absurd c2.1 f2
    · rw [c1] at d1; cases d1
    · refine Or.inr ⟨c1, ?_, ?_⟩
      · unfold gcV; rw [c3, c4, c5, c7]; omega
      · unfold gcV; rw [d3, d4, d5, d7]; omega
  · exact absurd c1.1 f1
  · exact absurd c1.1 f1
/-- walls -/
theorem gwV_i {i j : Int} : gwV (gS L nl) (2 * nP L nl) i j ↔ ∃ l d, l < nl ∧ d < pN L l ∧ pFl L l = false ∧ i = pX L l ∧ j = (pY L l + d : Nat) := by
  constructor
  · rintro ⟨s, hs, hc⟩
    obtain ⟨p, l, a, b, e1, e2, e3, e4, e5, e6, e7, e8, c⟩ := gS_c hs
    unfold gcV at hc
    rcases c with ⟨c0, c1, c3, c4, c5, c6, c7⟩ | ⟨c0, c1, c3, c4, c5, c6, c7⟩ | ⟨c0, c1, c3, c4, c5, c6, c7⟩ | ⟨c0, c1, c3, c4, c5, c6, c7⟩
    · omega
    · exact ⟨l, (j - pY L l).toNat, e6, by omega, c1, by omega, by omega⟩
    · omega
    · exact ⟨l, (j - pY L l).toNat, e6, by omega, c1, by omega, by omega⟩
  · rintro ⟨l, d, hl, hd, hF, rfl, rfl⟩
    obtain ⟨p, h1, h2, h3, h4, h5 | h5⟩ := gS_u hl hd
    · rw [hF] at h5; cases h5.1
    · exact ⟨2 * p, by omega, h5.2.1⟩
theorem gwH_i {i j : Int} : gwH (gS L nl) (2 * nP L nl) i j ↔ ∃ l d, l < nl ∧ d < pN L l ∧ pFl L l = true ∧ j = pY L l ∧ i = (pX L l + d : Nat) := by
  constructor
  · rintro ⟨s, hs, hc⟩
    obtain ⟨p, l, a, b, e1, e2, e3, e4, e5, e6, e7, e8, c⟩ := gS_c hs
    unfold gcH at hc
    rcases c with ⟨c0, c1, c3, c4, c5, c6, c7⟩ | ⟨c0, c1, c3, c4, c5, c6, c7⟩ | ⟨c0, c1, c3, c4, c5, c6, c7⟩ | ⟨c0, c1, c3, c4, c5, c6, c7⟩
    · exact ⟨l, (i - pX L l).toNat, e6, by omega, c1, by omega, by omega⟩
    · omega
    · exact ⟨l, (i - pX L l).toNat, e6, by omega, c1, by omega, by omega⟩
    · omega
  · rintro ⟨l, d, hl, hd, hF, rfl, rfl⟩
    obtain ⟨p, h1, h2, h3, h4, h5 | h5⟩ := gS_u hl hd
    · exact ⟨2 * p, by omega, h5.2.1⟩
    · rw [hF] at h5; cases h5.1
theorem gS_shape {s : Nat} (hs : s < 2 * nP L nl) : gShape (gS L nl) s := by
  obtain ⟨p, l, a, b, e1, e2, e3, e4, e5, e6, e7, e8, c⟩ := gS_c hs
  unfold gShape
  omega
theorem gS_box (hg : gdL L nl) {s : Nat} (hs : s < 2 * nP L nl) : 0 ≤ gx0 (gS L nl) s ∧ gx0 (gS L nl) s ≤ 24 ∧ 0 ≤ gy0 (gS L nl) s ∧ gy0 (gS L nl) s ≤ 24 := by
  obtain ⟨p, l, a, b, e1, e2, e3, e4, e5, e6, e7, e8, c⟩ := gS_c hs
  obtain ⟨h1, h2, h3⟩ := hg.2.1 l e6
  rcases c with ⟨c0, c1, c3, c4, c5, c6, c7⟩ | ⟨c0, c1, c3, c4, c5, c6, c7⟩ | ⟨c0, c1, c3, c4, c5, c6, c7⟩ | ⟨c0, c1, c3, c4, c5, c6, c7⟩
  · have := pHX_t c1; omega
  · have := pHX_f c1; omega
  · have := pHX_t c1; omega
  · have := pHX_f c1; omega
/-- the same piece, back -/
theorem gS_rev {s : Nat} (hs : s < 2 * nP L nl) : ∃ r, r < 2 * nP L nl ∧ r = (if s % 2 = 0 then s + 1 else s - 1) ∧ gx0 (gS L nl) r = gx1 (gS L nl) s ∧ gy0 (gS L nl) r = gy1 (gS L nl) s ∧ gx1 (gS L nl) r = gx0 (gS L nl) s ∧ gy1 (gS L nl) r = gy0 (gS L nl) s ∧ gdr (gS L nl) r = (gdr (gS L nl) s + 2) % 4 := by
  have hr : (if s % 2 = 0 then s + 1 else s - 1) < 2 * nP L nl := by split <;> omega
  refine ⟨_, hr, rfl, ?_⟩
  have hd : (if s % 2 = 0 then s + 1 else s - 1) / 2 = s / 2 := by split <;> omega
  obtain ⟨p, l, a, b, e1, e2, e3, e4, e5, e6, e7, e8, c⟩ := gS_c hs
  obtain ⟨p', l', a', b', e1', e2', e3', e4', e5', e6', e7', e8', c'⟩ := gS_c hr
  rw [hd] at e1'
  have ep : p' = p := by omega
  subst ep
  have : l' = l := by omega
  subst this
  have : a' = a := by omega
  subst this
  have : b' = b := by omega
  subst this
  have hm : (if s % 2 = 0 then s + 1 else s - 1) % 2 + s % 2 = 1 := by split <;> omega
  generalize (if s % 2 = 0 then s + 1 else s - 1) = r at *
  rcases c with ⟨c0, c1, c⟩ | ⟨c0, c1, c⟩ | ⟨c0, c1, c⟩ | ⟨c0, c1, c⟩ <;> rcases c' with ⟨d0, d1, d⟩ | ⟨d0, d1, d⟩ | ⟨d0, d1, d⟩ | ⟨d0, d1, d⟩ <;> first | omega | (rw [c1] at d1; cases d1)
end GS
