/-! the plan's sides: what the geometry asks -/
section G2
variable {L : PLn} {nl : Nat}
theorem cr_pt {l m x y : Nat} (hl : l < nl) (hm : m < nl) (h : pFl L m ≠ pFl L l) (h1 : onL L l x y) (h2 : onL L m x y) : isPt L nl x y := ⟨l, hl, h1, Or.inr ⟨m, hm, h, h2⟩⟩
theorem gS_uniq (hg : gdL L nl) : gUniq (gS L nl) (2 * nP L nl) := by
  intro s r hs hr he i j hc
  obtain ⟨p, l, a, b, e1, e2, e3, e4, e5, e6, e7, e8, c⟩ := gS_c hs
  obtain ⟨p', l', a', b', e1', e2', e3', e4', e5', e6', e7', e8', c'⟩ := gS_c hr
  have key : ∀ d d' : Nat, a ≤ d → d < b → a' ≤ d' → d' < b' → s % 2 = r % 2 → pFl L l = pFl L l' → aX L l d = aX L l' d' → aY L l d = aY L l' d' → s = r := by
    intro d d' h1 h2 h3 h4 h5 h6 h7 h8
    have hll : l = l' := by
      by_cases hll : l = l'
      · exact hll
      · exfalso
        have := hg.2.2 l l' e6 e6' hll h6
        cases hF : pFl L l with
        | true =>
          have hF' : pFl L l' = true := by rw [← h6]; exact hF
          rw [if_pos hF] at this
          have := pHX_t hF; have := pHX_t hF'; have := aX_t (d := d) hF; have := aX_t (d := d') hF'
          omega
        | false =>
          have hF' : pFl L l' = false := by rw [← h6]; exact hF
          rw [if_neg (by rw [hF]; decide)] at this
          have := pHX_f hF; have := pHX_f hF'; have := aX_f (d := d) hF; have := aX_f (d := d') hF'
          omega
    subst hll
    have hd : d = d' := by
      cases hF : pFl L l with
      | true => have := aX_t (d := d) hF; have := aX_t (d := d') hF; omega
      | false => have := aX_f (d := d) hF; have := aX_f (d := d') hF; omega
    subst hd
    have := k_uni e2 e2' (e3.trans e3'.symm) (d := d) (by omega) (by omega) (by omega) (by omega)
    omega
  rcases c with ⟨c0, c1, c3, c4, c5, c6, c7⟩ | ⟨c0, c1, c3, c4, c5, c6, c7⟩ | ⟨c0, c1, c3, c4, c5, c6, c7⟩ | ⟨c0, c1, c3, c4, c5, c6, c7⟩ <;> rcases c' with ⟨d0, d1, d3, d4, d5, d6, d7⟩ | ⟨d0, d1, d3, d4, d5, d6, d7⟩ | ⟨d0, d1, d3, d4, d5, d6, d7⟩ | ⟨d0, d1, d3, d4, d5, d6, d7⟩ <;> first | (exfalso; omega) | skip
  · unfold gcV gcH at hc
    have h1 := aX_t (d := (i - pX L l).toNat) c1; have h2 := aX_t (d := (i - pX L l').toNat) d1
    exact key (i - pX L l).toNat (i - pX L l').toNat (by omega) (by omega) (by omega) (by omega) (by omega) (c1.trans d1.symm) (by omega) (by omega)
  · unfold gcV gcH at hc
    have h1 := aX_f (d := (j - pY L l).toNat) c1; have h2 := aX_f (d := (j - pY L l').toNat) d1
    exact key (j - pY L l).toNat (j - pY L l').toNat (by omega) (by omega) (by omega) (by omega) (by omega) (c1.trans d1.symm) (by omega) (by omega)
  · unfold gcV gcH at hc
    have h1 := aX_t (d := (i - pX L l).toNat) c1; have h2 := aX_t (d := (i - pX L l').toNat) d1
    exact key (i - pX L l).toNat (i - pX L l').toNat (by omega) (by omega) (by omega) (by omega) (by omega) (c1.trans d1.symm) (by omega) (by omega)
  · unfold gcV gcH at hc
    have h1 := aX_f (d := (j - pY L l).toNat) c1; have h2 := aX_f (d := (j - pY L l').toNat) d1
    exact key (j - pY L l).toNat (j - pY L l').toNat (by omega) (by omega) (by omega) (by omega) (by omega) (c1.trans d1.symm) (by omega) (by omega)
/-- nothing crosses within a piece -/
theorem gS_in {s : Nat} (hs : s < 2 * nP L nl) : gIn (gS L nl) (2 * nP L nl) s := by
  obtain ⟨p, l, a, b, e1, e2, e3, e4, e5, e6, e7, e8, c⟩ := gS_c hs
  have hk := (k_in e2).2.2.2.2.2
  rw [e3, e4, e5] at hk
  have keyT : pFl L l = true → ∀ x y : Int, y = pY L l → (pX L l + a < x) → x < pX L l + b → ¬ gwV (gS L nl) (2 * nP L nl) x y ∧ ¬ gwV (gS L nl) (2 * nP L nl) x (y - 1) := by
    intro hF x y hy h1 h2
    have hh := pHX_t hF
    have ha := aX_t (d := (x - pX L l).toNat) hF
    refine ⟨fun hw => ?_, fun hw => ?_⟩ <;> obtain ⟨m, d, g1, g2, g3, g4, g5⟩ := gwV_i.mp hw <;> have hm := pHX_f g3 <;> refine hk (x - pX L l).toNat (by omega) (by omega) (cr_pt e6 g1 (by rw [g3, hF]; decide) (a_on (by omega)) ?_) <;> unfold onL <;> omega
  have keyF : pFl L l = false → ∀ x y : Int, x = pX L l → (pY L l + a < y) → y < pY L l + b → ¬ gwH (gS L nl) (2 * nP L nl) x y ∧ ¬ gwH (gS L nl) (2 * nP L nl) (x - 1) y := by
    intro hF x y hy h1 h2
    have hh := pHX_f hF
    have ha := aX_f (d := (y - pY L l).toNat) hF
    refine ⟨fun hw => ?_, fun hw => ?_⟩ <;> obtain ⟨m, d, g1, g2, g3, g4, g5⟩ := gwH_i.mp hw <;> have hm := pHX_t g3 <;> refine hk (y - pY L l).toNat (by omega) (by omega) (cr_pt e6 g1 (by rw [g3, hF]; decide) (a_on (by omega)) ?_) <;> unfold onL <;> omega
  rcases c with ⟨c0, c1, c3, c4, c5, c6, c7⟩ | ⟨c0, c1, c3, c4, c5, c6, c7⟩ | ⟨c0, c1, c3, c4, c5, c6, c7⟩ | ⟨c0, c1, c3, c4, c5, c6, c7⟩
  · exact ⟨fun i hi => keyT c1 i _ c5 (by omega) (by omega), fun j hj => by omega⟩
  · exact ⟨fun i hi => by omega, fun j hj => keyF c1 _ j c4 (by omega) (by omega)⟩
  · exact ⟨fun i hi => keyT c1 i _ c5 (by omega) (by omega), fun j hj => by omega⟩
  · exact ⟨fun i hi => by omega, fun j hj => keyF c1 _ j c4 (by omega) (by omega)⟩
/-- where a side leaves -/
theorem gS_lv {p : Nat} (hp : p < nP L nl) : glv (gS L nl) (2 * nP L nl) (aX L (kL L nl p) (kAn L nl p) : Nat) (aY L (kL L nl p) (kAn L nl p) : Nat) (if pFl L (kL L nl p) = true then 0 else 1) ∧ glv (gS L nl) (2 * nP L nl) (aX L (kL L nl p) (kB L nl p) : Nat) (aY L (kL L nl p) (kB L nl p) : Nat) (if pFl L (kL L nl p) = true then 2 else 3) := by
  constructor
  · refine ⟨2 * p, by omega, ?_⟩
    unfold gdr gx0 gy0 gS
    rw [if_pos (by omega), show 2 * p / 2 = p by omega]
    exact ⟨rfl, rfl, rfl⟩
  · refine ⟨2 * p + 1, by omega, ?_⟩
    unfold gdr gx0 gy0 gS
    rw [if_neg (by omega), show (2 * p + 1) / 2 = p by omega]
    exact ⟨rfl, rfl, rfl⟩
/-- at a point all lines are cut -/
theorem gE_pt {x y : Nat} (h : isPt L nl x y) : (gwH (gS L nl) (2 * nP L nl) x y → glv (gS L nl) (2 * nP L nl) x y 0) ∧ (gwV (gS L nl) (2 * nP L nl) x y → glv (gS L nl) (2 * nP L nl) x y 1) ∧ (gwH (gS L nl) (2 * nP L nl) (x - 1) y → glv (gS L nl) (2 * nP L nl) x y 2) ∧ (gwV (gS L nl) (2 * nP L nl) x (y - 1) → glv (gS L nl) (2 * nP L nl) x y 3) := by
  refine ⟨fun hw => ?_, fun hw => ?_, fun hw => ?_, fun hw => ?_⟩
  · obtain ⟨m, d, g1, g2, g3, g4, g5⟩ := gwH_i.mp hw
    obtain ⟨p, h1, h2, h3, h4⟩ := k_cov g1 g2
    have hk := (k_in h1).2.2.2.2.2 d
    rw [h2, (aX_t g3).1, (aX_t g3).2, show pX L m + d = x by omega, show pY L m = y by omega] at hk
    have ed : kAn L nl p = d := by
      rcases Nat.lt_or_ge (kAn L nl p) d with z | z
      · exact absurd h (hk z h4)
      · omega
    have := (gS_lv h1).1
    rw [h2, ed, if_pos g3, (aX_t g3).1, (aX_t g3).2, show pX L m + d = x by omega, show pY L m = y by omega] at this
    exact this
  · obtain ⟨m, d, g1, g2, g3, g4, g5⟩ := gwV_i.mp hw
    obtain ⟨p, h1, h2, h3, h4⟩ := k_cov g1 g2
    have hk := (k_in h1).2.2.2.2.2 d
    rw [h2, (aX_f g3).1, (aX_f g3).2, show pX L m = x by omega, show pY L m + d = y by omega] at hk
    have ed : kAn L nl p = d := by
      rcases Nat.lt_or_ge (kAn L nl p) d with z | z
      · exact absurd h (hk z h4)
      · omega
    have := (gS_lv h1).1
    rw [h2, ed, if_neg (by rw [g3]; decide), (aX_f g3).1, (aX_f g3).2, show pX L m = x by omega, show pY L m + d = y by omega] at this
    exact this
  · obtain ⟨m, d, g1, g2, g3, g4, g5⟩ := gwH_i.mp hw
    obtain ⟨p, h1, h2, h3, h4⟩ := k_cov g1 g2
    have hk := (k_in h1).2.2.2.2.2 (d + 1)
    rw [h2, (aX_t g3).1, (aX_t g3).2, show pX L m + (d + 1) = x by omega, show pY L m = y by omega] at hk
    have ed : kB L nl p = d + 1 := by
      rcases Nat.lt_or_ge (d + 1) (kB L nl p) with z | z
      · exact absurd h (hk (by omega) z)
      · omega
    have := (gS_lv h1).2
    rw [h2, ed, if_pos g3, (aX_t g3).1, (aX_t g3).2, show pX L m + (d + 1) = x by omega, show pY L m = y by omega] at this
    exact this
  · obtain ⟨m, d, g1, g2, g3, g4, g5⟩ := gwV_i.mp hw
    obtain ⟨p, h1, h2, h3, h4⟩ := k_cov g1 g2
    have hk := (k_in h1).2.2.2.2.2 (d + 1)
    rw [h2, (aX_f g3).1, (aX_f g3).2, show pX L m = x by omega, show pY L m + (d + 1) = y by omega] at hk
    have ed : kB L nl p = d + 1 := by
      rcases Nat.lt_or_ge (d + 1) (kB L nl p) with z | z
      · exact absurd h (hk (by omega) z)
      · omega
    have := (gS_lv h1).2
    rw [h2, ed, if_neg (by rw [g3]; decide), (aX_f g3).1, (aX_f g3).2, show pX L m = x by omega, show pY L m + (d + 1) = y by omega] at this
    exact this
/-- both ends of a side are points -/
theorem gS_pts {s : Nat} (hs : s < 2 * nP L nl) : ∃ x y u v : Nat, gx0 (gS L nl) s = x ∧ gy0 (gS L nl) s = y ∧ gx1 (gS L nl) s = u ∧ gy1 (gS L nl) s = v ∧ isPt L nl x y ∧ isPt L nl u v := by
  have hp : s / 2 < nP L nl := by omega
  obtain ⟨_, _, _, h1, h2, _⟩ := k_in hp
  unfold gx0 gy0 gx1 gy1 gS
  by_cases e : s % 2 = 0
  · rw [if_pos e]; exact ⟨_, _, _, _, rfl, rfl, rfl, rfl, h1, h2⟩
  · rw [if_neg e]; exact ⟨_, _, _, _, rfl, rfl, rfl, rfl, h2, h1⟩
theorem gS_end {s : Nat} (hs : s < 2 * nP L nl) : gEnd (gS L nl) (2 * nP L nl) s := by
  obtain ⟨x, y, u, v, h1, h2, h3, h4, h5, h6⟩ := gS_pts hs
  unfold gEnd
  rw [h3, h4]
  exact gE_pt h6
theorem glv_uni (hg : gdL L nl) {s r : Nat} (hs : s < 2 * nP L nl) (hr : r < 2 * nP L nl) (h1 : gx0 (gS L nl) s = gx0 (gS L nl) r) (h2 : gy0 (gS L nl) s = gy0 (gS L nl) r) (h3 : gdr (gS L nl) s = gdr (gS L nl) r) : s = r := by
  have a := gS_shape hs
  have b := gS_shape hr
  unfold gShape at a b
  have hd : gdr (gS L nl) s = 0 ∨ gdr (gS L nl) s = 1 ∨ gdr (gS L nl) s = 2 ∨ gdr (gS L nl) s = 3 := by omega
  rcases hd with hd | hd | hd | hd
  · exact gS_uniq hg s r hs hr h3 (gx0 (gS L nl) s) (gy0 (gS L nl) s) (Or.inr ⟨⟨rfl, Or.inl ⟨hd, by omega, by omega⟩⟩, ⟨h2.symm, Or.inl ⟨by omega, by omega, by omega⟩⟩⟩)
  · exact gS_uniq hg s r hs hr h3 (gx0 (gS L nl) s) (gy0 (gS L nl) s) (Or.inl ⟨⟨rfl, Or.inl ⟨hd, by omega, by omega⟩⟩, ⟨h1.symm, Or.inl ⟨by omega, by omega, by omega⟩⟩⟩)
  · exact gS_uniq hg s r hs hr h3 (gx0 (gS L nl) s - 1) (gy0 (gS L nl) s) (Or.inr ⟨⟨rfl, Or.inr ⟨hd, by omega, by omega⟩⟩, ⟨h2.symm, Or.inr ⟨by omega, by omega, by omega⟩⟩⟩)
  · exact gS_uniq hg s r hs hr h3 (gx0 (gS L nl) s) (gy0 (gS L nl) s - 1) (Or.inl ⟨⟨rfl, Or.inr ⟨hd, by omega, by omega⟩⟩, ⟨h1.symm, Or.inr ⟨by omega, by omega, by omega⟩⟩⟩)
end G2
