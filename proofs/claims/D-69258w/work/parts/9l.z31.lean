/-! the house's build: what is found in the plan -/
section
variable {s : CS} {own : Nat → Nat} {t : TS}
/-- the plan as the build asks it -/
def PlB (s : CS) (t : TS) (L : PLn) (nl nr : Nat) (st ln : Nat → Nat) (lab : Int → Int → Int) (LC LD : Nat → Nat) (DC : Nat → Nat → Nat) (nd : Nat → Nat) (fd fL ou ol mp : Nat) (pid nid aid : Nat → Nat → Nat) (si rc rl sp sl : Nat → Nat) : Prop := FNx s t L nl nr st ln lab LC fd fL ou ol mp pid nid aid si rc rl sp sl ∧ (∃ f : List Value, s.1 102 = some (true, false, 67, .ref 103 :: .ref fd :: f)) ∧ rwP t L nl nd ∧ drN t L nl nd ∧ drR t L nl nd ∧ DrH s t L nl LC LD DC nd ∧ (∀ l i, l < nl → i < nd l → s.1 (DC l i) = some (dcC t l i)) ∧ DrB nl LC LD DC nd ∧ (∃ ml : Int32, s.1 103 = some (true, false, 1013, .int ml :: rowC (fun l => .ref (LC l)) nl)) ∧ nl ≤ 20 ∧ (∀ l, l < nl → nd l ≤ 6) ∧ (∀ k, k < spn L nl st ln nr → bel (t.2.2.1 64 k) 1001) ∧ t.1 100 = Int32.ofNat nl ∧ t.1 117 = Int32.ofNat (spn L nl st ln nr)
theorem pl_bld (r : R2 (rs s.1 own 2) t) (hy : t.1 110 = 1) : ∃ L nl nr st ln lab LC LD DC nd fd fL ou ol mp pid nid aid si rc rl sp sl, PlB s t L nl nr st ln lab LC LD DC nd fd fL ou ol mp pid nid aid si rc rl sp sl := by
  obtain ⟨L, nl, LC, LD, DC, nd, fo, be, co, fi, r⟩ := r
  have r0 := r
  obtain ⟨x1, x2, x3, x4, ⟨l1, l2, ⟨ml, l3, l4, l5⟩, l6⟩, ⟨d1, d2⟩, x7⟩ := r
  rcases R2_fnd r0 with ⟨_, _, a2⟩ | ⟨fd, Lf, nf, nr, st, ln, lab, fL, ou, ol, mp, pid, nid, aid, si, rc, rl, sp, sl, rfl, a1, a2, F, _, _, hfr, h64, _⟩
  · rw [hy] at a2; exact absurd a2 (by decide)
  obtain ⟨rfl, hL⟩ := hfr hy
  have gd : gdL Lf nf := F.1.1
  have eX : ∀ l, l < nf → pX Lf l = pX L l ∧ pY Lf l = pY L l ∧ pFl Lf l = pFl L l ∧ pN Lf l = pN L l := fun l hl => by
    unfold pX pY pFl pN
    rw [hL l hl]
    exact ⟨rfl, rfl, rfl, rfl⟩
  have lR : ∀ l, l < nf → t.2.2.1 50 l = Int32.ofNat (pX Lf l) ∧ t.2.2.1 51 l = Int32.ofNat (pY Lf l) ∧ t.2.2.1 52 l = (if pFl Lf l = true then 1 else 0) ∧ t.2.2.1 53 l = Int32.ofNat (pN Lf l) := fun l hl => by
    obtain ⟨e1, e2, e3, e4⟩ := eX l hl
    rw [e1, e2, e3, e4]; exact l2.2 l hl
  have n20 : nf ≤ 20 := gd.1
  have nN : ∀ l, l < nf → pN Lf l ≤ 24 := fun l hl => by
    obtain ⟨_, c1, c2⟩ := gd.2.1 l hl
    unfold pHX at c1
    unfold pHY at c2
    by_cases z : pFl Lf l = true
    · rw [if_pos z] at c1; omega
    · rw [if_neg z] at c2; omega
  have door : ∀ l i, l < nf → i < nd l → ∃ a b r' : Nat, t.2.2.1 55 (6 * l + i) = Int32.ofNat a ∧ t.2.2.1 56 (6 * l + i) = Int32.ofNat b ∧ t.2.2.1 57 (6 * l + i) = Int32.ofNat r' ∧ a < b ∧ b ≤ pN Lf l := fun l i hl hi => by
    obtain ⟨_, _, _, _, y5⟩ := d1 l hl
    obtain ⟨_, _, a, b, r', o1, o2, o3, o4, o5, _⟩ := y5 i hi
    exact ⟨a, b, r', o1, o2, o3, o4, by rw [(eX l hl).2.2.2]; exact o5⟩
  refine ⟨Lf, nf, nr, st, ln, lab, LC, LD, DC, nd, fd, fL, ou, ol, mp, pid, nid, aid, si, rc, rl, sp, sl, F, ⟨_, (rs_some.mp x1).2⟩, ⟨gd, fun l hl => ⟨⟨by omega, lR l hl⟩, (d1 l hl).1⟩⟩, ?_, ?_, ?_, ?_, ?_, ⟨ml, (rs_some.mp l3).2⟩, n20, fun l hl => (d1 l hl).2.1, h64, l2.1, FT_117 F.1⟩
  · intro l i hl hi
    obtain ⟨a, b, r', o1, o2, _, o4, o5⟩ := door l i hl hi
    have := nN l hl
    exact ⟨a, b, o1, o2, by omega, o5⟩
  · intro l hl
    refine ⟨(lR l hl).1, (lR l hl).2.1, (d1 l hl).1, (d1 l hl).2.1, fun i hi => ?_⟩
    obtain ⟨a, b, r', o1, o2, _, o4, o5⟩ := door l i hl hi
    have := nN l hl
    exact ⟨a, b, o1, o2, by omega, by omega⟩
  · intro l hl
    have e4 := (rs_some.mp (l4 l hl)).2
    obtain ⟨e1, e2, e3, e5⟩ := eX l hl
    refine ⟨?_, (d1 l hl).2.1, ?_, fun i hi => ?_⟩
    · unfold lcC at e4 ⊢
      rw [e1, e2, e3, e5]; exact e4
    · obtain ⟨m, e⟩ := (d1 l hl).2.2.2.1
      exact ⟨m, (rs_some.mp e).2⟩
    · obtain ⟨a, b, r', o1, o2, o3, o4, o5⟩ := door l i hl hi
      have := nN l hl
      have e := (rs_some.mp ((d1 l hl).2.2.2.2 i hi).1).2
      unfold dcC at e
      rw [o1, o2] at e
      exact ⟨a, b, _, e, o1, o2, by omega, by omega⟩
  · intro l i hl hi
    exact (rs_some.mp ((d1 l hl).2.2.2.2 i hi).1).2
  · intro l hl
    exact ⟨l6 l hl, (d1 l hl).2.2.1, fun i hi => ((d1 l hl).2.2.2.2 i hi).2.1⟩
end
