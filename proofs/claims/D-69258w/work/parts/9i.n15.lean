/-! the plan in the reference: all points -/
section
variable {L : PLn} {nl : Nat} {t : TS}
def PQ (L : PLn) (nl : Nat) (t T : TS) (ps : List Nat) : Prop := ptR T ps ∧ ps.Pairwise (· < ·) ∧ (∀ q ∈ ps, isQ L nl q) ∧ agr [127] [66, 67] t T
theorem PQ_ln (h : lnR t L nl) {T : TS} {ps : List Nat} (i : PQ L nl t T ps) : lnR T L nl := lnR_cg h i.2.2.2 (by simp) (by simp)
/-- a point more -/
theorem PQ_add (hg : gdL L nl) {T : TS} {ps : List Nat} (i : PQ L nl t T ps) {x y : Nat} (h : isPt L nl x y) : ∃ T' ps', t_692 (Int32.ofNat x) (Int32.ofNat y) T = some T' ∧ PQ L nl t T' ps' ∧ 25 * x + y ∈ ps' ∧ ∀ q ∈ ps, q ∈ ps' := by
  obtain ⟨i1, i2, i3, i4⟩ := i
  obtain ⟨h1, h2⟩ := pt_lt hg h
  have := pts_len hg i2 i3
  obtain ⟨T', e, g1, g2⟩ := t_poi i1 i2 (by omega) (fun q hq => (i3 q hq).1) h1 h2
  refine ⟨T', _, e, ⟨g1, insS_pw i2, fun q hq => ?_, agr_trans i4 g2⟩, insS_mem.mpr (Or.inl rfl), fun q hq => insS_mem.mpr (Or.inr hq)⟩
  rcases insS_mem.mp hq with rfl | hq
  · exact isQ_of hg h
  · exact i3 q hq
def crx (L : PLn) (a b : Nat) : Prop := pFl L a = true ∧ pFl L b = false ∧ onL L a (pX L b) (pY L a) ∧ onL L b (pX L b) (pY L a)
def dnL (L : PLn) (nl : Nat) (ps : List Nat) (a : Nat) : Prop := 25 * pX L a + pY L a ∈ ps ∧ 25 * pHX L a + pHY L a ∈ ps ∧ ∀ b, b < nl → crx L a b → 25 * pX L b + pY L a ∈ ps
theorem t_points (h : lnR t L nl) (hg : gdL L nl) : Tr (wh (S := TS × Int32) (X := TS) (fun p5 => (if p5.2 < (p5.1.1 100) then Option.bind (rdI p5.1 50 20 p5.2) (fun x2 => Option.bind (rdI p5.1 51 20 p5.2) (fun x3 => Option.bind (t_692 x2 x3 p5.1) (fun x4 => Option.bind (t_679 p5.2 x4) (fun x5 => Option.bind (t_680 p5.2 x4) (fun x6 => Option.bind (t_692 x5 x6 x4) (fun x7 => Option.bind (wh (S := TS × Int32) (X := TS) (fun p29 => (if p29.2 < (p29.1.1 100) then Option.bind (rdI p29.1 52 20 p5.2) (fun x8 => Option.bind ((if x8 = 0 then some p29.1 else Option.bind (rdI p29.1 52 20 p29.2) (fun x9 => (if x9 = 0 then Option.bind (rdI p29.1 50 20 p29.2) (fun x10 => Option.bind (rdI p29.1 51 20 p5.2) (fun x11 => Option.bind (t_694 p5.2 x10 x11 p29.1) (fun x12 => (if x12 = 0 then some p29.1 else Option.bind (rdI p29.1 50 20 p29.2) (fun x13 => Option.bind (rdI p29.1 51 20 p5.2) (fun x14 => Option.bind (t_694 p29.2 x13 x14 p29.1) (fun x15 => (if x15 = 0 then some p29.1 else Option.bind (rdI p29.1 50 20 p29.2) (fun x16 => Option.bind (rdI p29.1 51 20 p5.2) (fun x17 => Option.bind (t_692 x16 x17 p29.1) (fun x18 => some x18))))))))))) else some p29.1)))) (fun v77 => some (.inl (v77, p29.2 + 1)))) else some (.inr p29.1))) (x7, 0)) (fun v79 => some (.inl (v79, p5.2 + 1))))))))) else some (.inr p5.1))) (ptI t 127 0, 0)) (fun T => ∃ ps, ptR T ps ∧ ps.Pairwise (· < ·) ∧ (∀ q, q ∈ ps ↔ isQ L nl q) ∧ agr [127] [66, 67] t T) := by
  have hn := hg.1
  refine wh_cnt nl (fun k a => a.2 = Int32.ofNat k ∧ ∃ ps, PQ L nl t a.1 ps ∧ ∀ l, l < k → dnL L nl ps l) ?_ ?_ ⟨rfl, [], ⟨⟨rfl, fun k hk => absurd hk (Nat.not_lt_zero _)⟩, List.Pairwise.nil, fun q hq => (by cases hq), agr_p agr_refl (by simp)⟩, fun l hl => absurd hl (Nat.not_lt_zero _)⟩
  · rintro k ⟨T, _⟩ hk ⟨rfl, ps, i, hd⟩
    right
    dsimp only at i ⊢
    have hl := PQ_ln h i
    rw [hl.1, if_pos ((i_lt (by omega) (by omega)).mpr hk), r50 hl hn hk]; repeat (first | rw [Option.bind_some] | rw [Sum.elim_inl] | rw [Sum.elim_inr])
    rw [r51 hl hn hk]; repeat (first | rw [Option.bind_some] | rw [Sum.elim_inl] | rw [Sum.elim_inr])
    obtain ⟨T1, ps1, e1, i1, m1, s1⟩ := PQ_add hg i (x := pX L k) (y := pY L k) (by
      have := cts_mem.mp (cts_0 (L := L) hk)
      rw [show aX L k 0 = pX L k by unfold aX; split <;> rfl, show aY L k 0 = pY L k by unfold aY; split <;> rfl] at this
      exact this.2)
    rw [e1]; repeat (first | rw [Option.bind_some] | rw [Sum.elim_inl] | rw [Sum.elim_inr])
    have hl1 := PQ_ln h i1
    rw [t_hX hl1 hn hk]; repeat (first | rw [Option.bind_some] | rw [Sum.elim_inl] | rw [Sum.elim_inr])
    rw [t_hY hl1 hn hk]; repeat (first | rw [Option.bind_some] | rw [Sum.elim_inl] | rw [Sum.elim_inr])
    obtain ⟨T2, ps2, e2, i2, m2, s2⟩ := PQ_add hg i1 (x := pHX L k) (y := pHY L k) (by
      have := cts_mem.mp (cts_N (L := L) hk)
      exact this.2)
    rw [e2]; repeat (first | rw [Option.bind_some] | rw [Sum.elim_inl] | rw [Sum.elim_inr])
    refine Exists.elim (wh_cnt (f := ((fun p29 : TS × Int32 => (if p29.2 < (p29.1.1 100) then Option.bind (rdI p29.1 52 20 (Int32.ofNat k)) (fun x8 => Option.bind ((if x8 = 0 then some p29.1 else Option.bind (rdI p29.1 52 20 p29.2) (fun x9 => (if x9 = 0 then Option.bind (rdI p29.1 50 20 p29.2) (fun x10 => Option.bind (rdI p29.1 51 20 (Int32.ofNat k)) (fun x11 => Option.bind (t_694 (Int32.ofNat k) x10 x11 p29.1) (fun x12 => (if x12 = 0 then some p29.1 else Option.bind (rdI p29.1 50 20 p29.2) (fun x13 => Option.bind (rdI p29.1 51 20 (Int32.ofNat k)) (fun x14 => Option.bind (t_694 p29.2 x13 x14 p29.1) (fun x15 => (if x15 = 0 then some p29.1 else Option.bind (rdI p29.1 50 20 p29.2) (fun x16 => Option.bind (rdI p29.1 51 20 (Int32.ofNat k)) (fun x17 => Option.bind (t_692 x16 x17 p29.1) (fun x18 => some x18))))))))))) else some p29.1)))) (fun v77 => some (Sum.inl (β := TS) (v77, p29.2 + 1)))) else some (.inr p29.1))))) (Q := fun T => ∃ ps', PQ L nl t T ps' ∧ (∀ q ∈ ps2, q ∈ ps') ∧ ∀ b, b < nl → crx L k b → 25 * pX L b + pY L k ∈ ps') (a := (T2, 0)) nl (fun j a => a.2 = Int32.ofNat j ∧ ∃ ps', PQ L nl t a.1 ps' ∧ (∀ q ∈ ps2, q ∈ ps') ∧ ∀ b, b < j → crx L k b → 25 * pX L b + pY L k ∈ ps') ?_ ?_ ⟨rfl, ps2, i2, fun q hq => hq, fun b hb => absurd hb (Nat.not_lt_zero _)⟩) ?_
    · rintro j ⟨U, _⟩ hj ⟨rfl, ps', iu, su, du⟩
      right
      dsimp only at iu ⊢
      have hu := PQ_ln h iu
      have cj := pX_le hg hj
      have ck := pX_le hg hk
      rw [hu.1, if_pos ((i_lt (by omega) (by omega)).mpr hj), r52 hu hn hk]; repeat (first | rw [Option.bind_some] | rw [Sum.elim_inl] | rw [Sum.elim_inr])
      rw [iteF, i_suc]
      have no : ¬ crx L k j → ∃ a' : TS × Int32, some (Sum.inl (β := TS) (U, Int32.ofNat (j + 1))) = some (.inl a') ∧ a'.2 = Int32.ofNat (j + 1) ∧ ∃ ps', PQ L nl t a'.1 ps' ∧ (∀ q ∈ ps2, q ∈ ps') ∧ ∀ b, b < j + 1 → crx L k b → 25 * pX L b + pY L k ∈ ps' := by
        intro hc
        refine ⟨_, rfl, rfl, ps', iu, su, fun b hb hcb => ?_⟩
        by_cases e : b = j
        · rw [e] at hcb; exact absurd hcb hc
        · exact du b (by omega) hcb
      by_cases zk : pFl L k = true
      · rw [if_pos zk, r52 hu hn hj]; repeat (first | rw [Option.bind_some] | rw [Sum.elim_inl] | rw [Sum.elim_inr])
        rw [iteF]
        by_cases zj : pFl L j = true
        · rw [if_pos zj]; repeat (first | rw [Option.bind_some] | rw [Sum.elim_inl] | rw [Sum.elim_inr])
          exact no (fun z => by rw [z.2.1] at zj; cases zj)
        · have zj' : pFl L j = false := by cases e : pFl L j with
            | false => rfl
            | true => exact absurd e zj
          rw [if_neg zj, r50 hu hn hj]; repeat (first | rw [Option.bind_some] | rw [Sum.elim_inl] | rw [Sum.elim_inr])
          rw [r51 hu hn hk]; repeat (first | rw [Option.bind_some] | rw [Sum.elim_inl] | rw [Sum.elim_inr])
          rw [t_on hu hg hk (by omega) (by omega)]; repeat (first | rw [Option.bind_some] | rw [Sum.elim_inl] | rw [Sum.elim_inr])
          by_cases o1 : onL L k (pX L j) (pY L k)
          · rw [if_pos o1, if_neg (by decide), t_on hu hg hj (by omega) (by omega)]; repeat (first | rw [Option.bind_some] | rw [Sum.elim_inl] | rw [Sum.elim_inr])
            by_cases o2 : onL L j (pX L j) (pY L k)
            · rw [if_pos o2, if_neg (by decide)]; repeat (first | rw [Option.bind_some] | rw [Sum.elim_inl] | rw [Sum.elim_inr])
              obtain ⟨U1, pu, eu, iu1, mu, s3⟩ := PQ_add hg iu (x := pX L j) (y := pY L k) (cr_pt hk hj (by rw [zj', zk]; decide) o1 o2)
              rw [eu]; repeat (first | rw [Option.bind_some] | rw [Sum.elim_inl] | rw [Sum.elim_inr])
              refine ⟨_, rfl, rfl, pu, iu1, fun q hq => s3 q (su q hq), fun b hb hcb => ?_⟩
              by_cases e : b = j
              · rw [e]; exact mu
              · exact s3 _ (du b (by omega) hcb)
            · rw [if_neg o2, if_pos rfl]; repeat (first | rw [Option.bind_some] | rw [Sum.elim_inl] | rw [Sum.elim_inr])
              exact no (fun z => o2 z.2.2.2)
          · rw [if_neg o1, if_pos rfl]; repeat (first | rw [Option.bind_some] | rw [Sum.elim_inl] | rw [Sum.elim_inr])
            exact no (fun z => o1 z.2.2.1)
      · rw [if_neg zk]; repeat (first | rw [Option.bind_some] | rw [Sum.elim_inl] | rw [Sum.elim_inr])
        exact no (fun z => zk z.1)
    · rintro ⟨U, _⟩ ⟨rfl, ps', iu, su, du⟩
      dsimp only at iu ⊢
      have hu := PQ_ln h iu
      exact ⟨U, by rw [hu.1, if_neg (fun z => by have := (i_lt (by omega) (by omega)).mp z; omega)], ps', iu, su, du⟩
    · rintro U ⟨eU, ps', iu, su, du⟩
      rw [eU]; repeat (first | rw [Option.bind_some] | rw [Sum.elim_inl] | rw [Sum.elim_inr])
      refine ⟨_, rfl, i_suc k, ps', iu, fun l hl => ?_⟩
      by_cases e : l = k
      · rw [e]; exact ⟨su _ (s2 _ m1), su _ m2, du⟩
      · obtain ⟨a, b, c⟩ := hd l (by omega)
        exact ⟨su _ (s2 _ (s1 _ a)), su _ (s2 _ (s1 _ b)), fun q hq hc => su _ (s2 _ (s1 _ (c q hq hc)))⟩
  · rintro ⟨T, _⟩ ⟨rfl, ps, i, hd⟩
    dsimp only at i ⊢
    have hl := PQ_ln h i
    refine ⟨T, by rw [hl.1, if_neg (fun z => by have := (i_lt (by omega) (by omega)).mp z; omega)], ps, i.1, i.2.1, fun q => ⟨i.2.2.1 q, fun hq => ?_⟩, i.2.2.2⟩
    obtain ⟨q1, l, hl, ho, hq⟩ := hq
    obtain ⟨d1, d2, d3⟩ := hd l hl
    rcases hq with hq | ⟨m, hm, hf, hom⟩
    · unfold endL at hq
      rcases hq with ⟨a, b⟩ | ⟨a, b⟩
      · rw [← a, ← b, show 25 * (q / 25) + q % 25 = q by omega] at d1; exact d1
      · rw [← a, ← b, show 25 * (q / 25) + q % 25 = q by omega] at d2; exact d2
    · have key : ∀ a b, a < nl → b < nl → pFl L a = true → pFl L b = false → onL L a (q / 25) (q % 25) → onL L b (q / 25) (q % 25) → q ∈ ps := by
        intro a b ha hb fa fb oa ob
        have h1 := pHX_t fa
        have h2 := pHX_f fb
        have oa' := oa
        have ob' := ob
        unfold onL at oa' ob'
        have ex : pX L b = q / 25 := by omega
        have ey : pY L a = q % 25 := by omega
        have := (hd a ha).2.2 b hb ⟨fa, fb, by rw [ex, ey]; exact oa, by rw [ex, ey]; exact ob⟩
        rw [ex, ey, show 25 * (q / 25) + q % 25 = q by omega] at this
        exact this
      cases fl : pFl L l with
      | true =>
        have fm : pFl L m = false := by cases e : pFl L m with
          | false => rfl
          | true => rw [fl, e] at hf; exact absurd rfl hf
        exact key l m hl hm fl fm ho hom
      | false =>
        have fm : pFl L m = true := by cases e : pFl L m with
          | true => rfl
          | false => rw [fl, e] at hf; exact absurd rfl hf
        exact key m l hm hl fm fl hom ho
end
