/-! the plan in the reference: points and pieces whole -/
section
variable {L : PLn} {nl : Nat} {t : TS}
theorem t_line (h : lnR t L nl) (hg : gdL L nl) {ps : List Nat} (hS : ptS L nl ps) (hP : ptR t ps) {l : Nat} (hl : l < nl) (hp : pcR t L nl ps (off L nl l)) : Tr (wh (S := TS × Int32 × Int32) (X := TS) (fun p94 => (if p94.2.2 < (p94.1.1 127) then Option.bind (rdI p94.1 66 460 p94.2.2) (fun x20 => Option.bind (rdI p94.1 67 460 p94.2.2) (fun x21 => Option.bind (t_694 (Int32.ofNat l) x20 x21 p94.1) (fun x22 => Option.bind ((if x22 = 0 then some (p94.1, p94.2.1) else Option.bind ((if p94.2.1 < 0 then some p94.1 else Option.bind (stI p94.1 68 460 (p94.1.1 130) (Int32.ofNat l)) (fun s23 => Option.bind (stI s23 69 460 (s23.1 130) p94.2.1) (fun s24 => Option.bind (stI s24 70 460 (s24.1 130) p94.2.2) (fun s25 => Option.bind (some (ptI s25 130 ((s25.1 130) + 1))) (fun s26 => some s26)))))) (fun v136 => some (v136, p94.2.2)))) (fun v138 => some (.inl (v138.1, v138.2, p94.2.2 + 1)))))) else some (.inr p94.1))) (t, -1, 0)) (fun T => pcR T L nl ps (off L nl (l + 1)) ∧ agr [130] [68, 69, 70] t T) := by
  have hlen := pts_len hg hS.1 (fun q hq => (hS.2 q).mp hq)
  refine wh_cnt ps.length (fun k a => a.2.2 = Int32.ofNat k ∧ agr [130] [68, 69, 70] t a.1 ∧ ∃ c, lnP L nl ps l k c ∧ pcR a.1 L nl ps (off L nl l + (c - 1)) ∧ (c = 0 → a.2.1 = -1) ∧ (0 < c → ∃ j, a.2.1 = Int32.ofNat j ∧ j < ps.length ∧ ps.getD j 0 = qA L l ((cts L nl l).getD (c - 1) 0))) ?_ ?_ ⟨rfl, agr_refl, 0, ⟨Nat.zero_le _, fun i hi => absurd hi (Nat.not_lt_zero _), fun i _ _ j hj => absurd hj (Nat.not_lt_zero _)⟩, hp, fun _ => rfl, fun z => absurd z (Nat.lt_irrefl _)⟩
  · rintro k ⟨U, v, _⟩ hk ⟨rfl, a, c, g1, g2, g3, g4⟩
    right
    dsimp only at a g2 g3 g4 ⊢
    have hu := lnR_cg h a (by simp) (by simp)
    have hq := ptR_cg hP a (by simp) (by simp)
    have q25 := (hS.2 (ps.getD k 0)).mp (by rw [getD_lt hk]; exact List.getElem_mem hk)
    have q26 := q25.1
    rw [hq.1, if_pos ((i_lt (by omega) (by omega)).mpr hk), rdI_n (by omega) (by omega), (hq.2 k hk).1]; repeat (first | rw [Option.bind_some] | rw [Sum.elim_inl] | rw [Sum.elim_inr])
    rw [rdI_n (by omega) (by omega), (hq.2 k hk).2]; repeat (first | rw [Option.bind_some] | rw [Sum.elim_inl] | rw [Sum.elim_inr])
    rw [t_on hu hg hl (by omega) (by omega)]; repeat (first | rw [Option.bind_some] | rw [Sum.elim_inl] | rw [Sum.elim_inr])
    rw [i_suc]
    obtain ⟨w1, w2⟩ := lnP_on hg hS hl g1 hk
    by_cases o : onL L l (ps.getD k 0 / 25) (ps.getD k 0 % 25)
    · obtain ⟨o1, o2, o3⟩ := w1 o
      rw [if_pos o, if_neg (by decide)]
      by_cases c0 : c = 0
      · rw [g3 c0, if_pos (by decide)]; repeat (first | rw [Option.bind_some] | rw [Sum.elim_inl] | rw [Sum.elim_inr])
        refine ⟨_, rfl, rfl, a, c + 1, o3, ?_, fun z => by omega, fun _ => ⟨k, rfl, hk, o2⟩⟩
        rw [c0] at g2 ⊢
        exact g2
      · obtain ⟨j, j1, j2, j3⟩ := g4 (by omega)
        rw [j1, if_neg (i_nlt0 (by omega))]
        obtain ⟨b1, b2, b3, b4⟩ := k_at hl (show c - 1 + 1 < (cts L nl l).length by omega)
        obtain ⟨U1, e1, f1, f2⟩ := pcR_add hg g2 b1 j2 hk (by rw [b2, b3]; exact j3) (by rw [b2, b4, show c - 1 + 1 = c by omega]; exact o2)
        rw [b2] at e1
        rw [e1]; repeat (first | rw [Option.bind_some] | rw [Sum.elim_inl] | rw [Sum.elim_inr])
        refine ⟨_, rfl, rfl, agr_trans a f2, c + 1, o3, ?_, fun z => by omega, fun _ => ⟨k, rfl, hk, o2⟩⟩
        rw [show off L nl l + (c - 1) + 1 = off L nl l + (c + 1 - 1) by omega] at f1
        exact f1
    · rw [if_neg o, if_pos rfl]; repeat (first | rw [Option.bind_some] | rw [Sum.elim_inl] | rw [Sum.elim_inr])
      exact ⟨_, rfl, rfl, a, c, w2 o, g2, g3, g4⟩
  · rintro ⟨U, v, _⟩ ⟨rfl, a, c, g1, g2, g3, g4⟩
    dsimp only at a g2 g3 g4 ⊢
    have hq := ptR_cg hP a (by simp) (by simp)
    refine ⟨U, by rw [hq.1, if_neg (fun z => by have := (i_lt (by omega) (by omega)).mp z; omega)], ?_, a⟩
    rw [lnP_end hg hS hl g1, ← off_succ] at g2
    exact g2
theorem t_findP (h : lnR t L nl) (hg : gdL L nl) : Tr (t_691 t) (fun T => ∃ ps, ptS L nl ps ∧ ptR T ps ∧ pcR T L nl ps (nP L nl) ∧ agr [127, 130] [66, 67, 68, 69, 70] t T) := by
  have hn := hg.1
  unfold t_691
  repeat (first | rw [Option.bind_some] | rw [Sum.elim_inl] | rw [Sum.elim_inr])
  refine Tr.bd (t_points h hg) ?_
  rintro T ⟨ps, p1, p2, p3, pa⟩
  repeat (first | rw [Option.bind_some] | rw [Sum.elim_inl] | rw [Sum.elim_inr])
  have hS : ptS L nl ps := ⟨p2, p3⟩
  refine Tr.bd (P := fun T => pcR T L nl ps (nP L nl) ∧ agr [127, 130] [66, 67, 68, 69, 70] t T ∧ ptR T ps) (wh_cnt nl (fun k a => a.2 = Int32.ofNat k ∧ pcR a.1 L nl ps (off L nl k) ∧ agr [127, 130] [66, 67, 68, 69, 70] t a.1 ∧ ptR a.1 ps) ?_ ?_ ⟨rfl, ⟨rfl, Nat.zero_le _, fun p hp => absurd hp (Nat.not_lt_zero _)⟩, agr_p (agr_mono pa (by simp) (by simp)) (by simp), ptR_cg p1 (agr_p (I := [130]) (R := []) agr_refl (by simp)) (by simp) (by simp)⟩) ?_
  · rintro k ⟨U, _⟩ hk ⟨rfl, g1, g2, g3⟩
    right
    dsimp only at g1 g2 g3 ⊢
    have hu := lnR_cg h g2 (by simp) (by simp)
    rw [hu.1, if_pos ((i_lt (by omega) (by omega)).mpr hk)]
    obtain ⟨U1, e, f1, f2⟩ := t_line hu hg hS g3 hk g1
    rw [e]; repeat (first | rw [Option.bind_some] | rw [Sum.elim_inl] | rw [Sum.elim_inr])
    exact ⟨_, rfl, i_suc k, f1, agr_trans g2 (agr_mono f2 (by simp) (by simp)), ptR_cg g3 f2 (by simp) (by simp)⟩
  · rintro ⟨U, _⟩ ⟨rfl, g1, g2, g3⟩
    dsimp only at g1 g2 g3 ⊢
    have hu := lnR_cg h g2 (by simp) (by simp)
    exact ⟨U, by rw [hu.1, if_neg (fun z => by have := (i_lt (by omega) (by omega)).mp z; omega)], g1, g2, g3⟩
  · rintro U ⟨g1, g2, g3⟩
    exact Tr.ok ⟨ps, hS, g3, g1, g2⟩
end
