/-! the plan in the reference: all rings -/
section
variable {L : PLn} {nl : Nat} {t T : TS} {ps : List Nat}
def RgS (L : PLn) (nl : Nat) (t T : TS) (n : Nat) (st ln : Nat → Nat) (K : Int) : Prop := RFp L nl n st ln K ∧ rgR T n st ln ∧ meR T L nl n st ln ∧ agr [135] [71, 72, 73] t T
theorem ky_ps (hg : gdL L nl) (hS : ptS L nl ps) {s : Nat} (hs : s < 2 * nP L nl) : ∃ j, j < ps.length ∧ kyS L nl s = 4 * (ps.getD j 0 : Int) + gdr (gS L nl) s ∧ (ps.getD j 0 : Int) = 25 * gx0 (gS L nl) s + gy0 (gS L nl) s := by
  obtain ⟨x, y, u, v, h1, h2, h3, h4, h5, h6⟩ := gS_pts hs
  obtain ⟨j, hj, e⟩ := List.getElem_of_mem ((hS.2 (25 * x + y)).mpr (isQ_of hg h5))
  rw [← getD_lt hj] at e
  refine ⟨j, hj, ?_, ?_⟩
  · unfold kyS; rw [e, h1, h2]; omega
  · rw [e, h1, h2]; omega
def KB (ps : List Nat) (p : Nat) : Int := if p < ps.length then 4 * (ps.getD p 0 : Int) else 2500
theorem t_ways (hg : gdL L nl) (hT : TPl t L nl ps) {p : Nat} (hp : p < ps.length) {n : Nat} {st ln : Nat → Nat} (h : RgS L nl t T n st ln (KB ps p)) : Tr (wh (S := TS × Int32) (X := TS) (fun p26 => (if p26.2 < 4 then Option.bind (t_696 (Int32.ofNat p) p26.2 p26.1) (fun x3 => Option.bind ((if x3 < 0 then some p26.1 else Option.bind (rdI p26.1 71 920 x3) (fun x4 => (if x4 = 0 then Option.bind (stI p26.1 72 460 (p26.1.1 135) x3) (fun s5 => Option.bind (stI s5 73 460 (s5.1 135) 0) (fun s6 => Option.bind (wh (S := TS × Int32) (X := TS) (fun p53 => Option.bind (rdI p53.1 71 920 p53.2) (fun x7 => (if x7 = 0 then Option.bind (stI p53.1 71 920 p53.2 ((1 : Int32) &&& 1)) (fun s8 => Option.bind (rdI s8 73 460 (s8.1 135)) (fun x9 => Option.bind (stI s8 73 460 (s8.1 135) (x9 + 1)) (fun s10 => Option.bind (t_699 p53.2 s10) (fun x11 => some (.inl (s10, x11)))))) else some (.inr p53.1)))) (s6, x3)) (fun v77 => Option.bind (some (ptI v77 135 ((v77.1 135) + 1))) (fun s12 => some s12)))) else some p26.1)))) (fun v83 => some (.inl (v83, p26.2 + 1)))) else some (.inr p26.1))) (T, 0)) (fun T' => ∃ n' st' ln', RgS L nl t T' n' st' ln' (KB ps (p + 1))) := by
  have hN := nP_le hg
  have hS := hT.2.1
  have kb : KB ps p = 4 * (ps.getD p 0 : Int) := by unfold KB; rw [if_pos hp]
  have q25 := ((hS.2 (ps.getD p 0)).mp (by rw [getD_lt hp]; exact List.getElem_mem hp)).1
  refine wh_cnt 4 (fun i a => a.2 = Int32.ofNat i ∧ ∃ n' st' ln', RgS L nl t a.1 n' st' ln' (4 * (ps.getD p 0 : Int) + i)) ?_ ?_ ⟨rfl, n, st, ln, by rw [kb] at h; simpa using h⟩
  · rintro i ⟨U, _⟩ hi ⟨rfl, n', st', ln', g1, g2, g3, g4⟩
    right
    dsimp only at g2 g3 g4 ⊢
    have hU : TPl U L nl ps := TPl_cg hT g4 (by simp) (by simp)
    rw [if_pos ((i_ltL (by omega) (by omega)).mpr hi), t_lv hg hU hp (x := ps.getD p 0 / 25) (y := ps.getD p 0 % 25) (by omega) (by omega) (by omega) hi]; repeat (first | rw [Option.bind_some] | rw [Sum.elim_inl] | rw [Sum.elim_inr])
    rw [i_suc]
    have ek : (4 * (ps.getD p 0 : Int) + (i + 1 : Nat)) = 4 * (ps.getD p 0 : Int) + i + 1 := by omega
    cases hv : lvF L nl (ps.getD p 0 / 25 : Nat) (ps.getD p 0 % 25 : Nat) i with
    | none =>
      rw [show lvI none = -1 from rfl, if_pos (by decide)]; repeat (first | rw [Option.bind_some] | rw [Sum.elim_inl] | rw [Sum.elim_inr])
      refine ⟨_, rfl, rfl, n', st', ln', ?_, g2, g3, g4⟩
      rw [ek]
      refine RFp_mono g1 (by omega) (fun q hq h1 h2 => ?_)
      exfalso
      refine lvF_none hv ⟨q, hq, ?_⟩
      have a := gS_box hg hq
      have c := gS_d4 hq
      unfold kyS at h1 h2
      omega
    | some s =>
      obtain ⟨hs, s1, s2, s3⟩ := lvF_some hv
      rw [show lvI (some s) = Int32.ofNat s from rfl, if_neg (i_nlt0 (by omega))]
      obtain ⟨U', e, n2, st2, ln2, f1, f2, f3, f4⟩ := t_ring hg hU g1 g2 g3 hs (by unfold kyS; rw [s1, s2, s3]; omega)
      rw [e]; repeat (first | rw [Option.bind_some] | rw [Sum.elim_inl] | rw [Sum.elim_inr])
      exact ⟨_, rfl, rfl, n2, st2, ln2, by rw [ek]; exact f1, f2, f3, agr_trans g4 f4⟩
  · rintro ⟨U, _⟩ ⟨rfl, n', st', ln', g1, g2, g3, g4⟩
    dsimp only at g2 g3 g4 ⊢
    refine ⟨U, if_neg (by decide), n', st', ln', ?_, g2, g3, g4⟩
    refine RFp_mono g1 ?_ (fun q hq h1 h2 => ?_)
    · unfold KB
      split
      · rename_i z
        have := pw_lt hS.1 (show p < p + 1 by omega) z
        omega
      · omega
    · exfalso
      obtain ⟨j, j1, j2, j3⟩ := ky_ps hg hS hq
      have c := gS_d4 hq
      have : p < j := by
        rcases Nat.lt_trichotomy p j with z | z | z
        · exact z
        · rw [← z] at j2; omega
        · have := pw_lt hS.1 z hp; omega
      unfold KB at h2
      rw [if_pos (by omega)] at h2
      by_cases z : p + 1 = j
      · rw [z] at h2; omega
      · have := pw_lt hS.1 (show p + 1 < j by omega) j1; omega
theorem t_rings (hg : gdL L nl) (hT : TPl t L nl ps) : Tr (t_695 t) (fun T => ∃ nr st ln, RF L nl nr st ln ∧ nr ≤ nP L nl ∧ rgR T nr st ln ∧ agr [135] [71, 72, 73] t T) := by
  have hN := nP_le hg
  have hl := TPl_len hg hT
  unfold t_695
  repeat (first | rw [Option.bind_some] | rw [Sum.elim_inl] | rw [Sum.elim_inr])
  refine Tr.bd (P := fun U => agr [135] [71, 72, 73] t U ∧ U.1 135 = 0 ∧ ∀ s, s < 2 * nP L nl → U.2.2.1 71 s = 0) (wh_cnt (2 * nP L nl) (fun k a => a.2 = Int32.ofNat k ∧ agr [135] [71, 72, 73] t a.1 ∧ a.1.1 135 = 0 ∧ ∀ s, s < k → a.1.2.2.1 71 s = 0) ?_ ?_ ⟨rfl, agr_p agr_refl (by simp), rfl, fun s hs => absurd hs (Nat.not_lt_zero _)⟩) ?_
  · rintro k ⟨U, _⟩ hk ⟨rfl, a, g1, g2⟩
    right
    dsimp only at a g1 g2 ⊢
    rw [a.1 130 (by simp), hT.2.2.2.1, i_mulL, if_pos ((i_lt (by omega) (by omega)).mpr hk), stI_n (by omega) (by omega)]; repeat (first | rw [Option.bind_some] | rw [Sum.elim_inl] | rw [Sum.elim_inr])
    refine ⟨_, rfl, i_suc k, agr_w a (by simp), g1, fun s hs => ?_⟩
    dsimp only
    rw [wr_at]
    by_cases e : s = k
    · rw [if_pos ⟨rfl, e⟩]; rfl
    · rw [if_neg (fun z => e z.2)]; exact g2 s (by omega)
  · rintro ⟨U, _⟩ ⟨rfl, a, g1, g2⟩
    dsimp only at a g1 g2 ⊢
    exact ⟨U, by rw [a.1 130 (by simp), hT.2.2.2.1, i_mulL, if_neg (fun z => by have := (i_lt (by omega) (by omega)).mp z; omega)], a, g1, g2⟩
  · rintro U ⟨a, g1, g2⟩
    refine Tr.bd (P := fun T => ∃ n st ln, RgS L nl t T n st ln 2500) (wh_cnt ps.length (fun k a => a.2 = Int32.ofNat k ∧ ∃ n st ln, RgS L nl t a.1 n st ln (KB ps k)) ?_ ?_ ⟨rfl, 0, id, id, ⟨fun k hk => absurd hk (Nat.not_lt_zero _), fun k hk => absurd hk (Nat.not_lt_zero _), fun k k' _ hk => absurd hk (Nat.not_lt_zero _), fun s hs h => ?_, fun k hk => absurd hk (Nat.not_lt_zero _)⟩, ⟨g1, fun k hk => absurd hk (Nat.not_lt_zero _)⟩, fun s hs => ?_, a⟩) ?_
    · rintro k ⟨V, _⟩ hk ⟨rfl, n, st, ln, h⟩
      right
      dsimp only at h ⊢
      rw [h.2.2.2.1 127 (by simp), hT.2.2.1.1, if_pos ((i_lt (by omega) (by omega)).mpr hk)]
      obtain ⟨V', e, h'⟩ := t_ways hg hT hk h
      rw [e]; repeat (first | rw [Option.bind_some] | rw [Sum.elim_inl] | rw [Sum.elim_inr])
      exact ⟨_, rfl, i_suc k, h'⟩
    · rintro ⟨V, _⟩ ⟨rfl, n, st, ln, h⟩
      dsimp only at h ⊢
      refine ⟨V, by rw [h.2.2.2.1 127 (by simp), hT.2.2.1.1, if_neg (fun z => by have := (i_lt (by omega) (by omega)).mp z; omega)], n, st, ln, ?_⟩
      have : KB ps ps.length = 2500 := by unfold KB; rw [if_neg (Nat.lt_irrefl _)]
      rw [this] at h
      exact h
    · exfalso
      obtain ⟨j, j1, j2, j3⟩ := ky_ps hg hT.2.1 hs
      have c := gS_d4 hs
      unfold KB at h
      rw [if_pos (by omega)] at h
      by_cases z : j = 0
      · rw [z] at j2; omega
      · have := pw_lt hT.2.1.1 (show 0 < j by omega) j1; omega
    · dsimp only
      rw [g2 s hs, if_neg]
      rintro ⟨k, hk, _⟩
      exact absurd hk (Nat.not_lt_zero _)
    · rintro V ⟨n, st, ln, h1, h2, h3, h4⟩
      exact Tr.ok ⟨n, st, ln, RFp_end hg h1, RFp_le hg h1, h2, h4⟩
end
