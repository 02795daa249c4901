/-! the house's build: every part is told -/
section
variable {s : CS} {own : Nat → Nat} {t : TS} {N : Nat}
theorem flg1 (hw : wfS s) (r : H1r (rs s.1 own 1) t) : ∃ S, xP s [(45, 9)] 100 (.int 1) = some S ∧ H1r (rs S.1 own 1) (ptI t 1 1) ∧ Frm (fun X => X = 1) own own s S ∧ S.2 = s.2 := by
  obtain ⟨a, b⟩ := rs_some.mp r.1
  refine ⟨_, xP_c b rfl (by simp) rfl, ?_, frm_cup hw (wf_lt hw b) a, rfl⟩
  show H1r (rs (lUpd s.1 100 _) own 1) _
  rw [rs_upd a]
  exact ⟨by rw [lUpd_at, if_pos rfl]; rfl, by rw [lUpd_at, if_neg (by omega)]; exact r.2⟩
theorem flg2 (hw : wfS s) (r : R2 (rs s.1 own 2) t) : ∃ S, xP s [(67, 6)] 102 (.int 1) = some S ∧ R2 (rs S.1 own 2) (ptI t 1 1) ∧ Frm (fun X => X = 2) own own s S ∧ S.2 = s.2 := by
  obtain ⟨L, nl, LC, LD, DC, nd, fo, be, co, fi, x1, x2, x3, x4, ⟨l1, l2, ⟨ml, l3, l4, l5⟩, l6⟩, ⟨d1, d2⟩, x7⟩ := r
  obtain ⟨a, b⟩ := rs_some.mp x1
  refine ⟨_, xP_c b rfl (by simp) rfl, ?_, frm_cup hw (wf_lt hw b) a, rfl⟩
  show R2 (rs (lUpd s.1 102 _) own 2) _
  rw [rs_upd a]
  have ne : ∀ p c c', p ≠ 102 → rs s.1 own 2 p = some c → lUpd (rs s.1 own 2) 102 c' p = some c := fun p c c' hp h => by rw [lUpd_at, if_neg hp]; exact h
  refine ⟨L, nl, LC, LD, DC, nd, fo, be, co, fi, by rw [lUpd_at, if_pos rfl]; rfl, Or.inr rfl, x3, x4, ⟨l1, l2, ⟨ml, ne _ _ _ (by omega) l3, fun l hl => ne _ _ _ (by have := l6 l hl; omega) (l4 l hl), l5⟩, l6⟩, ⟨fun l hl => ?_, d2⟩, ?_⟩
  · obtain ⟨y1, y2, y3, ⟨m, y4⟩, y5⟩ := d1 l hl
    exact ⟨y1, y2, y3, ⟨m, ne _ _ _ (by omega) y4⟩, fun k hk => ⟨ne _ _ _ (by have := (y5 k hk).2.1; omega) (y5 k hk).1, (y5 k hk).2⟩⟩
  · rcases x7 with w | ⟨fd, w1, w2, w3, w4⟩
    · exact Or.inl w
    · refine Or.inr ⟨fd, w1, w2, w3, F2_up w4 (fun p c h hc => ne _ _ _ (fun z => ?_) h) (I := [1]) (R := []) (⟨fun c hc => by rw [pt_1, if_neg (by simpa using hc)], rfl, fun _ _ => rfl, rfl⟩) (by simp) (by simp) (by simp) (fun _ _ => rfl) (Nat.le_refl _) (fun _ _ => rfl) (fun _ _ => rfl) (fun z => ⟨z, rfl, fun _ _ => rfl⟩) (fun l hl => Or.inl ⟨hl, rfl⟩)⟩
      rw [z, x1] at h
      cases h
      rcases hc with w | w | w | w
      · have w : (67 : Nat) = 7 := w
        omega
      · have w : (67 : Nat) ≤ 66 := w.2
        omega
      · have w : (67 : Nat) = 1042 := w
        omega
      · have w : (67 : Nat) = 1013 := w.1
        omega
theorem flg5 (hw : wfS s) (r : R5 (rs s.1 own 5) t) : ∃ S, xP s [(100, 7)] 115 (.int 1) = some S ∧ R5 (rs S.1 own 5) (ptI t 1 1) ∧ Frm (fun X => X = 5) own own s S ∧ S.2 = s.2 ∧ st5 S = st5 s := by
  obtain ⟨n, B, o, od, nw, ⟨p1, p2, ⟨mc, p3⟩, p4, p5, p6, p7, p8, p9⟩, f, i, b, q⟩ := r
  obtain ⟨a, b1⟩ := rs_some.mp p1
  refine ⟨cup s 115 (true, false, 100, [.ref 116, .ref 117, o, .int od, .ref 118, .ref 119, .int nw, .int 1]), xP_c b1 rfl (by simp) rfl, ?_, frm_cup hw (wf_lt hw b1) a, rfl, ?_⟩
  · show R5 (rs (lUpd s.1 115 _) own 5) _
    rw [rs_upd a]
    have ne : ∀ p c', p ≠ 115 → lUpd (rs s.1 own 5) 115 c' p = rs s.1 own 5 p := fun p c' hp => by rw [lUpd_at, if_neg hp]
    refine ⟨n, B, o, od, nw, ⟨by rw [lUpd_at, if_pos rfl]; rfl, (ne _ _ (by omega)).trans p2, ⟨mc, (ne _ _ (by omega)).trans p3⟩, (ne _ _ (by omega)).trans p4, p5, p6, p7, Or.inr rfl, fun _ => by show (1 : Int32) ≠ 0; decide⟩, f, i, fun k hk => R5b_h (b k hk) (fun j hj => ne _ _ (by have := i.2 k j hk hj; omega)), ?_⟩
    rcases q with q | ⟨oid, mc, q0, q1, q2, q3, q4⟩
    · exact Or.inl q
    · have eo := ord_cg (t := t) (t' := ptI t 1 1) (n := n) (fun _ => rfl) (fun _ => rfl)
      have hne : oid ≠ 115 := by
        intro z
        rw [z] at q1
        exact absurd q1 (by decide)
      exact Or.inr ⟨oid, mc, q0, q1, q2, (ne oid _ hne).trans (by rw [eo.1]; exact q3), by rw [eo.2]; exact q4⟩
  · rcases q with q | ⟨oid, mc, q0, q1, q2, q3, q4⟩
    · have e1 : st5 s = 1 := by unfold st5; rw [q] at b1; rw [xR_z b1 rfl rfl, if_pos rfl]
      rw [e1]
      unfold st5
      rw [q, xR_z (cup_eq ..) rfl rfl, if_pos rfl]
    · rw [q0] at b1 ⊢
      rw [st5_o b1, st5_o (cup_eq ..)]
theorem flg6 (hw : wfS s) (r : R6 (rs s.1 own 6) t N) : ∃ S, xP s [(122, 12)] 120 (.int 1) = some S ∧ R6 (rs S.1 own 6) (ptI t 1 1) N ∧ Frm (fun X => X = 6) own own s S ∧ S.2 = s.2 := by
  have r0 := r
  obtain ⟨⟨⟨d, gi, g1⟩, ⟨m2, g2⟩, g3, g4, g5, g6, g7, g8, g9, g10, g11, g12, g13⟩, ge, _⟩ := r
  obtain ⟨a, b⟩ := rs_some.mp g1
  refine ⟨_, xP_c b rfl (by simp) rfl, ?_, frm_cup hw (wf_lt hw b) a, rfl⟩
  show R6 (rs (lUpd s.1 120 _) own 6) _ N
  rw [rs_upd a]
  have ne : ∀ p c', p ≠ 120 → lUpd (rs s.1 own 6) 120 c' p = rs s.1 own 6 p := fun p c' hp => by rw [lUpd_at, if_neg hp]
  refine R6_ge r0 (fun q h1 _ _ _ _ => ne q _ h1) (fun _ _ _ _ => rfl) rfl ⟨⟨d, gi, by rw [lUpd_at, if_pos rfl]; rfl⟩, ⟨m2, (ne _ _ (by omega)).trans g2⟩, ?_, (ne _ _ (by omega)).trans g4, g5, g6, g7, g8, Or.inr rfl, g10, g11, g12, g13⟩ (R6e_cg2 ge (ne _ _ (by omega)) (ne _ _ (by omega)) (fun _ => rfl) (fun _ => rfl) (fun _ => rfl) rfl rfl rfl rfl rfl)
  obtain ⟨mc, n, z1, z2⟩ := g3
  exact ⟨mc, n, (ne _ _ (by omega)).trans z1, z2⟩
theorem flg8 (hw : wfS s) (r : R8 (rs s.1 own 8) t) : ∃ S, xP s [(49, 5)] 162 (.int 1) = some S ∧ R8 (rs S.1 own 8) (ptI t 1 1) ∧ Frm (fun X => X = 8) own own s S ∧ S.2 = s.2 := by
  obtain ⟨nc, nk, C, D, M, b, ⟨nw, hm, lst, p1⟩, ⟨m2, p2⟩, ⟨m3, e3, p3⟩, ⟨m4, e4, p4⟩, ⟨f5, p5⟩, ⟨f6, p6⟩, p7, p8, p9, p10, p11, p12, p13, p14, p15, p16, p17, p18, ⟨mo, eo, o1, o2⟩, ⟨mm, em, q1, q2, q3, q4, q5, q6⟩⟩ := r
  obtain ⟨a, b1⟩ := rs_some.mp p1
  refine ⟨_, xP_c b1 rfl (by simp) rfl, ?_, frm_cup hw (wf_lt hw b1) a, rfl⟩
  show R8 (rs (lUpd s.1 162 _) own 8) _
  rw [rs_upd a]
  have ne : ∀ p c', p ≠ 162 → lUpd (rs s.1 own 8) 162 c' p = rs s.1 own 8 p := fun p c' hp => by rw [lUpd_at, if_neg hp]
  refine ⟨nc, nk, C, D, M, b, ⟨nw, hm, lst, by rw [lUpd_at, if_pos rfl]; rfl⟩, ⟨m2, (ne _ _ (by omega)).trans p2⟩, ⟨m3, e3, (ne _ _ (by omega)).trans p3⟩, ⟨m4, e4, (ne _ _ (by omega)).trans p4⟩, ⟨f5, (ne _ _ (by omega)).trans p5⟩, ⟨f6, (ne _ _ (by omega)).trans p6⟩, p7, p8, p9, p10, Or.inr rfl, fun _ => by show (1 : Int32) ≠ 0; decide, p13, fun k hk => ⟨(ne _ _ (by have := (p14 k hk).2.2; omega)).trans (p14 k hk).1, (p14 k hk).2⟩, p15, fun c hc => ⟨(p16 c hc).1, (p16 c hc).2.1, fun hO => ⟨(ne _ _ (by have := ((p16 c hc).2.2 hO).2; omega)).trans ((p16 c hc).2.2 hO).1, ((p16 c hc).2.2 hO).2⟩⟩, p17, p18, ⟨mo, eo, (ne _ _ (by omega)).trans o1, o2⟩, ⟨mm, em, (ne _ _ (by omega)).trans q1, q2, q3, q4, fun c hc hm => ⟨(q5 c hc hm).1, (ne _ _ (by have := (q5 c hc hm).1; omega)).trans (q5 c hc hm).2.1, (q5 c hc hm).2.2⟩, q6⟩⟩
end
