/-! the house: disturb, off, ask, both, call, cell -/
section
variable {α : Type} {s s' : CS} {own own' : Nat → Nat} {t T : TS} {K N N' : Nat}
theorem HNm.eq (r : HNm t N) (e : ∀ c, c = 1 ∨ c = 2 ∨ c = 9 ∨ c = 300 ∨ c = 301 ∨ c = 612 → T.1 c = t.1 c) (hz : t.1 1 = 0 → ∀ c, 12 ≤ c → c ≤ 16 → T.2.2.1 c = t.2.2.1 c) (hb : B137 T) : HNm T N := by
  refine ⟨by rw [e 1 (by omega)]; exact r.v1, by rw [e 2 (by omega)]; exact r.nw, by rw [e 301 (by omega), e 2 (by omega)]; exact r.n7, by rw [e 612 (by omega), e 2 (by omega)]; exact r.n8, fun h c h1 h2 k => ?_, fun h => ?_, hb⟩
  · rw [e 1 (by omega)] at h
    rw [hz h c h1 h2]; exact r.z4 h c h1 h2 k
  · rw [e 1 (by omega)] at h
    rw [e 300 (by omega), e 9 (by omega)]; exact r.np h
theorem hs_disturb (r : RH s own t K N) (v1 : Int32) : Hr thr0 own s t K N 7 15 (c_458 100 v1 s) (t_648 v1 t) := by
  have h := bus_disturb r.wf r.r6 v1
  unfold c_458
  rw [r.m6.1, Option.bind_some, if_pos r.m6.2]
  have hx : ∀ {s1 own1}, Frm (fun X => X = 6) own own1 s s1 → st5 s1 = st5 s := fun hF => st5_frm r hF (by omega)
  rcases h with ⟨x, s', t', own', a1, a2, a3, a4, a5, ⟨b1, b2, b3⟩, a7, a8⟩ | ⟨x, a1, a2⟩ | ⟨x, a1, a2⟩
  · have r' : RH s' own' t' K N := RH.keep (X := fun X => X = 6) (Y := fun X => X = 6) r a5 (fun Z h => ⟨Or.inl (by omega), by omega⟩) (fun Z h _ w => h w) a4 (r.nn.eq (fun c hc => rt_num (Z := mI c) (a4 _ (by rcases hc with rfl | rfl | rfl | rfl | rfl | rfl <;> decide) (by rcases hc with rfl | rfl | rfl | rfl | rfl | rfl <;> decide)) rfl) (fun _ c h1 h2 => rt_row (a4 4 (by omega) (by omega)) (by unfold mR; split <;> (try split) <;> omega)) (fun j hj => by rw [rt_row (c := 137) (a4 5 (by omega) (by omega)) rfl]; exact r.nn.b5 j hj)) (a4 1 (by omega) (by omega)) (rt_num (a4 4 (by omega) (by omega)) rfl) (fun _ => a4 2 (by omega) (by omega)) (fun z => by omega) (fun z => by omega) (fun z => by omega) (fun _ => Nat.le_refl _) (fun z => by omega) (fun _ => b1) (fun _ => rfl) (fun z => by omega) (fun z => by omega) (fun z => by omega) (fun z => by omega)
    have e3 := hx a5
    refine ⟨x, t', s', own', K, N, a2, r', Nat.le_succ _, frm_up a5 (fun Z h => Or.inl (by omega)), ?_, ?_, Or.inl ⟨?_, a3⟩⟩
    · unfold PHc; omega
    · unfold PHs; omega
    · rw [a1, Option.bind_some, Sum.elim_inl, if_pos (fits_01 (bv_648.h _ a2))]
  · have r' := (r.pt 1).mono (Nat.le_succ K)
    refine Hr.thr (a := 0) (b := 0) (kd := 11) (cd := 1) r' (Nat.le_refl _) (Frm.refl r.wf) (Or.inl ⟨rfl, rfl⟩) (by rw [a1]; rfl) a2 rfl (by unfold PHc; rw [(Pc_kp (KpN.p0 (v := 1))).1]; omega) (by unfold PHs; rw [(Pc_kp (KpN.p0 (v := 1))).2]; omega) (by omega) (by omega)
  · have r' := (r.pt 2).mono (Nat.le_succ K)
    refine Hr.thr (a := 0) (b := 0) (kd := 12) (cd := 2) r' (Nat.le_refl _) (Frm.refl r.wf) (Or.inr ⟨rfl, rfl⟩) (by rw [a1]; rfl) a2 rfl (by unfold PHc; rw [(Pc_kp (KpN.p0 (v := 2))).1]; omega) (by unfold PHs; rw [(Pc_kp (KpN.p0 (v := 2))).2]; omega) (by omega) (by omega)
theorem hs_off (r : RH s own t K N) (hK : K + 1 < 1000) (v1 v2 : Int32) : Hr thr0 own s t K N 381 806 (c_424 100 v1 v2 s) (t_615 v1 v2 t) := by
  obtain ⟨nw, h2, hnw, _⟩ := r.nn.nw
  obtain ⟨zn, nr, nS, nT, nC, nR, nP, nL, a, rel, S, C, CS', CM, CT, E, RS, RM', RT, P, G, D, L, F, RW, q⟩ := r.r4
  have h := ga_off r.wf r.hs hK q hnw r.c101.1 h2 v1 v2
  unfold c_424
  rw [r.m4.1, Option.bind_some, if_pos r.m4.2, bindId]
  exact h.hs r (by omega) RY4 (kp_615 KpN.rf) (fun _ z => gz_615 z) (by decide) (by decide)
theorem hs_call (r : RH s own t K N) (v1 v2 : Int32) : Hr thr0 own s t K N 4 18 (c_465 100 v1 v2 s) (t_655 v1 v2 t) := by
  have h := Res.rg r.wf r.r8 (li_call r.wf r.hs r.r8 v1 v2)
  unfold c_465
  rw [r.m8.1, Option.bind_some, show xN s [(45, 0)] 100 = some 101 from xN_o r.c100 rfl rfl, Option.bind_some, xI_o r.c101.1 rfl rfl, Option.bind_some, if_pos r.m8.2, bindId, ← r.nn.n8]
  exact h.hs r (by omega) RY8 (kp_655 KpN.rf) (fun z => absurd z (by decide)) (by decide) (by decide)
theorem hs_cell (r : RH s own t K N) (v1 v2 v3 : Int32) : Hr thr0 own s t K N 1 6 (c_471 100 v1 v2 v3 s) (t_661 v1 v2 v3 t) := by
  have hr4 := r.r4
  obtain ⟨zn, nr, nS, nT, nC, nR, nP, nL, a, rel, S, C, CS', CM, CT, E, RS, RM', RT, P, G, D, L, F, RW, q⟩ := r.r4
  have h := ce_cell r.wf r.r9 (R4x_cg q (fun _ _ h => (rs_some.mp h).2) rfl rfl (fun _ _ => rfl)) v1 v2 v3
  unfold c_471
  rw [r.m9.1, Option.bind_some, r.m4.1, Option.bind_some, xN_o (rs_in q.1.1).1 rfl rfl, Option.bind_some, if_pos r.m9.2, bindId]
  exact h.hs r (by omega) RY9 (kp_of (by omega) h) (fun z => absurd z (by decide)) (by decide) (by decide)
end
