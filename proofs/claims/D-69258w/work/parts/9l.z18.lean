/-! the house: told -/
section
variable {α : Type} {s s' : CS} {own own' : Nat → Nat} {t T : TS} {K N N' : Nat}
theorem Hr.same {E : Nat → Int32 → Prop} {c : Option (Sum (α × CS) (Nat × CS))} {d : Option (α × TS)} {x : α} {n m : Nat} (r : RH s own t K N) (hc : c = some (.inl (x, s))) (hd : d = some (x, ptI t 0 0)) : Hr E own s t K N n m c d := by
  refine ⟨x, ptI t 0 0, s, own, K, N, hd, r.pt 0, Nat.le_succ _, Frm.refl r.wf, ?_, ?_, Or.inl ⟨hc, rfl⟩⟩
  · unfold PHc; rw [(Pc_kp (KpN.p0 (v := 0))).1]; omega
  · unfold PHs; rw [(Pc_kp (KpN.p0 (v := 0))).2]; omega
theorem Hr.arg {c : Option (Sum (α × CS) (Nat × CS))} {d : Option (α × TS)} {x : α} {n m : Nat} (r : RH s own t K N) (hc : c = some (.inr (s.2.1, exs s 11))) (hd : d = some (x, ptI t 0 1)) (hn : 1 ≤ n) (hm : 6 ≤ m) : Hr thr0 own s t K N n m c d :=
  Hr.thr (a := 0) (b := 0) ((r.pt 1).mono (Nat.le_succ K)) (Nat.le_refl _) (Frm.refl r.wf) (Or.inl ⟨rfl, rfl⟩) hc hd rfl (by unfold PHc; rw [(Pc_kp (KpN.p0 (v := 1))).1]; omega) (by unfold PHs; rw [(Pc_kp (KpN.p0 (v := 1))).2]; omega) (by omega) (by omega)
theorem Hr.sta {c : Option (Sum (α × CS) (Nat × CS))} {d : Option (α × TS)} {x : α} {n m : Nat} (r : RH s own t K N) (hc : c = some (.inr (s.2.1, exs s 12))) (hd : d = some (x, ptI t 0 2)) (hn : 1 ≤ n) (hm : 6 ≤ m) : Hr thr0 own s t K N n m c d :=
  Hr.thr (a := 0) (b := 0) ((r.pt 2).mono (Nat.le_succ K)) (Nat.le_refl _) (Frm.refl r.wf) (Or.inr ⟨rfl, rfl⟩) hc hd rfl (by unfold PHc; rw [(Pc_kp (KpN.p0 (v := 2))).1]; omega) (by unfold PHs; rw [(Pc_kp (KpN.p0 (v := 2))).2]; omega) (by omega) (by omega)
theorem RH.bu (r : RH s own t K N) : xI s [(45, 9)] 100 = some (t.1 1) := xI_o r.c100 rfl rfl
theorem RH.ck (r : RH s own t K N) : xN s [(45, 0)] 100 = some 101 ∧ xI s [(56, 0)] 101 = some (t.1 2) := ⟨xN_o r.c100 rfl rfl, xI_o r.c101.1 rfl rfl⟩
/-- the gate's relation over the whole store -/
theorem RH.g4 (r : RH s own t K N) : ∃ zn nr nS nT nC nR nP nL a rel S C CS' CM CT E RS RM' RT P G D L F RW, R4x s.1 t K zn nr nS nT nC nR nP nL a rel S C CS' CM CT E RS RM' RT P G D L F RW := by
  obtain ⟨zn, nr, nS, nT, nC, nR, nP, nL, a, rel, S, C, CS', CM, CT, E, RS, RM', RT, P, G, D, L, F, RW, q⟩ := r.r4
  exact ⟨zn, nr, nS, nT, nC, nR, nP, nL, a, rel, S, C, CS', CM, CT, E, RS, RM', RT, P, G, D, L, F, RW, R4x_cg q (fun _ _ h => (rs_some.mp h).2) rfl rfl (fun _ _ => rfl)⟩
theorem RH.isSo (r : RH s own t K N) {v : Int32} (hv : ¬ v < 0) : c_475 100 v s = some (if (0 : Int32) < Int32.ofNat (dnC t v) then 1 else 0) := by
  unfold c_475
  rw [r.m7.1, Option.bind_some, if_pos r.m7.2, (r.done (Or.inr hv)).1, Option.bind_some]
  split <;> rfl
theorem hs_told (r : RH s own t K N) (v1 : Int32) : Hr thr0 own s t K N 1 6 (c_474 100 v1 s) (t_673 v1 t) := by
  unfold c_474 t_673
  rw [show ((8 : Int32) = Int32.ofNat 8) from rfl, orLe (n := 8) (by omega) v1, isInB, Option.bind_some, Option.bind_some, show ((9 : Int32) = Int32.ofNat (8 + 1)) from rfl]
  cases hi : inB v1 (Int32.ofNat (8 + 1)) with
  | false => exact Hr.arg (x := 0) r (by rw [if_neg (by simp), need_eq, if_pos rfl]; rfl) (by rw [if_neg (by simp), goes_0, Option.bind_some, if_pos rfl]) (by omega) (by omega)
  | true =>
    rw [if_pos rfl, need_eq, if_neg (show ¬ (1 : Int32) = 0 by decide), Option.bind_some, Sum.elim_inl, r.bu, Option.bind_some, may_eq]
    by_cases hb : t.1 1 = 0
    · exact Hr.sta (x := 0) r (by rw [if_pos hb]; rfl) (by rw [hb, goes_2, Option.bind_some, if_pos rfl]) (by omega) (by omega)
    · rw [if_neg hb, goes_1 t hb, Option.bind_some, Option.bind_some, Sum.elim_inl, if_neg (show ¬ (1 : Int32) = 0 by decide)]
      have r0 := r.pt 0
      obtain ⟨k, hk, rfl⟩ := inB_nat 9 (by omega) hi
      have h9 : k = 0 ∨ k = 1 ∨ k = 2 ∨ k = 3 ∨ k = 4 ∨ k = 5 ∨ k = 6 ∨ k = 7 ∨ k = 8 := by omega
      rcases h9 with rfl | rfl | rfl | rfl | rfl | rfl | rfl | rfl | rfl
      · obtain ⟨zn, nr, nS, nT, nC, nR, nP, nL, a, rel, S, C, CS', CM, CT, E, RS, RM', RT, P, G, D, L, F, RW, q⟩ := r0.g4
        refine Hr.same (x := Int32.ofNat nP) r ?_ ?_
        · rw [if_pos (by decide), r.m4.1, Option.bind_some, if_pos r.m4.2, ga_ports q]; rfl
        · rw [if_pos (by decide), q.2.2.2.2.2.2.1.2.1]
      · obtain ⟨zn, nr, nS, nT, nC, nR, nP, nL, a, rel, S, C, CS', CM, CT, E, RS, RM', RT, P, G, D, L, F, RW, q⟩ := r0.g4
        obtain ⟨n, _, e1, e2⟩ := ga_insd q
        refine Hr.same (x := Int32.ofNat n) r ?_ ?_
        · rw [if_neg (by decide), if_pos (by decide), r.m4.1, Option.bind_some, if_pos r.m4.2, e1]; rfl
        · rw [if_neg (by decide), if_pos (by decide), e2]; rfl
      · have e := r0.done (v := -1) (Or.inl rfl)
        refine Hr.same (x := Int32.ofNat (dnC (ptI t 0 0) (-1))) r ?_ ?_
        · rw [if_neg (by decide), if_neg (by decide), if_pos (by decide), r.m7.1, Option.bind_some, if_pos r.m7.2, e.1]; rfl
        · rw [if_neg (by decide), if_neg (by decide), if_pos (by decide), e.2 _ rfl rfl]; rfl
      · obtain ⟨nl, nr, nd, sm, W, e, q, g, wn, sc, r9⟩ := r0.r9
        obtain ⟨n, _, e1, e2⟩ := ce_all (R9_raw r9)
        refine Hr.same (x := Int32.ofNat n) r ?_ ?_
        · rw [if_neg (by decide), if_neg (by decide), if_neg (by decide), if_pos (by decide), r.m9.1, Option.bind_some, if_pos r.m9.2, e1]; rfl
        · rw [if_neg (by decide), if_neg (by decide), if_neg (by decide), if_pos (by decide), e2]; rfl
      · obtain ⟨nc, nk, C, D, M, b, r8⟩ := r0.r8
        obtain ⟨e1, e2⟩ := li_open r8
        refine Hr.same (x := Int32.ofNat (opn (ptI t 0 0) nk)) r ?_ ?_
        · rw [if_neg (by decide), if_neg (by decide), if_neg (by decide), if_neg (by decide), if_pos (by decide), r.m8.1, Option.bind_some, if_pos r.m8.2, e1]; rfl
        · rw [if_neg (by decide), if_neg (by decide), if_neg (by decide), if_neg (by decide), if_pos (by decide), e2]; rfl
      · have e := r0.done (v := 0) (Or.inr (by decide))
        refine Hr.same (x := if (0 : Int32) < Int32.ofNat (dnC (ptI t 0 0) 0) then 1 else 0) r ?_ ?_
        · rw [if_neg (by decide), if_neg (by decide), if_neg (by decide), if_neg (by decide), if_neg (by decide), if_pos (by decide), if_pos (isK_t r.c100 rfl), r0.isSo (v := 0) (by decide)]; rfl
        · rw [if_neg (by decide), if_neg (by decide), if_neg (by decide), if_neg (by decide), if_neg (by decide), if_pos (by decide)]
          unfold t_608
          rw [e.2 _ rfl rfl, Option.bind_some]
          split <;> rfl
      · have e := r0.done (v := 1) (Or.inr (by decide))
        refine Hr.same (x := if (0 : Int32) < Int32.ofNat (dnC (ptI t 0 0) 1) then 1 else 0) r ?_ ?_
        · rw [if_neg (by decide), if_neg (by decide), if_neg (by decide), if_neg (by decide), if_neg (by decide), if_neg (by decide), if_pos (by decide), if_pos (isK_t r.c100 rfl), r0.isSo (v := 1) (by decide)]; rfl
        · rw [if_neg (by decide), if_neg (by decide), if_neg (by decide), if_neg (by decide), if_neg (by decide), if_neg (by decide), if_pos (by decide), e.2 _ rfl rfl, Option.bind_some]
          split <;> rfl
      · have e := r0.done (v := 4) (Or.inr (by decide))
        refine Hr.same (x := if (0 : Int32) < Int32.ofNat (dnC (ptI t 0 0) 4) then 1 else 0) r ?_ ?_
        · rw [if_neg (by decide), if_neg (by decide), if_neg (by decide), if_neg (by decide), if_neg (by decide), if_neg (by decide), if_neg (by decide), if_pos (by decide), if_pos (isK_t r.c100 rfl), r0.isSo (v := 4) (by decide)]; rfl
        · rw [if_neg (by decide), if_neg (by decide), if_neg (by decide), if_neg (by decide), if_neg (by decide), if_neg (by decide), if_neg (by decide), if_pos (by decide), e.2 _ rfl rfl, Option.bind_some]
          split <;> rfl
      · refine Hr.same (x := t.1 2) r ?_ ?_
        · rw [if_neg (by decide), if_neg (by decide), if_neg (by decide), if_neg (by decide), if_neg (by decide), if_neg (by decide), if_neg (by decide), if_neg (by decide), r.ck.1, Option.bind_some, r.ck.2]; rfl
        · rw [if_neg (by decide), if_neg (by decide), if_neg (by decide), if_neg (by decide), if_neg (by decide), if_neg (by decide), if_neg (by decide), if_neg (by decide)]; rfl
end
