/-! the warden: points -/
theorem rt_7 {t : TS} {c k Z : Nat} {v : Int32} (hc : mR c = 7) (h7 : Z ≠ 7) : rt (wrI t c k v) Z = rt t Z := rt_wrI (by rw [hc]; exact fun e => h7 e.symm)
/-- a point changes -/
theorem W1_upd {h : lHeap} {t T : TS} {np k : Nat} {P : Nat → Nat} (r : W1 h t np P) (hk : k < np) (hn : ∀ c, c ≠ 0 → T.1 c = t.1 c) (hr : ∀ c j, ¬ (99 ≤ c ∧ c ≤ 101 ∧ j = k) → T.2.2.1 c j = t.2.2.1 c j) (hv : v01 (T.2.2.1 100 k)) : W1 (lUpd h (P k) (ptC T k)) T np P := by
  obtain ⟨⟨mc, r1⟩, r2, r3, r4, r5, r6, r7⟩ := r
  have gk := r5 k hk
  refine ⟨⟨mc, by rw [lUpd_at, if_neg (by omega)]; exact r1⟩, by rw [hn 300 (by omega)]; exact r2, r3, by rw [hn 1 (by omega)]; exact r4, fun j hj => ?_, r6, fun j h1 h2 => ?_⟩
  · by_cases y : j = k
    · subst y
      exact ⟨by rw [lUpd_at, if_pos rfl], hv, gk.2.2⟩
    · obtain ⟨a1, a2, a3⟩ := r5 j hj
      unfold ptC
      rw [lUpd_at, if_neg (fun z => y (r6 _ _ hj hk z)), hr 99 j (by omega), hr 100 j (by omega), hr 101 j (by omega)]
      exact ⟨a1, a2, a3⟩
  · rw [hr 99 j (by omega), hr 100 j (by omega), hr 101 j (by omega)]
    exact r7 j h1 h2
theorem R7_point {h : lHeap} {t T : TS} {np sz mx zm am rl nr na ec k : Nat} {P Z ZP A RW od : Nat → Nat} (r : R7x h t np sz mx zm am rl nr na ec P Z ZP A RW od) (hk : k < np) (hn : ∀ c, c ≠ 0 → T.1 c = t.1 c) (hr : ∀ c j, ¬ (99 ≤ c ∧ c ≤ 101 ∧ j = k) → T.2.2.1 c j = t.2.2.1 c j) (hv : v01 (T.2.2.1 100 k)) : R7x (lUpd h (P k) (ptC T k)) T np sz mx zm am rl nr na ec P Z ZP A RW od := by
  obtain ⟨r0, r1, r2, r3, r4, r5⟩ := r
  have hu := hK_upd (c' := ptC T k) (r1.2.2.2.2.1 k hk).1
  have hf : ∀ c, ¬ (99 ≤ c ∧ c ≤ 101) → T.2.2.1 c = t.2.2.1 c := fun c hc => funext (fun j => hr c j (fun z => hc ⟨z.1, z.2.1⟩))
  have hu2 : hK (fun x => x ≠ 77) h (lUpd h (P k) (ptC T k)) := hu
  refine ⟨W0_cg r0 (hu2.mono (fun x hx => by omega)) (hn 301 (by omega)) (hn 1 (by omega)) (fun c hc => hf c ?_), W1_upd r1 hk hn hr hv, W2_cg r2 (hu2.mono (fun x hx => by omega)) (hn 306 (by omega)) (hn 1 (by omega)) (hf 102 (by omega)), W3_cg r3 (hu2.mono (fun x hx => by omega)) (hn 321 (by omega)) (fun c hc => hf c ?_), W4_cg r4 (hu2.mono (fun x hx => by omega)) (fun c hc => hf c ?_), W5_cg r5 (hu2.mono (fun x hx => by omega)) (hn 330 (by omega)) (hn 301 (by omega)) (fun c hc => hf c ?_)⟩
  all_goals simp only [List.mem_cons, List.not_mem_nil, or_false] at hc; omega
theorem poOf {s : CS} {t : TS} {own : Nat → Nat} {np sz mx zm am rl nr na ec : Nat} {P Z ZP A RW od : Nat → Nat} (r : R7x (rs s.1 own 7) t np sz mx zm am rl nr na ec P Z ZP A RW od) (v : Int32) : c_499 151 v s = if inB v (Int32.ofNat np) = true then some (.inl (P (bN v), s)) else some (.inr (s.2.1, exs s 11)) := by
  obtain ⟨⟨r0, _⟩, ⟨⟨mc, r1⟩, r2, r3, r4, r5, r6, r7⟩, _⟩ := r
  have h1 := (rs_in r0).1
  have h2 := (rs_in r1).1
  unfold c_499
  rw [xN_o h1 rfl rfl]
  simp only [Option.bind_some, isK_t (tab := [13]) h2 rfl, alSize_r h2, if_true]
  rw [orB]
  cases hr : inB v (Int32.ofNat np) with
  | true =>
    obtain ⟨k, hk, rfl⟩ := inB_nat np (by omega) hr
    have h3 := (rs_in (r5 k hk).1).1
    simp [need_eq, xN_o (tab := [(47, 0)]) h1 rfl rfl, isK_t (tab := [13]) h2 rfl, alGet_r h2 hk (by omega), toN_o (tab := [77]) h3 rfl, bN, i_clamp (show k < 2147483648 by omega)]
  | false => simp [need_eq]
theorem pt_res {α : Type} {own : Nat → Nat} {s : CS} {t T : TS} {np sz mx zm am rl nr na ec k : Nat} {P Z ZP A RW od : Nat → Nat} {x : α} {a b : Nat} (hw : wfS s) (hk : k < np) (r : R7x (rs s.1 own 7) t np sz mx zm am rl nr na ec P Z ZP A RW od) (hn : ∀ c, c ≠ 0 → T.1 c = t.1 c) (hr : ∀ c j, ¬ (99 ≤ c ∧ c ≤ 101 ∧ j = k) → T.2.2.1 c j = t.2.2.1 c j) (hv : v01 (T.2.2.1 100 k)) (h0 : T.1 0 = 0) (hz : ∀ Z, Z ≠ 7 → Z ≠ 99 → rt T Z = rt t Z)
    {c : Option (Sum (α × CS) (Nat × CS))} {d : Option (α × TS)} (hc : c = some (.inl (x, cup s (P k) (ptC T k)))) (hd : d = some (x, T)) : Res (fun X => X = 7) 7 (fun H t => R7 (H 7) t) own s t a b c d := by
  have h3 := rs_in (r.2.1.2.2.2.2.1 k hk).1
  refine Or.inl ⟨x, _, T, own, hc, hd, h0, hz, frm_cup hw (wf_lt hw h3.1) h3.2, ?_, Nat.le_add_right _ _, Nat.le_add_right _ _⟩
  show R7 (rs (lUpd s.1 _ _) own 7) T
  rw [rs_upd h3.2]
  exact ⟨_, _, _, _, _, _, _, _, _, _, _, _, _, _, _, R7_point r hk hn hr hv⟩
theorem wa_signal {own : Nat → Nat} {s : CS} {t : TS} (hw : wfS s) (r : R7 (rs s.1 own 7) t) (v1 v2 : Int32) : Res (fun X => X = 7) 7 (fun H t => R7 (H 7) t) own s t 0 0 (c_498 151 v1 v2 s) (t_623 v1 v2 t) := by
  obtain ⟨np, sz, mx, zm, am, rl, nr, na, ec, P, Z, ZP, A, RW, od, r⟩ := r
  have k47 : isK s [47] 151 = true := isK_t (rs_in r.1.1).1 rfl
  have hp := r.2.1
  have hnp := hp.2.2.1
  unfold c_498 t_623
  rw [if_pos k47, poOf r, isInB, hp.2.1]
  have e3 : (if v2 < 0 then some (0 : Int32) else if 100 < v2 then some 0 else some 1) = some (if inB v2 101 = true then 1 else 0) := by
    have e1 : ((100 : Int32) < v2) = ¬ (v2 < 101) := propext (i_gt (a := 100) (by omega) v2)
    unfold inB
    by_cases h1 : v2 < 0
    · simp [h1]
    · by_cases h2 : v2 < 101
      · simp [h1, h2, e1]
      · simp [h1, h2, e1]
  rw [e3]
  cases hr : inB v1 (Int32.ofNat np) with
  | true =>
    obtain ⟨k, hk, rfl⟩ := inB_nat np (by omega) hr
    have h3 := (rs_in (hp.2.2.2.2.1 k hk).1).1
    have hb : ¬ t.1 1 = 0 := fun z => by have := hp.2.2.2.1.mp z; omega
    have hbk : bN (Int32.ofNat k) = k := i_clamp (by have := hp.2.2.1; omega)
    have hk50 : k < 50 := by have := hp.2.2.1; omega
    cases hr2 : inB v2 101 with
    | true =>
      refine pt_res (k := k) (x := t.2.2.1 99 k) (T := wrI (ptI t 0 0) 99 k v2) hw hk r ?_ ?_ ?_ rfl ?_ ?_ ?_
      · intro c h0; rw [wr_1, pt_1, if_neg h0]
      · intro c j hq; rw [wr_at, if_neg (by omega)]; rfl
      · rw [wr_ne (by omega)]; exact (hp.2.2.2.2.1 k hk).2.1
      · intro Z h7 h9; rw [rt_7 rfl h7, ptI_rt h9]
      · simp [hbk, need_eq, h3, ptC, lLook, xP, xI, xV, toI, wr_at, pt_2, cup_a, cupU]
      · simp [goes_eq, hb, stI_n hk50, rdI_n hk50, pt_2]
    | false => exact Res.arg (x := 0) (by simp [need_eq]) (by simp [goes_eq, ptI])
  | false => exact Res.arg (x := 0) (by simp) (by simp [goes_eq, ptI])
theorem wa_fault {own : Nat → Nat} {s : CS} {t : TS} (hw : wfS s) (r : R7 (rs s.1 own 7) t) (v1 v2 : Int32) (hv2 : v01 v2) : Res (fun X => X = 7) 7 (fun H t => R7 (H 7) t) own s t 0 0 (c_500 151 v1 v2 s) (t_624 v1 v2 t) := by
  obtain ⟨np, sz, mx, zm, am, rl, nr, na, ec, P, Z, ZP, A, RW, od, r⟩ := r
  have k47 : isK s [47] 151 = true := isK_t (rs_in r.1.1).1 rfl
  have hp := r.2.1
  have hnp := hp.2.2.1
  unfold c_500 t_624
  rw [if_pos k47, poOf r, isInB, hp.2.1]
  cases hr : inB v1 (Int32.ofNat np) with
  | true =>
    obtain ⟨k, hk, rfl⟩ := inB_nat np (by omega) hr
    have h3 := (rs_in (hp.2.2.2.2.1 k hk).1).1
    have hb : ¬ t.1 1 = 0 := fun z => by have := hp.2.2.2.1.mp z; omega
    have hbk : bN (Int32.ofNat k) = k := i_clamp (by have := hp.2.2.1; omega)
    have hk50 : k < 50 := by have := hp.2.2.1; omega
    have hk1 := (hp.2.2.2.2.1 k hk).2.1
    have hand : v2 &&& 1 = v2 := by rcases hv2 with rfl | rfl <;> rfl
    refine pt_res (k := k) (x := t.2.2.1 100 k) (T := wrI (ptI t 0 0) 100 k v2) hw hk r ?_ ?_ ?_ rfl ?_ ?_ ?_
    · intro c h0; rw [wr_1, pt_1, if_neg h0]
    · intro c j hq; rw [wr_at, if_neg (by omega)]; rfl
    · rw [wr_at, if_pos ⟨rfl, rfl⟩]; exact hv2
    · intro Z h7 h9; rw [rt_7 rfl h7, ptI_rt h9]
    · simp [hbk, h3, ptC, lLook, xP, xI, xV, toI, wr_at, pt_2, cup_a, cupU, fit01 hv2, fit01 hk1]
    · have hor : t.2.2.1 100 k = 0 ∨ t.2.2.1 100 k = 1 := hk1
      simp [goes_eq, hb, stI_n hk50, rdI_n hk50, pt_2, hand, hor]
  | false => exact Res.arg (x := 0) (by simp) (by simp [goes_eq, ptI])
theorem wa_disable {own : Nat → Nat} {s : CS} {t : TS} (hw : wfS s) (r : R7 (rs s.1 own 7) t) (v1 v2 : Int32) : Res (fun X => X = 7) 7 (fun H t => R7 (H 7) t) own s t 0 0 (c_501 151 v1 v2 s) (t_625 v1 v2 t) := by
  obtain ⟨np, sz, mx, zm, am, rl, nr, na, ec, P, Z, ZP, A, RW, od, r⟩ := r
  have k47 : isK s [47] 151 = true := isK_t (rs_in r.1.1).1 rfl
  have hp := r.2.1
  have hnp := hp.2.2.1
  unfold c_501 t_625
  rw [if_pos k47, poOf r, isInB, hp.2.1]
  have e3 : (if v2 < 0 then some (0 : Int32) else if 1000000 < v2 then some 0 else some 1) = some (if inB v2 1000001 = true then 1 else 0) := by
    have e1 : ((1000000 : Int32) < v2) = ¬ (v2 < 1000001) := propext (i_gt (a := 1000000) (by omega) v2)
    unfold inB
    by_cases h1 : v2 < 0
    · simp [h1]
    · by_cases h2 : v2 < 1000001
      · simp [h1, h2, e1]
      · simp [h1, h2, e1]
  rw [e3]
  cases hr : inB v1 (Int32.ofNat np) with
  | true =>
    obtain ⟨k, hk, rfl⟩ := inB_nat np (by omega) hr
    have h3 := (rs_in (hp.2.2.2.2.1 k hk).1).1
    have hb : ¬ t.1 1 = 0 := fun z => by have := hp.2.2.2.1.mp z; omega
    have hbk : bN (Int32.ofNat k) = k := i_clamp (by have := hp.2.2.1; omega)
    have hk50 : k < 50 := by have := hp.2.2.1; omega
    cases hr2 : inB v2 1000001 with
    | true =>
      refine pt_res (k := k) (x := t.2.2.1 101 k) (T := wrI (ptI t 0 0) 101 k v2) hw hk r ?_ ?_ ?_ rfl ?_ ?_ ?_
      · intro c h0; rw [wr_1, pt_1, if_neg h0]
      · intro c j hq; rw [wr_at, if_neg (by omega)]; rfl
      · rw [wr_ne (by omega)]; exact (hp.2.2.2.2.1 k hk).2.1
      · intro Z h7 h9; rw [rt_7 rfl h7, ptI_rt h9]
      · simp [hbk, need_eq, h3, ptC, lLook, xP, xI, xV, toI, wr_at, pt_2, cup_a, cupU]
      · simp [goes_eq, hb, stI_n hk50, rdI_n hk50, pt_2]
    | false => exact Res.arg (x := 0) (by simp [need_eq]) (by simp [goes_eq, ptI])
  | false => exact Res.arg (x := 0) (by simp) (by simp [goes_eq, ptI])
/-- the house gives a point its value -/
theorem wa_set {own : Nat → Nat} {s : CS} {t : TS} {np sz mx zm am rl nr na ec k : Nat} {P Z ZP A RW od : Nat → Nat} (hw : wfS s) (r : R7x (rs s.1 own 7) t np sz mx zm am rl nr na ec P Z ZP A RW od) (hk : k < np) (v : Int32) : c_514 151 (Int32.ofNat k) v s = some (cup s (P k) (ptC (wrI t 99 k v) k)) ∧ Frm (fun X => X = 7) own own s (cup s (P k) (ptC (wrI t 99 k v) k)) ∧ R7x (rs (cup s (P k) (ptC (wrI t 99 k v) k)).1 own 7) (wrI t 99 k v) np sz mx zm am rl nr na ec P Z ZP A RW od := by
  have hp := r.2.1
  obtain ⟨⟨mc, q1⟩, _⟩ := r.2.1
  have h1 := (rs_in r.1.1).1
  have h2 := (rs_in q1).1
  have h3 := rs_in (hp.2.2.2.2.1 k hk).1
  have hnp := hp.2.2.1
  refine ⟨?_, frm_cup hw (wf_lt hw h3.1) h3.2, ?_⟩
  · unfold c_514
    rw [xN_o h1 rfl rfl, Option.bind_some, if_pos (isK_t h2 rfl), alGet_r h2 hk (by omega), Option.bind_some, toN_o h3.1 rfl, Option.bind_some, xP_c h3.1 rfl (by simp) rfl, Option.bind_some]
    unfold ptC
    simp only [wr_at]
    simp
  · show R7x (rs (lUpd s.1 _ _) own 7) _ _ _ _ _ _ _ _ _ _ _ _ _ _ _ _
    rw [rs_upd h3.2]
    refine R7_point r hk (fun _ _ => rfl) (fun c j hq => ?_) ?_
    · rw [wr_at, if_neg (by omega)]
    · rw [wr_ne (by omega)]; exact (hp.2.2.2.2.1 k hk).2.1
