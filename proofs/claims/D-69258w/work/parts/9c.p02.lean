/-! the program: what is told of blocks -/
theorem pr_numbers {own : Nat → Nat} {s : CS} {t : TS} (hw : wfS s) (r : R5 (rs s.1 own 5) t) (v1 v2 v3 : Int32) : Res (fun X => X = 5) 5 (fun H t => R5 (H 5) t) own s t 0 0 (uC (c_1090 115 v1 v2 v3 s)) (uT (t_634 v1 v2 v3 t)) := by
  obtain ⟨n, B, o, od, nw, r⟩ := r
  have r2 := r
  obtain ⟨⟨p1, p2, ⟨mc, p3⟩, p4, p5, p6, p7, p8, p9⟩, f, i, b, q⟩ := r2
  have h1 := (rs_in p1).1
  unfold c_1090 t_634
  rw [blOf r, isInB, p5, if_pos (isK_t h1 rfl)]
  cases hr : inB v1 (Int32.ofNat n) with
  | true =>
    obtain ⟨k, hk, rfl⟩ := inB_nat n (by omega) hr
    have h3 := (rs_in (b k hk).1).1
    have hb : ¬ t.1 1 = 0 := p9 (by omega)
    refine bl_res (k := k) (x := ()) (t' := wrI (wrI (ptI t 0 0) 126 k v2) 127 k v3) hw hk r ?_ ?_ ?_ ?_ ?_ ?_ ?_
    · intro c j _ hq
      rw [wr_at, if_neg (fun q => hq ⟨by unfold bRow; omega, q.2⟩), wr_at, if_neg (fun q => hq ⟨by unfold bRow; omega, q.2⟩)]; rfl
    · intro c h0 _
      rw [wr_1, wr_1, pt_1, if_neg h0]
    · exact (b k hk).2.2.2.2.2
    · rfl
    · intro Z h5 h99
      rw [rt_5 rfl h5, rt_5 rfl h5, ptI_rt h99]
    · simp [uC, bN, i_clamp (show k < 2147483648 by omega), h3, bC, lLook, xP, wr_at, pt_2, cup_a, cupU]
    · simp [uT, goes_eq, hb, rdI_n (show k < 40 by omega), stI_n (show k < 40 by omega), pt_2]
  | false => exact Res.arg (x := ()) (by simp [uC]) (by simp [uT, goes_eq, ptI])
theorem pr_hand {own : Nat → Nat} {s : CS} {t : TS} (hw : wfS s) (r : R5 (rs s.1 own 5) t) (v1 v2 v3 : Int32) (hv : v01 v2) : Res (fun X => X = 5) 5 (fun H t => R5 (H 5) t) own s t 0 0 (c_1093 115 v1 v2 v3 s) (t_637 v1 v2 v3 t) := by
  obtain ⟨n, B, o, od, nw, r⟩ := r
  have r2 := r
  obtain ⟨⟨p1, p2, ⟨mc, p3⟩, p4, p5, p6, p7, p8, p9⟩, f, i, b, q⟩ := r2
  have h1 := (rs_in p1).1
  unfold c_1093 t_637
  rw [blOf r, isInB, p5, if_pos (isK_t h1 rfl)]
  cases hr : inB v1 (Int32.ofNat n) with
  | true =>
    obtain ⟨k, hk, rfl⟩ := inB_nat n (by omega) hr
    have h3 := (rs_in (b k hk).1).1
    have hb : ¬ t.1 1 = 0 := p9 (by omega)
    have h01 := (b k hk).2.2.2.2.2
    have h01' : t.2.2.1 134 k = 0 ∨ t.2.2.1 134 k = 1 := h01
    refine bl_res (k := k) (x := t.2.2.1 134 k) (t' := wrI (wrI (ptI t 0 0) 134 k v2) 135 k v3) hw hk r ?_ ?_ ?_ ?_ ?_ ?_ ?_
    · intro c j _ hq
      rw [wr_at, if_neg (fun q => hq ⟨by unfold bRow; omega, q.2⟩), wr_at, if_neg (fun q => hq ⟨by unfold bRow; omega, q.2⟩)]; rfl
    · intro c h0 _
      rw [wr_1, wr_1, pt_1, if_neg h0]
    · rw [wr_at, if_neg (by omega), wr_at, if_pos ⟨rfl, rfl⟩]; exact hv
    · rfl
    · intro Z h5 h99
      rw [rt_5 rfl h5, rt_5 rfl h5, ptI_rt h99]
    · simp [bN, i_clamp (show k < 2147483648 by omega), xI, xV, toI, h3, bC, lLook, xP, wr_at, pt_2, cup_a, cupU, fit01 hv, fit01 h01]
    · simp [goes_eq, hb, rdI_n (show k < 40 by omega), stI_n (show k < 40 by omega), pt_2, i_and1 hv, h01']
  | false => exact Res.arg (x := 0) (by simp) (by simp [goes_eq, ptI])
theorem pr_bind {own : Nat → Nat} {s : CS} {t : TS} (hw : wfS s) (r : R5 (rs s.1 own 5) t) (v1 v2 : Int32) : Res (fun X => X = 5) 5 (fun H t => R5 (H 5) t) own s t 0 0 (c_1094 115 v1 v2 s) (t_638 v1 v2 t) := by
  obtain ⟨n, B, o, od, nw, r⟩ := r
  have r2 := r
  obtain ⟨⟨p1, p2, ⟨mc, p3⟩, p4, p5, p6, p7, p8, p9⟩, f, i, b, q⟩ := r2
  have h1 := (rs_in p1).1
  unfold c_1094 t_638
  rw [blOf r, isInB, p5, if_pos (isK_t h1 rfl), orB2]
  cases hr : inB v1 (Int32.ofNat n) with
  | true =>
    obtain ⟨k, hk, rfl⟩ := inB_nat n (by omega) hr
    have h3 := (rs_in (b k hk).1).1
    have hb : ¬ t.1 1 = 0 := p9 (by omega)
    cases h2 : btw (-1) v2 10 with
    | true =>
      refine bl_res (k := k) (x := t.2.2.1 137 k - 1) (t' := wrI (ptI t 0 0) 137 k (v2 + 1)) hw hk r ?_ ?_ ?_ ?_ ?_ ?_ ?_
      · intro c j _ hq
        rw [wr_at, if_neg (fun q => hq ⟨by unfold bRow; omega, q.2⟩)]; rfl
      · intro c h0 _
        rw [wr_1, pt_1, if_neg h0]
      · exact (b k hk).2.2.2.2.2
      · rfl
      · intro Z h5 h99
        rw [rt_5 rfl h5, ptI_rt h99]
      · simp [need_eq, h2, bN, i_clamp (show k < 2147483648 by omega), xI, xV, toI, h3, bC, lLook, xP, wr_at, pt_2]
      · simp [h2, goes_eq, hb, rdI_n (show k < 40 by omega), stI_n (show k < 40 by omega), pt_2]
    | false => exact Res.arg (x := 0) (by simp [need_eq]) (by simp [goes_eq, ptI])
  | false => exact Res.arg (x := 0) (by simp) (by simp [goes_eq, ptI])
theorem pr_failed {own : Nat → Nat} {s : CS} {t : TS} (hw : wfS s) (r : R5 (rs s.1 own 5) t) (v1 : Int32) : Res (fun X => X = 5) 5 (fun H t => R5 (H 5) t) own s t 0 0 (c_1101 115 v1 s) (t_643 v1 t) := by
  have r0 := r
  obtain ⟨n, B, o, od, nw, r⟩ := r
  obtain ⟨⟨p1, p2, ⟨mc, p3⟩, p4, p5, p6, p7, p8, p9⟩, f, i, b, q⟩ := r
  have h1 := (rs_in p1).1
  have h4 := (rs_in p4).1
  unfold c_1101 t_643
  rw [isInB, xN_o (tab := [(100, 5)]) h1 rfl rfl]
  simp only [Option.bind_some, aLen_r h4 (by omega)]
  rw [show Int32.ofNat 4 = 4 from rfl, orB]
  cases hr : inB v1 4 with
  | true =>
    obtain ⟨k, hk, rfl⟩ := inB_nat 4 (by omega) hr
    by_cases hb : t.1 1 = 0
    · exact Res.sta (x := 0) (by simp [need_eq, may_eq, xI_o (tab := [(100, 7)]) h1 rfl rfl, hb]) (by simp [goes_eq, hb, ptI])
    · exact Res.same (x := t.2.2.1 140 k) hw (by simp [need_eq, may_eq, xI_o (tab := [(100, 7)]) h1 rfl rfl, xN_o (tab := [(100, 5)]) h1 rfl rfl, hb, aI_r (ts := [0, 12]) h4 (by omega) rfl hk (by omega) rfl]) (by simp [goes_eq, hb, rdI_n hk, pt_2]) (R5_pt r0)
  | false => exact Res.arg (x := 0) (by simp [need_eq]) (by simp [goes_eq, ptI])
/-! the program's points: a part of their own -/
theorem R10_wr {h : lHeap} {t : TS} {k : Nat} {v : Int32} : R10 (lUpd h 118 (true, true, 0, rowC (fun j => if j = k then .int v else .int (t.2.2.1 136 j)) 10)) (wrI t 136 k v) := by
  unfold R10
  rw [lUpd_at, if_pos rfl]
  congr 4
  refine rowC_congr (fun j hj => ?_)
  rw [wr_at]
  by_cases e : j = k
  · rw [if_pos e, if_pos ⟨rfl, e⟩]
  · rw [if_neg e, if_neg (fun z => e z.2)]
theorem pr_point {own : Nat → Nat} {s : CS} {t : TS} (hw : wfS s) (r5 : R5 (rs s.1 own 5) t) (r : R10 (rs s.1 own 10) t) (v1 v2 : Int32) : Res (fun X => X = 10) 10 (fun H t => R10 (H 10) t) own s t 0 0 (c_1095 115 v1 v2 s) (t_639 v1 v2 t) := by
  obtain ⟨n, B, o, od, nw, ⟨p1, _⟩, _⟩ := r5
  have h1 := (rs_in p1).1
  have h2 := rs_in r
  unfold c_1095 t_639
  rw [orB2]
  cases hr : btw 4 v1 10 with
  | true =>
    have hr' := of_decide_eq_true hr
    obtain ⟨k, hk, rfl⟩ := i_nat (n := 10) (x := v1) (by omega) (fun z => hr'.1 (Int32.lt_trans z (by decide))) hr'.2
    by_cases hb : t.1 1 = 0
    · exact Res.sta (x := 0) (by simp [need_eq, may_eq, xI_o (tab := [(100, 7)]) h1 rfl rfl, hb]) (by simp [goes_eq, hb, ptI])
    · refine Or.inl ⟨t.2.2.1 136 k, cup s 118 (true, true, 0, rowC (fun j => if j = k then .int v2 else .int (t.2.2.1 136 j)) 10), wrI (ptI t 0 0) 136 k v2, own, ?_, ?_, rfl, ?_, frm_cup hw (wf_lt hw h2.1) h2.2, ?_, Nat.le_add_right _ _, Nat.le_add_right _ _⟩
      · simp only [if_true, Option.bind_some, need_eq, may_eq, xI_o (tab := [(100, 7)]) h1 rfl rfl, hb, if_false, Sum.elim_inl, xN_o (tab := [(100, 4)]) h1 rfl rfl, show ¬ (1 : Int32) = 0 by decide]
        rw [aI_r (ts := [0, 12]) h2.1 (by omega) rfl hk (by omega) rfl, Option.bind_some, aPut_r h2.1 hk (by omega), Option.bind_some]
      · simp [goes_eq, hb, rdI_n hk, stI_n hk, pt_2]
      · intro Z h10 h99
        rw [rt_wrI (by show 10 ≠ Z; exact fun e => h10 e.symm), ptI_rt h99]
      · show R10 (rs (lUpd s.1 118 _) own 10) _
        rw [rs_upd h2.2]
        exact R10_wr
  | false => exact Res.arg (x := 0) (by simp [need_eq]) (by simp [goes_eq, ptI])
theorem pr_pointAt {own : Nat → Nat} {s : CS} {t : TS} (hw : wfS s) (r5 : R5 (rs s.1 own 5) t) (r : R10 (rs s.1 own 10) t) (v1 : Int32) : Res (fun X => X = 10) 10 (fun H t => R10 (H 10) t) own s t 0 0 (c_1096 115 v1 s) (t_640 v1 t) := by
  obtain ⟨n, B, o, od, nw, ⟨p1, _⟩, _⟩ := r5
  have h1 := (rs_in p1).1
  have h2 := rs_in r
  unfold c_1096 t_640
  rw [isInB, orB]
  cases hr : inB v1 10 with
  | true =>
    obtain ⟨k, hk, rfl⟩ := inB_nat 10 (by omega) hr
    by_cases hb : t.1 1 = 0
    · exact Res.sta (x := 0) (by simp [need_eq, may_eq, xI_o (tab := [(100, 7)]) h1 rfl rfl, hb]) (by simp [goes_eq, hb, ptI])
    · exact Res.same (x := t.2.2.1 136 k) hw (by simp [need_eq, may_eq, xI_o (tab := [(100, 7)]) h1 rfl rfl, xN_o (tab := [(100, 4)]) h1 rfl rfl, hb, aI_r (ts := [0, 12]) h2.1 (by omega) rfl hk (by omega) rfl]) (by simp [goes_eq, hb, rdI_n hk, pt_2]) r
  | false => exact Res.arg (x := 0) (by simp [need_eq]) (by simp [goes_eq, ptI])
