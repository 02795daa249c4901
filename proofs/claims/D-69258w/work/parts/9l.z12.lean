/-! the house: its thin operations -/
section
variable {s : CS} {own : Nat → Nat} {t : TS} {K N : Nat}
theorem hs_airlock (r : RH s own t K N) (v1 : Int32) (v2 : Int32) (v3 : Int32) (hK : K < 1000) (hvw : v01 v3) : Hr thr0 own s t K N 3 106 (c_422 100 v1 v2 v3 s) (t_602 v1 v2 v3 t) := by
  have h := ga_airlock (hw := r.wf) (hK := hK) (r := r.r4) (hv := hvw) (v1 := v1) (v2 := v2) (v3 := v3)
  have h := h.fit bv_602
  unfold c_422
  rw [r.m4.1, Option.bind_some, if_pos r.m4.2]
  exact h.hs r (by omega) RY4 (kp_602 KpN.rf) (fun _ z => gz_602 z) (by decide) (by decide)
theorem hs_stands (r : RH s own t K N) (v1 : Int32) (v2 : Int32) (hvw : v01 v2) : Hr thr0 own s t K N 1 6 (c_423 100 v1 v2 s) (t_604 v1 v2 t) := by
  obtain ⟨nw, h2, hnw, _⟩ := r.nn.nw
  have h := ga_stands (hw := r.wf) (hnw := hnw) (h2 := h2) (r := r.r4) (hv := hvw) (h101 := r.c101.1) (v1 := v1) (v2 := v2)
  unfold c_423
  rw [r.m4.1, Option.bind_some, if_pos r.m4.2, bindId]
  exact h.hs r (by omega) RY4 (kp_604 KpN.rf) (fun _ z => gz_604 z) (by decide) (by decide)
theorem hs_where (r : RH s own t K N) (v1 : Int32) (v2 : Int32) : Hr thr0 own s t K N 1 6 (c_427 100 v1 v2 s) (t_616 v1 v2 t) := by
  have h := ga_where (hw := r.wf) (r := r.r4) (v1 := v1) (v2 := v2)
  unfold c_427
  rw [r.m4.1, Option.bind_some, if_pos r.m4.2, bindId]
  exact h.hs r (by omega) RY4 (kp_616 KpN.rf) (fun _ z => gz_616 z) (by decide) (by decide)
theorem hs_inside (r : RH s own t K N) (v1 : Int32) : Hr thr0 own s t K N 1 6 (c_428 100 v1 s) (t_617 v1 t) := by
  have h := ga_inside (hw := r.wf) (r := r.r4) (v1 := v1)
  unfold c_428
  rw [r.m4.1, Option.bind_some, if_pos r.m4.2, bindId]
  exact h.hs r (by omega) RY4 (kp_617 KpN.rf) (fun _ z => gz_617 z) (by decide) (by decide)
theorem hs_against (r : RH s own t K N) (v1 : Int32) (v2 : Int32) (hK : K < 1000) : Hr thr0 own s t K N 1 6 (c_429 100 v1 v2 s) (t_618 v1 v2 t) := by
  have h := ga_against (hw := r.wf) (hK := hK) (r := r.r4) (v1 := v1) (v2 := v2)
  unfold c_429
  rw [r.m4.1, Option.bind_some, if_pos r.m4.2, bindId]
  exact h.hs r (by omega) RY4 (kp_618 KpN.rf) (fun _ z => gz_618 z) (by decide) (by decide)
theorem hs_unit (r : RH s own t K N) (v1 : Int32) : Hr thr0 own s t K N 3 30 (c_430 100 v1 s) (t_619 v1 t) := by
  have h := Res.rg r.wf r.r7 (wa_unit (hw := r.wf) (r := r.r7) (v1 := v1))
  unfold c_430
  rw [r.m7.1, Option.bind_some, if_pos r.m7.2, bindId]
  exact h.hs r (by omega) RY7 (kp_619 KpN.rf) (fun z => absurd z (by decide)) (by decide) (by decide)
theorem hs_cutText (r : RH s own t K N) (v1 : Int32) : Hr thr0 own s t K N 1 6 (c_432 100 v1 s) (t_621 v1 t) := by
  have h := Res.rg r.wf r.r7 (wa_cut (hw := r.wf) (r := r.r7) (v1 := v1))
  unfold c_432
  rw [r.m7.1, Option.bind_some, if_pos r.m7.2, bindId]
  exact h.hs r (by omega) RY7 (kp_621 KpN.rf) (fun z => absurd z (by decide)) (by decide) (by decide)
theorem hs_matrix (r : RH s own t K N) (hcnt : s.2.2.1 < 3800000000) : Hr thr1 own s t K N 4101 34606 (c_433 100 s) (t_622 t) := by
  have h := wa_matrix (hw := r.wf) (hs := r.hs) (k7 := r.k7) (r := r.r7) (hcnt := (by omega)) 
  unfold c_433
  rw [r.m7.1, Option.bind_some, if_pos r.m7.2, bindId]
  exact h.hs r (by omega) RY7 (kp_622 KpN.rf) (fun z => absurd z (by decide)) (by decide) (by decide)
theorem hs_signal (r : RH s own t K N) (v1 : Int32) (v2 : Int32) : Hr thr0 own s t K N 1 6 (c_434 100 v1 v2 s) (t_623 v1 v2 t) := by
  have h := Res.rg r.wf r.r7 (wa_signal (hw := r.wf) (r := r.r7) (v1 := v1) (v2 := v2))
  unfold c_434
  rw [r.m7.1, Option.bind_some, if_pos r.m7.2, bindId]
  exact h.hs r (by omega) RY7 (kp_623 KpN.rf) (fun z => absurd z (by decide)) (by decide) (by decide)
theorem hs_fault (r : RH s own t K N) (v1 : Int32) (v2 : Int32) (hv2w : v01 v2) : Hr thr0 own s t K N 1 6 (c_435 100 v1 v2 s) (t_624 v1 v2 t) := by
  have h := Res.rg r.wf r.r7 (wa_fault (hw := r.wf) (r := r.r7) (hv2 := hv2w) (v1 := v1) (v2 := v2))
  have h := h.fit bv_624
  unfold c_435
  rw [r.m7.1, Option.bind_some, if_pos r.m7.2]
  exact h.hs r (by omega) RY7 (kp_624 KpN.rf) (fun z => absurd z (by decide)) (by decide) (by decide)
theorem hs_disable (r : RH s own t K N) (v1 : Int32) (v2 : Int32) : Hr thr0 own s t K N 1 6 (c_436 100 v1 v2 s) (t_625 v1 v2 t) := by
  have h := Res.rg r.wf r.r7 (wa_disable (hw := r.wf) (r := r.r7) (v1 := v1) (v2 := v2))
  unfold c_436
  rw [r.m7.1, Option.bind_some, if_pos r.m7.2, bindId]
  exact h.hs r (by omega) RY7 (kp_625 KpN.rf) (fun z => absurd z (by decide)) (by decide) (by decide)
theorem hs_attend (r : RH s own t K N) (v1 : Int32) (hcnt : s.2.2.1 < 3800000000) : Hr thr0 own s t K N 3 11 (c_437 100 v1 s) (t_626 v1 t) := by
  have h := wa_attend (hw := r.wf) (k7 := r.k7) (r := r.r7) (hcnt := (by omega)) (v1 := v1)
  unfold c_437
  rw [r.m7.1, Option.bind_some, if_pos r.m7.2, bindId]
  exact h.hs r (by omega) RY7 (kp_626 KpN.rf) (fun z => absurd z (by decide)) (by decide) (by decide)
theorem hs_act (r : RH s own t K N) (v1 : Int32) (v2 : Int32) : Hr thr0 own s t K N 2 7 (c_439 100 v1 v2 s) (t_629 v1 v2 t) := by
  have h := wa_act (hw := r.wf) (k7 := r.k7) (r := r.r7) (v1 := v1) (v2 := v2)
  unfold c_439
  rw [r.m7.1, Option.bind_some, if_pos r.m7.2, bindId]
  exact h.hs r (by omega) RY7 (kp_629 KpN.rf) (fun z => absurd z (by decide)) (by decide) (by decide)
theorem hs_zone (r : RH s own t K N) (v1 : Int32) (v2 : Int32) : Hr thr0 own s t K N 2 7 (c_440 100 v1 v2 s) (t_630 v1 v2 t) := by
  have h := wa_zone (hw := r.wf) (r := r.r7) (v1 := v1) (v2 := v2)
  unfold c_440
  rw [r.m7.1, Option.bind_some, if_pos r.m7.2, bindId]
  exact h.hs r (by omega) RY7 (kp_630 KpN.rf) (fun z => absurd z (by decide)) (by decide) (by decide)
theorem hs_event (r : RH s own t K N) (v1 : Int32) (v2 : Int32) : Hr thr0 own s t K N 1 6 (c_441 100 v1 v2 s) (t_631 v1 v2 t) := by
  have h := Res.rg r.wf r.r7 (wa_event (hw := r.wf) (r := r.r7) (v1 := v1) (v2 := v2))
  unfold c_441
  rw [r.m7.1, Option.bind_some, if_pos r.m7.2, bindId]
  exact h.hs r (by omega) RY7 (kp_631 KpN.rf) (fun z => absurd z (by decide)) (by decide) (by decide)
theorem hs_block (r : RH s own t K N) (v1 : Int32) : Hr thr0 own s t K N 511 30106 (c_442 100 v1 s) (t_632 v1 t) := by
  have h := Res.rg r.wf r.r5 (pr_block (hw := r.wf) (hs := r.hs) (r := r.r5) (v1 := v1))
  have h := h.and r.nn.b5 (Kp.kb r.nn.b5 (kb_632 KbN.rf))
  unfold c_442
  rw [r.m5.1, Option.bind_some, if_pos r.m5.2, bindId]
  exact h.hs r (by omega) RY5 (kp_of (by omega) h) (fun z => absurd z (by decide)) (by decide) (by decide)
theorem hs_wire (r : RH s own t K N) (v1 : Int32) (v2 : Int32) (v3 : Int32) : Hr thr0 own s t K N 501 30006 (c_443 100 v1 v2 v3 s) (t_633 v1 v2 v3 t) := by
  have h := Res.rg r.wf r.r5 (pr_wire (hw := r.wf) (r := r.r5) (v1 := v1) (v2 := v2) (v3 := v3))
  have h := h.and r.nn.b5 (Kp.kb r.nn.b5 (kb_633 KbN.rf))
  unfold c_443
  rw [r.m5.1, Option.bind_some, if_pos r.m5.2, bindId]
  exact h.hs r (by omega) RY5 (kp_of (by omega) h) (fun z => absurd z (by decide)) (by decide) (by decide)
theorem hs_numbers (r : RH s own t K N) (v1 : Int32) (v2 : Int32) (v3 : Int32) : Hr thr0 own s t K N 501 30006 (uC (c_444 100 v1 v2 v3 s)) (uT (t_634 v1 v2 v3 t)) := by
  have h := Res.rg r.wf r.r5 (pr_numbers (hw := r.wf) (r := r.r5) (v1 := v1) (v2 := v2) (v3 := v3))
  have h := h.and r.nn.b5 (Kp.kb r.nn.b5 (kb_u (kb_634 KbN.rf)))
  unfold c_444
  rw [r.m5.1, Option.bind_some, if_pos r.m5.2, uC_id]
  exact h.hs r (by omega) RY5 (kp_of (by omega) h) (fun z => absurd z (by decide)) (by decide) (by decide)
theorem hs_row (r : RH s own t K N) (v1 : Int32) (v2 : Int32) (v3 : Int32) : Hr thr0 own s t K N 501 30006 (c_445 100 v1 v2 v3 s) (t_635 v1 v2 v3 t) := by
  have h := Res.rg r.wf r.r5 (pr_row (hw := r.wf) (hK := r.k5r) (r := r.r5) (v1 := v1) (v2 := v2) (v3 := v3))
  have h := h.and r.nn.b5 (Kp.kb r.nn.b5 (kb_635 KbN.rf))
  unfold c_445
  rw [r.m5.1, Option.bind_some, if_pos r.m5.2, bindId]
  exact h.hs r (by omega) RY5 (kp_of (by omega) h) (fun z => absurd z (by decide)) (by decide) (by decide)
theorem hs_safe (r : RH s own t K N) (v1 : Int32) (v2 : Int32) : Hr thr0 own s t K N 501 30006 (c_446 100 v1 v2 s) (t_636 v1 v2 t) := by
  have h := Res.rg r.wf r.r5 (pr_safe (hw := r.wf) (r := r.r5) (v1 := v1) (v2 := v2))
  have h := h.and r.nn.b5 (Kp.kb r.nn.b5 (kb_636 KbN.rf))
  unfold c_446
  rw [r.m5.1, Option.bind_some, if_pos r.m5.2, bindId]
  exact h.hs r (by omega) RY5 (kp_of (by omega) h) (fun z => absurd z (by decide)) (by decide) (by decide)
theorem hs_hand (r : RH s own t K N) (v1 : Int32) (v2 : Int32) (v3 : Int32) (hvw : v01 v2) : Hr thr0 own s t K N 501 30006 (c_447 100 v1 v2 v3 s) (t_637 v1 v2 v3 t) := by
  have h := Res.rg r.wf r.r5 (pr_hand (hw := r.wf) (r := r.r5) (hv := hvw) (v1 := v1) (v2 := v2) (v3 := v3))
  have h := h.fit bv_637
  have h := h.and r.nn.b5 (Kp.kb r.nn.b5 (kb_637 KbN.rf))
  unfold c_447
  rw [r.m5.1, Option.bind_some, if_pos r.m5.2]
  exact h.hs r (by omega) RY5 (kp_of (by omega) h) (fun z => absurd z (by decide)) (by decide) (by decide)
theorem hs_bind (r : RH s own t K N) (v1 : Int32) (v2 : Int32) : Hr thr0 own s t K N 501 30006 (c_448 100 v1 v2 s) (t_638 v1 v2 t) := by
  have h := Res.rg r.wf r.r5 (pr_bind (hw := r.wf) (r := r.r5) (v1 := v1) (v2 := v2))
  have h := h.and r.nn.b5 (kb_638 r.nn.b5)
  unfold c_448
  rw [r.m5.1, Option.bind_some, if_pos r.m5.2, bindId]
  exact h.hs r (by omega) RY5 (kp_of (by omega) h) (fun z => absurd z (by decide)) (by decide) (by decide)
theorem hs_point (r : RH s own t K N) (v1 : Int32) (v2 : Int32) : Hr thr0 own s t K N 1 6 (c_449 100 v1 v2 s) (t_639 v1 v2 t) := by
  have h := Res.rg r.wf r.r10 (pr_point (hw := r.wf) (r5 := r.r5) (r := r.r10) (v1 := v1) (v2 := v2))
  unfold c_449
  rw [r.m5.1, Option.bind_some, if_pos r.m5.2, bindId]
  exact h.hs r (by omega) RY10 (kp_of (by omega) h) (fun z => absurd z (by decide)) (by decide) (by decide)
theorem hs_pointAt (r : RH s own t K N) (v1 : Int32) : Hr thr0 own s t K N 1 6 (c_450 100 v1 s) (t_640 v1 t) := by
  have h := Res.rg r.wf r.r10 (pr_pointAt (hw := r.wf) (r5 := r.r5) (r := r.r10) (v1 := v1))
  unfold c_450
  rw [r.m5.1, Option.bind_some, if_pos r.m5.2, bindId]
  exact h.hs r (by omega) RY10 (kp_of (by omega) h) (fun z => absurd z (by decide)) (by decide) (by decide)
theorem hs_order (r : RH s own t K N) : Hr thr1 own s t K N 1001 60006 (c_451 100 s) (t_641 t) := by
  have h := Res1.rg r.wf r.r5 (pr_order (hw := r.wf) (hK := r.k5r) (hs := r.hs) (r := r.r5) )
  have h := h.and r.nn.b5 (Kp.kb r.nn.b5 (kb_641 KbN.rf))
  unfold c_451
  rw [r.m5.1, Option.bind_some, if_pos r.m5.2, bindId]
  exact h.hs r (by omega) RY5 (kp_of (by omega) h) (fun z => absurd z (by decide)) (by decide) (by decide)
end
