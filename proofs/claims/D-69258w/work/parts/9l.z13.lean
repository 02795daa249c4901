/-! the house: its thin operations -/
section
variable {s : CS} {own : Nat → Nat} {t : TS} {K N : Nat}
theorem hs_out (r : RH s own t K N) (v1 : Int32) (v2 : Int32) : Hr thr0 own s t K N 1001 60006 (c_452 100 v1 v2 s) (t_642 v1 v2 t) := by
  have h := Res.rg r.wf r.r5 (pr_out (hw := r.wf) (hK := r.k5r) (hs := r.hs) (r := r.r5) (v1 := v1) (v2 := v2))
  have h := h.and r.nn.b5 (Kp.kb r.nn.b5 (kb_642 KbN.rf))
  unfold c_452
  rw [r.m5.1, Option.bind_some, if_pos r.m5.2, bindId]
  exact h.hs r (by omega) RY5 (kp_of (by omega) h) (fun z => absurd z (by decide)) (by decide) (by decide)
theorem hs_failed (r : RH s own t K N) (v1 : Int32) : Hr thr0 own s t K N 501 30006 (c_453 100 v1 s) (t_643 v1 t) := by
  have h := Res.rg r.wf r.r5 (pr_failed (hw := r.wf) (r := r.r5) (v1 := v1))
  have h := h.and r.nn.b5 (Kp.kb r.nn.b5 (kb_643 KbN.rf))
  unfold c_453
  rw [r.m5.1, Option.bind_some, if_pos r.m5.2, bindId]
  exact h.hs r (by omega) RY5 (kp_of (by omega) h) (fun z => absurd z (by decide)) (by decide) (by decide)
theorem hs_address (r : RH s own t K N) (v1 : Int32) (v2 : Int32) : Hr thr0 own s t K N 1 6 (c_454 100 v1 v2 s) (t_644 v1 v2 t) := by
  have h := Res.rg r.wf r.r6 (bus_address (hw := r.wf) (r := r.r6) (v1 := v1) (v2 := v2))
  unfold c_454
  rw [r.m6.1, Option.bind_some, if_pos r.m6.2, bindId]
  exact h.hs r (by omega) RY6 (kp_644 KpN.rf) (fun z => absurd z (by decide)) (by decide) (by decide)
theorem hs_listen (r : RH s own t K N) (v1 : Int32) (v2 : Int32) (v3 : Int32) (hvw : v01 v3) : Hr thr0 own s t K N 2 16 (c_455 100 v1 v2 v3 s) (t_645 v1 v2 v3 t) := by
  have h := Res.rg r.wf r.r6 (bus_listen (hw := r.wf) (r := r.r6) (hv := hvw) (v1 := v1) (v2 := v2) (v3 := v3))
  have h := h.fit bv_645
  unfold c_455
  rw [r.m6.1, Option.bind_some, if_pos r.m6.2]
  exact h.hs r (by omega) RY6 (kp_645 KpN.rf) (fun z => absurd z (by decide)) (by decide) (by decide)
theorem hs_busy (r : RH s own t K N) (v1 : Int32) (v2 : Int32) (hvw : v01 v2) : Hr thr0 own s t K N 1 6 (c_456 100 v1 v2 s) (t_646 v1 v2 t) := by
  have h := Res.rg r.wf r.r6 (bus_busy (hw := r.wf) (r := r.r6) (hv := hvw) (v1 := v1) (v2 := v2))
  have h := h.fit bv_646
  unfold c_456
  rw [r.m6.1, Option.bind_some, if_pos r.m6.2]
  exact h.hs r (by omega) RY6 (kp_646 KpN.rf) (fun z => absurd z (by decide)) (by decide) (by decide)
theorem hs_send (r : RH s own t K N) (v1 : Int32) (v2 : Int32) (v3 : Int32) (v4 : Int32) (v5 : Int32) (v6 : Int32) : Hr thr0 own s t K N 4 82 (c_457 100 v1 v2 v3 v4 v5 v6 s) (t_647 v1 v2 v3 v4 v5 v6 t) := by
  have h := Res.rg r.wf r.r6 (bus_send (hw := r.wf) (hs := r.hs) (r := r.r6) (v1 := v1) (v2 := v2) (v3 := v3) (v4 := v4) (v5 := v5) (v6 := v6))
  unfold c_457
  rw [r.m6.1, Option.bind_some, if_pos r.m6.2, bindId]
  exact h.hs r (by omega) RY6 (kp_647 KpN.rf) (fun z => absurd z (by decide)) (by decide) (by decide)
theorem hs_station (r : RH s own t K N) (v1 : Int32) (v2 : Int32) : Hr thr0 own s t K N 1 6 (c_459 100 v1 v2 s) (t_649 v1 v2 t) := by
  have h := Res.rg r.wf r.r6 (bus_station (hw := r.wf) (r := r.r6) (v1 := v1) (v2 := v2))
  unfold c_459
  rw [r.m6.1, Option.bind_some, if_pos r.m6.2, bindId]
  exact h.hs r (by omega) RY6 (kp_649 KpN.rf) (fun z => absurd z (by decide)) (by decide) (by decide)
theorem hs_heard (r : RH s own t K N) (v1 : Int32) : Hr thr0 own s t K N 1 6 (c_460 100 v1 s) (t_650 v1 t) := by
  have h := Res.rg r.wf r.r6 (bus_heard (hw := r.wf) (r := r.r6) (v1 := v1))
  unfold c_460
  rw [r.m6.1, Option.bind_some, if_pos r.m6.2, bindId]
  exact h.hs r (by omega) RY6 (kp_650 KpN.rf) (fun z => absurd z (by decide)) (by decide) (by decide)
theorem hs_byteAt (r : RH s own t K N) (v1 : Int32) : Hr thr0 own s t K N 1 6 (c_461 100 v1 s) (t_651 v1 t) := by
  have h := Res.rg r.wf r.r6 (bus_byteAt (hw := r.wf) (r := r.r6) (v1 := v1))
  unfold c_461
  rw [r.m6.1, Option.bind_some, if_pos r.m6.2, bindId]
  exact h.hs r (by omega) RY6 (kp_651 KpN.rf) (fun z => absurd z (by decide)) (by decide) (by decide)
theorem hs_car (r : RH s own t K N) (v1 : Int32) (v2 : Int32) : Hr thr0 own s t K N 3 29 (c_462 100 v1 v2 s) (t_652 v1 v2 t) := by
  have h := Res.rg r.wf r.r8 (li_car (hw := r.wf) (hs := r.hs) (r := r.r8) (v1 := v1) (v2 := v2))
  unfold c_462
  rw [r.m8.1, Option.bind_some, if_pos r.m8.2, bindId]
  exact h.hs r (by omega) RY8 (kp_652 KpN.rf) (fun z => absurd z (by decide)) (by decide) (by decide)
theorem hs_free (r : RH s own t K N) (v1 : Int32) (v2 : Int32) (v3 : Int32) : Hr thr0 own s t K N 1 6 (uC (c_463 100 v1 v2 v3 s)) (uT (t_653 v1 v2 v3 t)) := by
  have h := Res.rg r.wf r.r8 (li_free (hw := r.wf) (r := r.r8) (v1 := v1) (v2 := v2) (v3 := v3))
  unfold c_463
  rw [r.m8.1, Option.bind_some, if_pos r.m8.2, uC_id]
  exact h.hs r (by omega) RY8 (kp_u (kp_653 KpN.rf)) (fun z => absurd z (by decide)) (by decide) (by decide)
theorem hs_span (r : RH s own t K N) (v1 : Int32) (v2 : Int32) (v3 : Int32) : Hr thr0 own s t K N 1 6 (uC (c_464 100 v1 v2 v3 s)) (uT (t_654 v1 v2 v3 t)) := by
  have h := Res.rg r.wf r.r8 (li_span (hw := r.wf) (r := r.r8) (v1 := v1) (v2 := v2) (v3 := v3))
  unfold c_464
  rw [r.m8.1, Option.bind_some, if_pos r.m8.2, uC_id]
  exact h.hs r (by omega) RY8 (kp_u (kp_654 KpN.rf)) (fun z => absurd z (by decide)) (by decide) (by decide)
theorem hs_begin (r : RH s own t K N) (v1 : Int32) (v2 : Int32) : Hr thr0 own s t K N 2 7 (c_466 100 v1 v2 s) (t_656 v1 v2 t) := by
  have h := li_begin (hw := r.wf) (r := r.r8) (v1 := v1) (v2 := v2)
  have h := h.fit bv_656
  unfold c_466
  rw [r.m8.1, Option.bind_some, if_pos r.m8.2]
  exact h.hs r (by omega) RY8 (kp_656 KpN.rf) (fun z => absurd z (by decide)) (by decide) (by decide)
theorem hs_done (r : RH s own t K N) (v1 : Int32) : Hr thr0 own s t K N 4 8 (uC (c_467 100 v1 s)) (uT (t_657 v1 t)) := by
  have h := li_done (hw := r.wf) (r := r.r8) (v1 := v1)
  unfold c_467
  rw [r.m8.1, Option.bind_some, if_pos r.m8.2, uC_id]
  exact h.hs r (by omega) RY8 (kp_u (kp_657 KpN.rf)) (fun z => absurd z (by decide)) (by decide) (by decide)
theorem hs_given (r : RH s own t K N) (v1 : Int32) (v2 : Int32) : Hr thr0 own s t K N 2 7 (c_469 100 v1 v2 s) (t_659 v1 v2 t) := by
  have h := li_given (hw := r.wf) (r := r.r8) (v1 := v1) (v2 := v2)
  unfold c_469
  rw [r.m8.1, Option.bind_some, if_pos r.m8.2, bindId]
  exact h.hs r (by omega) RY8 (kp_659 KpN.rf) (fun z => absurd z (by decide)) (by decide) (by decide)
theorem hs_fire (r : RH s own t K N) (v1 : Int32) (v2 : Int32) : Hr thr0 own s t K N 2 26 (c_470 100 v1 v2 s) (t_660 v1 v2 t) := by
  have h := ce_fire (hw := r.wf) (r := r.r9) (v1 := v1) (v2 := v2)
  have h := h.fit bv_660
  unfold c_470
  rw [r.m9.1, Option.bind_some, if_pos r.m9.2]
  exact h.hs r (by omega) RY9 (kp_of (by omega) h) (fun z => absurd z (by decide)) (by decide) (by decide)
end
