/-! the house: its thin operations -/
section
variable {s : CS} {own : Nat → Nat} {t : TS} {K N : Nat}
theorem RH.k5r (r : RH s own t K N) : RK s.1 := by
  obtain ⟨a, b, c, d⟩ := r.k5
  exact ⟨fun k hk => (rs_in (a k hk)).1, (rs_in b).1, (rs_in c).1, (rs_in d).1⟩
theorem kp_u {o : Option TS} (h : Kp (KpN t) o) : Kp (fun r : Unit × TS => KpN t r.2) (uT o) := by
  refine ⟨trivial, fun r hr => ?_⟩
  cases o with
  | none => cases hr
  | some T => cases hr; exact h.h _ rfl
theorem hs_line (r : RH s own t K N) (v1 : Int32) (v2 : Int32) (v3 : Int32) (v4 : Int32) : Hr thr0 own s t K N 5 35 (c_393 100 v1 v2 v3 v4 s) (t_557 v1 v2 v3 v4 t) := by
  have h := pl_line (hw := r.wf) (r := r.r2) (h179 := r.hs) (v1 := v1) (v2 := v2) (v3 := v3) (v4 := v4)
  unfold c_393
  rw [r.m2.1, Option.bind_some, if_pos r.m2.2, bindId]
  exact h.hs r (by omega) RY2 (kp_of (by omega) h) (fun z => absurd z (by decide)) (by decide) (by decide)
theorem hs_move (r : RH s own t K N) (v1 : Int32) (v2 : Int32) (v3 : Int32) : Hr thr0 own s t K N 2 10 (c_396 100 v1 v2 v3 s) (t_559 v1 v2 v3 t) := by
  have h := pl_move (hw := r.wf) (r := r.r2) (v1 := v1) (v2 := v2) (v3 := v3)
  have h := h.fit bv_559
  unfold c_396
  rw [r.m2.1, Option.bind_some, if_pos r.m2.2]
  exact h.hs r (by omega) RY2 (kp_of (by omega) h) (fun z => absurd z (by decide)) (by decide) (by decide)
theorem hs_door (r : RH s own t K N) (v1 : Int32) (v2 : Int32) (v3 : Int32) (v4 : Int32) : Hr thr0 own s t K N 3 25 (c_397 100 v1 v2 v3 v4 s) (t_561 v1 v2 v3 v4 t) := by
  have h := pl_door (hw := r.wf) (r := r.r2) (h179 := r.hs) (v1 := v1) (v2 := v2) (v3 := v3) (v4 := v4)
  unfold c_397
  rw [r.m2.1, Option.bind_some, if_pos r.m2.2, bindId]
  exact h.hs r (by omega) RY2 (kp_of (by omega) h) (fun z => absurd z (by decide)) (by decide) (by decide)
theorem hs_find (r : RH s own t K N) (hcnt : s.2.2.1 < 3800000000) : Hr thr1 own s t K N 8001 91006 (c_398 100 s) (t_562 t) := by
  have h := pl_find (hw := r.wf) (r := r.r2) (h179 := r.hs) (hc := (by omega)) 
  unfold c_398
  rw [r.m2.1, Option.bind_some, if_pos r.m2.2, bindId]
  exact h.hs r (by omega) RY2 (kp_of (by omega) h) (fun z => absurd z (by decide)) (by decide) (by decide)
theorem hs_count (r : RH s own t K N) (v1 : Int32) : Hr thr0 own s t K N 2 10 (c_399 100 v1 s) (t_564 v1 t) := by
  have h := pl_count (hw := r.wf) (r := r.r2) (v1 := v1)
  unfold c_399
  rw [r.m2.1, Option.bind_some, if_pos r.m2.2, bindId]
  exact h.hs r (by omega) RY2 (kp_of (by omega) h) (fun z => absurd z (by decide)) (by decide) (by decide)
theorem hs_sides (r : RH s own t K N) (v1 : Int32) (v2 : Int32) : Hr thr0 own s t K N 1 6 (c_400 100 v1 v2 s) (t_565 v1 v2 t) := by
  have h := pl_sides (hw := r.wf) (r := r.r2) (v1 := v1) (v2 := v2)
  unfold c_400
  rw [r.m2.1, Option.bind_some, if_pos r.m2.2, bindId]
  exact h.hs r (by omega) RY2 (kp_of (by omega) h) (fun z => absurd z (by decide)) (by decide) (by decide)
theorem hs_side (r : RH s own t K N) (v1 : Int32) (v2 : Int32) (v3 : Int32) (v4 : Int32) : Hr thr0 own s t K N 1 6 (c_401 100 v1 v2 v3 v4 s) (t_566 v1 v2 v3 v4 t) := by
  have h := pl_side (hw := r.wf) (r := r.r2) (v1 := v1) (v2 := v2) (v3 := v3) (v4 := v4)
  unfold c_401
  rw [r.m2.1, Option.bind_some, if_pos r.m2.2, bindId]
  exact h.hs r (by omega) RY2 (kp_of (by omega) h) (fun z => absurd z (by decide)) (by decide) (by decide)
theorem hs_size (r : RH s own t K N) (v1 : Int32) (v2 : Int32) : Hr thr0 own s t K N 501 2006 (c_402 100 v1 v2 s) (t_567 v1 v2 t) := by
  have h := pl_size (hw := r.wf) (r := r.r2) (v1 := v1) (v2 := v2)
  unfold c_402
  rw [r.m2.1, Option.bind_some, if_pos r.m2.2, bindId]
  exact h.hs r (by omega) RY2 (kp_of (by omega) h) (fun z => absurd z (by decide)) (by decide) (by decide)
theorem hs_at (r : RH s own t K N) (v1 : Int32) (v2 : Int32) : Hr thr0 own s t K N 2 10 (c_403 100 v1 v2 s) (t_568 v1 v2 t) := by
  have h := pl_at (hw := r.wf) (r := r.r2) (v1 := v1) (v2 := v2)
  unfold c_403
  rw [r.m2.1, Option.bind_some, if_pos r.m2.2, bindId]
  exact h.hs r (by omega) RY2 (kp_of (by omega) h) (fun z => absurd z (by decide)) (by decide) (by decide)
theorem hs_between (r : RH s own t K N) (v1 : Int32) (v2 : Int32) : Hr thr0 own s t K N 501 2506 (c_404 100 v1 v2 s) (t_570 v1 v2 t) := by
  have h := pl_between (hw := r.wf) (r := r.r2) (v1 := v1) (v2 := v2)
  unfold c_404
  rw [r.m2.1, Option.bind_some, if_pos r.m2.2, bindId]
  exact h.hs r (by omega) RY2 (kp_of (by omega) h) (fun z => absurd z (by decide)) (by decide) (by decide)
theorem hs_way (r : RH s own t K N) (v1 : Int32) (v2 : Int32) : Hr thr0 own s t K N 6701 41006 (c_405 100 v1 v2 s) (t_571 v1 v2 t) := by
  have h := pl_way (hw := r.wf) (r := r.r2) (v1 := v1) (v2 := v2)
  unfold c_405
  rw [r.m2.1, Option.bind_some, if_pos r.m2.2, bindId]
  exact h.hs r (by omega) RY2 (kp_of (by omega) h) (fun z => absurd z (by decide)) (by decide) (by decide)
theorem hs_name (r : RH s own t K N) (v1 : Int32) (v2 : Int32) : Hr thr0 own s t K N 1 6 (c_406 100 v1 v2 s) (t_572 v1 v2 t) := by
  have h := pl_name (hw := r.wf) (r := r.r2) (v1 := v1) (v2 := v2)
  unfold c_406
  rw [r.m2.1, Option.bind_some, if_pos r.m2.2, bindId]
  exact h.hs r (by omega) RY2 (kp_of (by omega) h) (fun z => absurd z (by decide)) (by decide) (by decide)
theorem hs_nameOf (r : RH s own t K N) (v1 : Int32) : Hr thr0 own s t K N 1 6 (c_407 100 v1 s) (t_573 v1 t) := by
  have h := pl_nameOf (hw := r.wf) (r := r.r2) (v1 := v1)
  unfold c_407
  rw [r.m2.1, Option.bind_some, if_pos r.m2.2, bindId]
  exact h.hs r (by omega) RY2 (kp_of (by omega) h) (fun z => absurd z (by decide)) (by decide) (by decide)
theorem hs_say (r : RH s own t K N) (v1 : Int64) : Hr thr0 own s t K N 17 198 (c_408 100 v1 s) (t_574 v1 t) := by
  have h := pm_say (hw := r.wf) (r := r.r3) (v1 := v1)
  unfold c_408
  rw [r.m3.1, Option.bind_some, if_pos r.m3.2, bindId]
  exact h.hs r (by omega) RY3 (kp_of (by omega) h) (fun z => absurd z (by decide)) (by decide) (by decide)
theorem hs_trim (r : RH s own t K N) (v1 : Int32) : Hr thr0 own s t K N 1 6 (c_409 100 v1 s) (t_575 v1 t) := by
  have h := pm_trim (hw := r.wf) (r := r.r3) (v1 := v1)
  unfold c_409
  rw [r.m3.1, Option.bind_some, if_pos r.m3.2, bindId]
  exact h.hs r (by omega) RY3 (kp_of (by omega) h) (fun z => absurd z (by decide)) (by decide) (by decide)
theorem hs_fact (r : RH s own t K N) (v1 : Int64) (v3 : Int32) : Hr thr0 own s t K N 91 276 (c_410 100 v1 v3 s) (t_577 v1 v3 t) := by
  have h := pm_fact (hw := r.wf) (r := r.r3) (v1 := v1) (v3 := v3)
  unfold c_410
  rw [r.m3.1, Option.bind_some, if_pos r.m3.2, bindId]
  exact h.hs r (by omega) RY3 (kp_of (by omega) h) (fun z => absurd z (by decide)) (by decide) (by decide)
theorem hs_check (r : RH s own t K N) (v1 : Int32) : Hr thr0 own s t K N 1801 5206 (c_412 100 v1 s) (t_580 v1 t) := by
  have h := pm_check (hw := r.wf) (hs := r.hs) (k3 := r.k3) (r := r.r3) (v1 := v1)
  unfold c_412
  rw [r.m3.1, Option.bind_some, if_pos r.m3.2, bindId]
  exact h.hs r (by omega) RY3 (kp_of (by omega) h) (fun z => absurd z (by decide)) (by decide) (by decide)
theorem hs_rule (r : RH s own t K N) (v1 : Int32) (v2 : Int32) : Hr thr0 own s t K N 1 6 (c_413 100 v1 v2 s) (t_582 v1 v2 t) := by
  have h := pm_rule (hw := r.wf) (k3 := r.k3) (r := r.r3) (v1 := v1) (v2 := v2)
  unfold c_413
  rw [r.m3.1, Option.bind_some, if_pos r.m3.2, bindId]
  exact h.hs r (by omega) RY3 (kp_of (by omega) h) (fun z => absurd z (by decide)) (by decide) (by decide)
theorem hs_portal (r : RH s own t K N) (v1 : Int32) (v2 : Int32) : Hr thr0 own s t K N 1 6 (c_415 100 v1 v2 s) (t_592 v1 v2 t) := by
  have h := ga_portal (hw := r.wf) (r := r.r4) (v1 := v1) (v2 := v2)
  unfold c_415
  rw [r.m4.1, Option.bind_some, if_pos r.m4.2, bindId]
  exact h.hs r (by omega) RY4 (kp_592 KpN.rf) (fun _ z => gz_592 z) (by decide) (by decide)
theorem hs_person (r : RH s own t K N) (v1 : Int32) (v2 : Int32) : Hr thr0 own s t K N 3 31 (c_416 100 v1 v2 s) (t_593 v1 v2 t) := by
  have h := ga_person (hw := r.wf) (hs := r.hs) (r := r.r4) (v1 := v1) (v2 := v2)
  unfold c_416
  rw [r.m4.1, Option.bind_some, if_pos r.m4.2, bindId]
  exact h.hs r (by omega) RY4 (kp_593 KpN.rf) (fun _ z => gz_593 z) (by decide) (by decide)
theorem hs_card (r : RH s own t K N) (v1 : Int32) (v2 : Int32) (hK : K < 1000) : Hr thr0 own s t K N 5 37 (c_417 100 v1 v2 s) (t_594 v1 v2 t) := by
  have h := ga_card (hw := r.wf) (hs := r.hs) (hK := hK) (r := r.r4) (v1 := v1) (v2 := v2)
  unfold c_417
  rw [r.m4.1, Option.bind_some, if_pos r.m4.2, bindId]
  exact h.hs r (by omega) RY4 (kp_594 KpN.rf) (fun _ z => gz_594 z) (by decide) (by decide)
theorem hs_right (r : RH s own t K N) (v1 : Int32) (v2 : Int32) (v3 : Int32) (v4 : Int32) (v5 : Int32) (hK : K < 1000) : Hr thr0 own s t K N 5 39 (c_418 100 v1 v2 v3 v4 v5 s) (t_597 v1 v2 v3 v4 v5 t) := by
  have h := ga_right (hw := r.wf) (hs := r.hs) (hK := hK) (r := r.r4) (v1 := v1) (v2 := v2) (v3 := v3) (v4 := v4) (v5 := v5)
  unfold c_418
  rw [r.m4.1, Option.bind_some, if_pos r.m4.2, bindId]
  exact h.hs r (by omega) RY4 (kp_597 KpN.rf) (fun _ z => gz_597 z) (by decide) (by decide)
theorem hs_end (r : RH s own t K N) (v1 : Int32) (v2 : Int32) (hK : K < 1000) : Hr thr0 own s t K N 5 15 (c_419 100 v1 v2 s) (t_598 v1 v2 t) := by
  have h := ga_end (hw := r.wf) (hK := hK) (r := r.r4) (v1 := v1) (v2 := v2)
  unfold c_419
  rw [r.m4.1, Option.bind_some, if_pos r.m4.2, bindId]
  exact h.hs r (by omega) RY4 (kp_598 KpN.rf) (fun _ z => gz_598 z) (by decide) (by decide)
theorem hs_lost (r : RH s own t K N) (v1 : Int32) (v2 : Int32) (hK : K < 1000) : Hr thr0 own s t K N 5 15 (c_420 100 v1 v2 s) (t_600 v1 v2 t) := by
  have h := ga_lost (hw := r.wf) (hK := hK) (r := r.r4) (v1 := v1) (v2 := v2)
  unfold c_420
  rw [r.m4.1, Option.bind_some, if_pos r.m4.2, bindId]
  exact h.hs r (by omega) RY4 (kp_600 KpN.rf) (fun _ z => gz_600 z) (by decide) (by decide)
theorem hs_two (r : RH s own t K N) (v1 : Int32) (v2 : Int32) (hvw : v01 v2) : Hr thr0 own s t K N 1 6 (c_421 100 v1 v2 s) (t_601 v1 v2 t) := by
  have h := ga_two (hw := r.wf) (r := r.r4) (hv := hvw) (v1 := v1) (v2 := v2)
  have h := h.fit bv_601
  unfold c_421
  rw [r.m4.1, Option.bind_some, if_pos r.m4.2]
  exact h.hs r (by omega) RY4 (kp_601 KpN.rf) (fun _ z => gz_601 z) (by decide) (by decide)
end
