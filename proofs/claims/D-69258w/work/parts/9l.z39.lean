/-! the law: its helpers, each -/
section
variable {s : CS} {own : Nat → Nat} {t : TS} {K N o : Nat}
theorem lwa_point (r : RL s own t K N o) (v1 : Int32) (v2 : Int32) : LwR own s t K N o 1 6 (c_366 100 v1 v2 o s) (t_639 v1 v2 t) (fun x => some x.toInt64) := by
  have h := lw_gen (fun x : Int32 => x.toInt64) r (hs_point r.1 v1 v2) (h := hdl0) (fun _ _ _ _ _ => hE0)
  unfold c_366
  rw [if_pos (isK_t r.1.c100 rfl)]
  exact h
theorem lwa_pointAt (r : RL s own t K N o) (v1 : Int32) : LwR own s t K N o 1 6 (c_367 100 v1 o s) (t_640 v1 t) (fun x => some x.toInt64) := by
  have h := lw_gen (fun x : Int32 => x.toInt64) r (hs_pointAt r.1 v1) (h := hdl0) (fun _ _ _ _ _ => hE0)
  unfold c_367
  rw [if_pos (isK_t r.1.c100 rfl)]
  exact h
theorem lwa_order (r : RL s own t K N o) : LwR own s t K N o 1001 60006 (c_368 100 o s) (t_641 t) (fun x => some x.toInt64) := by
  have h := lw_gen (fun x : Int32 => x.toInt64) r (hs_order r.1 ) (h := hdl1) (fun _ _ _ _ _ => hE1)
  unfold c_368
  rw [if_pos (isK_t r.1.c100 rfl)]
  exact h
theorem lwa_out (r : RL s own t K N o) (v1 : Int32) (v2 : Int32) : LwR own s t K N o 1001 60006 (c_369 100 v1 v2 o s) (t_642 v1 v2 t) (fun x => some x.toInt64) := by
  have h := lw_gen (fun x : Int32 => x.toInt64) r (hs_out r.1 v1 v2) (h := hdl0) (fun _ _ _ _ _ => hE0)
  unfold c_369
  rw [if_pos (isK_t r.1.c100 rfl)]
  exact h
theorem lwa_failed (r : RL s own t K N o) (v1 : Int32) : LwR own s t K N o 501 30006 (c_370 100 v1 o s) (t_643 v1 t) (fun x => some x.toInt64) := by
  have h := lw_gen (fun x : Int32 => x.toInt64) r (hs_failed r.1 v1) (h := hdl0) (fun _ _ _ _ _ => hE0)
  unfold c_370
  rw [if_pos (isK_t r.1.c100 rfl)]
  exact h
theorem lwa_address (r : RL s own t K N o) (v1 : Int32) (v2 : Int32) : LwR own s t K N o 1 6 (c_371 100 v1 v2 o s) (t_644 v1 v2 t) (fun x => some x.toInt64) := by
  have h := lw_gen (fun x : Int32 => x.toInt64) r (hs_address r.1 v1 v2) (h := hdl0) (fun _ _ _ _ _ => hE0)
  unfold c_371
  rw [if_pos (isK_t r.1.c100 rfl)]
  exact h
theorem lwa_listen (r : RL s own t K N o) (v1 : Int32) (v2 : Int32) (v3 : Int32) (hhvw : v01 v3) : LwR own s t K N o 2 16 (c_372 100 v1 v2 v3 o s) (t_645 v1 v2 v3 t) (fun x => some (if x = 0 then 0 else 1)) := by
  have h := lw_gen (fun x : Int32 => if x = 0 then (0 : Int64) else 1) r (hs_listen r.1 v1 v2 v3 hhvw) (h := hdl0) (fun _ _ _ _ _ => hE0)
  unfold c_372
  rw [if_pos (isK_t r.1.c100 rfl)]
  simp only [b64, Option.bind_some]
  exact h
theorem lwa_busy (r : RL s own t K N o) (v1 : Int32) (v2 : Int32) (hhvw : v01 v2) : LwR own s t K N o 1 6 (c_373 100 v1 v2 o s) (t_646 v1 v2 t) (fun x => some (if x = 0 then 0 else 1)) := by
  have h := lw_gen (fun x : Int32 => if x = 0 then (0 : Int64) else 1) r (hs_busy r.1 v1 v2 hhvw) (h := hdl0) (fun _ _ _ _ _ => hE0)
  unfold c_373
  rw [if_pos (isK_t r.1.c100 rfl)]
  simp only [b64, Option.bind_some]
  exact h
theorem lwa_send (r : RL s own t K N o) (v1 : Int32) (v2 : Int32) (v3 : Int32) (v4 : Int32) (v5 : Int32) (v6 : Int32) : LwR own s t K N o 4 82 (c_374 100 v1 v2 v3 v4 v5 v6 o s) (t_647 v1 v2 v3 v4 v5 v6 t) (fun x => some x.toInt64) := by
  have h := lw_gen (fun x : Int32 => x.toInt64) r (hs_send r.1 v1 v2 v3 v4 v5 v6) (h := hdl0) (fun _ _ _ _ _ => hE0)
  unfold c_374
  rw [if_pos (isK_t r.1.c100 rfl)]
  exact h
theorem lwa_disturb (r : RL s own t K N o) (v1 : Int32) : LwR own s t K N o 7 15 (c_375 100 v1 o s) (t_648 v1 t) (fun x => some (if x = 0 then 0 else 1)) := by
  have h := lw_gen (fun x : Int32 => if x = 0 then (0 : Int64) else 1) r (hs_disturb r.1 v1) (h := hdl0) (fun _ _ _ _ _ => hE0)
  unfold c_375
  rw [if_pos (isK_t r.1.c100 rfl)]
  simp only [b64, Option.bind_some]
  exact h
theorem lwa_station (r : RL s own t K N o) (v1 : Int32) (v2 : Int32) : LwR own s t K N o 1 6 (c_376 100 v1 v2 o s) (t_649 v1 v2 t) (fun x => some x.toInt64) := by
  have h := lw_gen (fun x : Int32 => x.toInt64) r (hs_station r.1 v1 v2) (h := hdl0) (fun _ _ _ _ _ => hE0)
  unfold c_376
  rw [if_pos (isK_t r.1.c100 rfl)]
  exact h
theorem lwa_heard (r : RL s own t K N o) (v1 : Int32) : LwR own s t K N o 1 6 (c_377 100 v1 o s) (t_650 v1 t) (fun x => some x.toInt64) := by
  have h := lw_gen (fun x : Int32 => x.toInt64) r (hs_heard r.1 v1) (h := hdl0) (fun _ _ _ _ _ => hE0)
  unfold c_377
  rw [if_pos (isK_t r.1.c100 rfl)]
  exact h
theorem lwa_byteAt (r : RL s own t K N o) (v1 : Int32) : LwR own s t K N o 1 6 (c_378 100 v1 o s) (t_651 v1 t) (fun x => some x.toInt64) := by
  have h := lw_gen (fun x : Int32 => x.toInt64) r (hs_byteAt r.1 v1) (h := hdl0) (fun _ _ _ _ _ => hE0)
  unfold c_378
  rw [if_pos (isK_t r.1.c100 rfl)]
  exact h
theorem lwa_car (r : RL s own t K N o) (v1 : Int32) (v2 : Int32) : LwR own s t K N o 3 29 (c_379 100 v1 v2 o s) (t_652 v1 v2 t) (fun x => some x.toInt64) := by
  have h := lw_gen (fun x : Int32 => x.toInt64) r (hs_car r.1 v1 v2) (h := hdl0) (fun _ _ _ _ _ => hE0)
  unfold c_379
  rw [if_pos (isK_t r.1.c100 rfl)]
  exact h
theorem lwa_free (r : RL s own t K N o) (v1 : Int32) (v2 : Int32) (v3 : Int32) : LwR own s t K N o 1 6 (c_380 100 v1 v2 v3 s) (uT (t_653 v1 v2 v3 t)) (fun _ => none) := by
  have h := lw_u r (hs_free r.1 v1 v2 v3) (h := hdl0) (fun _ _ _ _ _ => hE0)
  unfold c_380
  rw [if_pos (isK_t r.1.c100 rfl)]
  exact h
theorem lwa_span (r : RL s own t K N o) (v1 : Int32) (v2 : Int32) (v3 : Int32) : LwR own s t K N o 1 6 (c_381 100 v1 v2 v3 s) (uT (t_654 v1 v2 v3 t)) (fun _ => none) := by
  have h := lw_u r (hs_span r.1 v1 v2 v3) (h := hdl0) (fun _ _ _ _ _ => hE0)
  unfold c_381
  rw [if_pos (isK_t r.1.c100 rfl)]
  exact h
theorem lwa_call (r : RL s own t K N o) (v1 : Int32) (v2 : Int32) : LwR own s t K N o 4 18 (c_382 100 v1 v2 o s) (t_655 v1 v2 t) (fun x => some x.toInt64) := by
  have h := lw_gen (fun x : Int32 => x.toInt64) r (hs_call r.1 v1 v2) (h := hdl0) (fun _ _ _ _ _ => hE0)
  unfold c_382
  rw [if_pos (isK_t r.1.c100 rfl)]
  exact h
theorem lwa_begin (r : RL s own t K N o) (v1 : Int32) (v2 : Int32) : LwR own s t K N o 2 7 (c_383 100 v1 v2 o s) (t_656 v1 v2 t) (fun x => some (if x = 0 then 0 else 1)) := by
  have h := lw_gen (fun x : Int32 => if x = 0 then (0 : Int64) else 1) r (hs_begin r.1 v1 v2) (h := hdl0) (fun _ _ _ _ _ => hE0)
  unfold c_383
  rw [if_pos (isK_t r.1.c100 rfl)]
  simp only [b64, Option.bind_some]
  exact h
theorem lwa_done (r : RL s own t K N o) (v1 : Int32) : LwR own s t K N o 4 8 (c_384 100 v1 s) (uT (t_657 v1 t)) (fun _ => none) := by
  have h := lw_u r (hs_done r.1 v1) (h := hdl0) (fun _ _ _ _ _ => hE0)
  unfold c_384
  rw [if_pos (isK_t r.1.c100 rfl)]
  exact h
theorem lwa_give (r : RL s own t K N o) (hcnt : s.2.2.1 < 3800000000) : LwR own s t K N o 1001 7006 (c_385 100 o s) (t_658 t) (fun x => some x) := by
  have h := lw_gen (fun x : Int64 => x) r (hs_give r.1 hcnt) (h := hdl1) (fun _ _ _ _ _ => hE1)
  unfold c_385
  rw [if_pos (isK_t r.1.c100 rfl)]
  exact h
theorem lwa_given (r : RL s own t K N o) (v1 : Int32) (v2 : Int32) : LwR own s t K N o 2 7 (c_386 100 v1 v2 o s) (t_659 v1 v2 t) (fun x => some x.toInt64) := by
  have h := lw_gen (fun x : Int32 => x.toInt64) r (hs_given r.1 v1 v2) (h := hdl0) (fun _ _ _ _ _ => hE0)
  unfold c_386
  rw [if_pos (isK_t r.1.c100 rfl)]
  exact h
theorem lwa_fire (r : RL s own t K N o) (v1 : Int32) (v2 : Int32) : LwR own s t K N o 2 26 (c_387 100 v1 v2 o s) (t_660 v1 v2 t) (fun x => some (if x = 0 then 0 else 1)) := by
  have h := lw_gen (fun x : Int32 => if x = 0 then (0 : Int64) else 1) r (hs_fire r.1 v1 v2) (h := hdl0) (fun _ _ _ _ _ => hE0)
  unfold c_387
  rw [if_pos (isK_t r.1.c100 rfl)]
  simp only [b64, Option.bind_some]
  exact h
theorem lwa_cell (r : RL s own t K N o) (v1 : Int32) (v2 : Int32) (v3 : Int32) : LwR own s t K N o 1 6 (c_388 100 v1 v2 v3 o s) (t_661 v1 v2 v3 t) (fun x => some x.toInt64) := by
  have h := lw_gen (fun x : Int32 => x.toInt64) r (hs_cell r.1 v1 v2 v3) (h := hdl0) (fun _ _ _ _ _ => hE0)
  unfold c_388
  rw [if_pos (isK_t r.1.c100 rfl)]
  exact h
theorem lwa_pass (r : RL s own t K N o) (v1 : Int32) : LwR own s t K N o 5660 39790 (c_389 100 v1 o s) (t_662 v1 t) (fun x => some x.toInt64) := by
  have h := lw_gen (fun x : Int32 => x.toInt64) r (hs_pass r.1 v1) (h := hdl0) (fun _ _ _ _ _ => hE0)
  unfold c_389
  rw [if_pos (isK_t r.1.c100 rfl)]
  exact h
theorem lwa_told (r : RL s own t K N o) (v1 : Int32) : LwR own s t K N o 1 6 (c_390 100 v1 o s) (t_673 v1 t) (fun x => some x.toInt64) := by
  have h := lw_gen (fun x : Int32 => x.toInt64) r (hs_told r.1 v1) (h := hdl0) (fun _ _ _ _ _ => hE0)
  unfold c_390
  rw [if_pos (isK_t r.1.c100 rfl)]
  exact h
end
