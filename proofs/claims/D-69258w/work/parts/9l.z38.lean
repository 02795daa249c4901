/-! the law: its helpers, each -/
section
variable {s : CS} {own : Nat → Nat} {t : TS} {K N o : Nat}
theorem lwa_airlock (r : RL s own t K N o) (v1 : Int32) (v2 : Int32) (v3 : Int32) (hK : K < 1000) (hhvw : v01 v3) : LwR own s t K N o 3 106 (c_339 100 v1 v2 v3 o s) (t_602 v1 v2 v3 t) (fun x => some (if x = 0 then 0 else 1)) := by
  have h := lw_gen (fun x : Int32 => if x = 0 then (0 : Int64) else 1) r (hs_airlock r.1 v1 v2 v3 hK hhvw) (h := hdl0) (fun _ _ _ _ _ => hE0)
  unfold c_339
  rw [if_pos (isK_t r.1.c100 rfl)]
  simp only [b64, Option.bind_some]
  exact h
theorem lwa_stands (r : RL s own t K N o) (v1 : Int32) (v2 : Int32) (hhvw : v01 v2) : LwR own s t K N o 1 6 (c_340 100 v1 v2 o s) (t_604 v1 v2 t) (fun x => some x.toInt64) := by
  have h := lw_gen (fun x : Int32 => x.toInt64) r (hs_stands r.1 v1 v2 hhvw) (h := hdl0) (fun _ _ _ _ _ => hE0)
  unfold c_340
  rw [if_pos (isK_t r.1.c100 rfl)]
  exact h
theorem lwa_off (r : RL s own t K N o) (v1 : Int32) (v2 : Int32) (hK : K + 1 < 1000) : LwR own s t K N o 381 806 (c_341 100 v1 v2 o s) (t_615 v1 v2 t) (fun x => some x.toInt64) := by
  have h := lw_gen (fun x : Int32 => x.toInt64) r (hs_off r.1 hK v1 v2) (h := hdl0) (fun _ _ _ _ _ => hE0)
  unfold c_341
  rw [if_pos (isK_t r.1.c100 rfl)]
  exact h
theorem lwa_ask (r : RL s own t K N o) (v1 : Int32) (v2 : Int32) (v3 : Int32) (hK : K < 1000) : LwR own s t K N o 20 113 (c_342 100 v1 v2 v3 o s) (t_605 v1 v2 v3 t) (fun x => some x.toInt64) := by
  have h := lw_gen (fun x : Int32 => x.toInt64) r (hs_ask r.1 hK v1 v2 v3) (h := hdl0) (fun _ _ _ _ _ => hE0)
  unfold c_342
  rw [if_pos (isK_t r.1.c100 rfl)]
  exact h
theorem lwa_both (r : RL s own t K N o) (v1 : Int32) (v2 : Int32) (v3 : Int32) (v4 : Int32) (hK : K < 1000) : LwR own s t K N o 39 220 (c_343 100 v1 v2 v3 v4 o s) (t_614 v1 v2 v3 v4 t) (fun x => some x.toInt64) := by
  have h := lw_gen (fun x : Int32 => x.toInt64) r (hs_both r.1 hK v1 v2 v3 v4) (h := hdl0) (fun _ _ _ _ _ => hE0)
  unfold c_343
  rw [if_pos (isK_t r.1.c100 rfl)]
  exact h
theorem lwa_where (r : RL s own t K N o) (v1 : Int32) (v2 : Int32) : LwR own s t K N o 1 6 (c_344 100 v1 v2 o s) (t_616 v1 v2 t) (fun x => some x.toInt64) := by
  have h := lw_gen (fun x : Int32 => x.toInt64) r (hs_where r.1 v1 v2) (h := hdl0) (fun _ _ _ _ _ => hE0)
  unfold c_344
  rw [if_pos (isK_t r.1.c100 rfl)]
  exact h
theorem lwa_inside (r : RL s own t K N o) (v1 : Int32) : LwR own s t K N o 1 6 (c_345 100 v1 o s) (t_617 v1 t) (fun x => some x.toInt64) := by
  have h := lw_gen (fun x : Int32 => x.toInt64) r (hs_inside r.1 v1) (h := hdl0) (fun _ _ _ _ _ => hE0)
  unfold c_345
  rw [if_pos (isK_t r.1.c100 rfl)]
  exact h
theorem lwa_against (r : RL s own t K N o) (v1 : Int32) (v2 : Int32) (hK : K < 1000) : LwR own s t K N o 1 6 (c_346 100 v1 v2 o s) (t_618 v1 v2 t) (fun x => some x.toInt64) := by
  have h := lw_gen (fun x : Int32 => x.toInt64) r (hs_against r.1 v1 v2 hK) (h := hdl0) (fun _ _ _ _ _ => hE0)
  unfold c_346
  rw [if_pos (isK_t r.1.c100 rfl)]
  exact h
theorem lwa_unit (r : RL s own t K N o) (v1 : Int32) : LwR own s t K N o 3 30 (c_347 100 v1 o s) (t_619 v1 t) (fun x => some x.toInt64) := by
  have h := lw_gen (fun x : Int32 => x.toInt64) r (hs_unit r.1 v1) (h := hdl0) (fun _ _ _ _ _ => hE0)
  unfold c_347
  rw [if_pos (isK_t r.1.c100 rfl)]
  exact h
theorem lwa_sentence (r : RL s own t K N o) (v1 : Int32) (v2 : Int32) (v3 : Int32) (v4 : Int32) (v5 : Int32) : LwR own s t K N o 103 4006 (c_348 100 v1 v2 v3 v4 v5 o s) (t_620 v1 v2 v3 v4 v5 t) (fun x => some x.toInt64) := by
  have h := lw_gen (fun x : Int32 => x.toInt64) r (hs_sentence r.1 v1 v2 v3 v4 v5) (h := hdl0) (fun _ _ _ _ _ => hE0)
  unfold c_348
  rw [if_pos (isK_t r.1.c100 rfl)]
  exact h
theorem lwa_cutText (r : RL s own t K N o) (v1 : Int32) : LwR own s t K N o 1 6 (c_349 100 v1 o s) (t_621 v1 t) (fun x => some x.toInt64) := by
  have h := lw_gen (fun x : Int32 => x.toInt64) r (hs_cutText r.1 v1) (h := hdl0) (fun _ _ _ _ _ => hE0)
  unfold c_349
  rw [if_pos (isK_t r.1.c100 rfl)]
  exact h
theorem lwa_matrix (r : RL s own t K N o) (hcnt : s.2.2.1 < 3800000000) : LwR own s t K N o 4101 34606 (c_350 100 o s) (t_622 t) (fun x => some x.toInt64) := by
  have h := lw_gen (fun x : Int32 => x.toInt64) r (hs_matrix r.1 hcnt) (h := hdl1) (fun _ _ _ _ _ => hE1)
  unfold c_350
  rw [if_pos (isK_t r.1.c100 rfl)]
  exact h
theorem lwa_signal (r : RL s own t K N o) (v1 : Int32) (v2 : Int32) : LwR own s t K N o 1 6 (c_351 100 v1 v2 o s) (t_623 v1 v2 t) (fun x => some x.toInt64) := by
  have h := lw_gen (fun x : Int32 => x.toInt64) r (hs_signal r.1 v1 v2) (h := hdl0) (fun _ _ _ _ _ => hE0)
  unfold c_351
  rw [if_pos (isK_t r.1.c100 rfl)]
  exact h
theorem lwa_fault (r : RL s own t K N o) (v1 : Int32) (v2 : Int32) (hhv2w : v01 v2) : LwR own s t K N o 1 6 (c_352 100 v1 v2 o s) (t_624 v1 v2 t) (fun x => some (if x = 0 then 0 else 1)) := by
  have h := lw_gen (fun x : Int32 => if x = 0 then (0 : Int64) else 1) r (hs_fault r.1 v1 v2 hhv2w) (h := hdl0) (fun _ _ _ _ _ => hE0)
  unfold c_352
  rw [if_pos (isK_t r.1.c100 rfl)]
  simp only [b64, Option.bind_some]
  exact h
theorem lwa_disable (r : RL s own t K N o) (v1 : Int32) (v2 : Int32) : LwR own s t K N o 1 6 (c_353 100 v1 v2 o s) (t_625 v1 v2 t) (fun x => some x.toInt64) := by
  have h := lw_gen (fun x : Int32 => x.toInt64) r (hs_disable r.1 v1 v2) (h := hdl0) (fun _ _ _ _ _ => hE0)
  unfold c_353
  rw [if_pos (isK_t r.1.c100 rfl)]
  exact h
theorem lwa_attend (r : RL s own t K N o) (v1 : Int32) (hcnt : s.2.2.1 < 3800000000) : LwR own s t K N o 3 11 (c_354 100 v1 o s) (t_626 v1 t) (fun x => some x.toInt64) := by
  have h := lw_gen (fun x : Int32 => x.toInt64) r (hs_attend r.1 v1 hcnt) (h := hdl0) (fun _ _ _ _ _ => hE0)
  unfold c_354
  rw [if_pos (isK_t r.1.c100 rfl)]
  exact h
theorem lwa_reset (r : RL s own t K N o) : LwR own s t K N o 62 1530 (c_355 100 o s) (t_627 t) (fun x => some x.toInt64) := by
  have h := lw_gen (fun x : Int32 => x.toInt64) r (hs_reset r.1 ) (h := hdl1) (fun _ _ _ _ _ => hE1)
  unfold c_355
  rw [if_pos (isK_t r.1.c100 rfl)]
  exact h
theorem lwa_act (r : RL s own t K N o) (v1 : Int32) (v2 : Int32) : LwR own s t K N o 2 7 (c_356 100 v1 v2 o s) (t_629 v1 v2 t) (fun x => some x.toInt64) := by
  have h := lw_gen (fun x : Int32 => x.toInt64) r (hs_act r.1 v1 v2) (h := hdl0) (fun _ _ _ _ _ => hE0)
  unfold c_356
  rw [if_pos (isK_t r.1.c100 rfl)]
  exact h
theorem lwa_zone (r : RL s own t K N o) (v1 : Int32) (v2 : Int32) : LwR own s t K N o 2 7 (c_357 100 v1 v2 o s) (t_630 v1 v2 t) (fun x => some x.toInt64) := by
  have h := lw_gen (fun x : Int32 => x.toInt64) r (hs_zone r.1 v1 v2) (h := hdl0) (fun _ _ _ _ _ => hE0)
  unfold c_357
  rw [if_pos (isK_t r.1.c100 rfl)]
  exact h
theorem lwa_event (r : RL s own t K N o) (v1 : Int32) (v2 : Int32) : LwR own s t K N o 1 6 (c_358 100 v1 v2 o s) (t_631 v1 v2 t) (fun x => some x.toInt64) := by
  have h := lw_gen (fun x : Int32 => x.toInt64) r (hs_event r.1 v1 v2) (h := hdl0) (fun _ _ _ _ _ => hE0)
  unfold c_358
  rw [if_pos (isK_t r.1.c100 rfl)]
  exact h
theorem lwa_block (r : RL s own t K N o) (v1 : Int32) : LwR own s t K N o 511 30106 (c_359 100 v1 o s) (t_632 v1 t) (fun x => some x.toInt64) := by
  have h := lw_gen (fun x : Int32 => x.toInt64) r (hs_block r.1 v1) (h := hdl0) (fun _ _ _ _ _ => hE0)
  unfold c_359
  rw [if_pos (isK_t r.1.c100 rfl)]
  exact h
theorem lwa_wire (r : RL s own t K N o) (v1 : Int32) (v2 : Int32) (v3 : Int32) : LwR own s t K N o 501 30006 (c_360 100 v1 v2 v3 o s) (t_633 v1 v2 v3 t) (fun x => some x.toInt64) := by
  have h := lw_gen (fun x : Int32 => x.toInt64) r (hs_wire r.1 v1 v2 v3) (h := hdl0) (fun _ _ _ _ _ => hE0)
  unfold c_360
  rw [if_pos (isK_t r.1.c100 rfl)]
  exact h
theorem lwa_numbers (r : RL s own t K N o) (v1 : Int32) (v2 : Int32) (v3 : Int32) : LwR own s t K N o 501 30006 (c_361 100 v1 v2 v3 s) (uT (t_634 v1 v2 v3 t)) (fun _ => none) := by
  have h := lw_u r (hs_numbers r.1 v1 v2 v3) (h := hdl0) (fun _ _ _ _ _ => hE0)
  unfold c_361
  rw [if_pos (isK_t r.1.c100 rfl)]
  exact h
theorem lwa_row (r : RL s own t K N o) (v1 : Int32) (v2 : Int32) (v3 : Int32) : LwR own s t K N o 501 30006 (c_362 100 v1 v2 v3 o s) (t_635 v1 v2 v3 t) (fun x => some x.toInt64) := by
  have h := lw_gen (fun x : Int32 => x.toInt64) r (hs_row r.1 v1 v2 v3) (h := hdl0) (fun _ _ _ _ _ => hE0)
  unfold c_362
  rw [if_pos (isK_t r.1.c100 rfl)]
  exact h
theorem lwa_safe (r : RL s own t K N o) (v1 : Int32) (v2 : Int32) : LwR own s t K N o 501 30006 (c_363 100 v1 v2 o s) (t_636 v1 v2 t) (fun x => some x.toInt64) := by
  have h := lw_gen (fun x : Int32 => x.toInt64) r (hs_safe r.1 v1 v2) (h := hdl0) (fun _ _ _ _ _ => hE0)
  unfold c_363
  rw [if_pos (isK_t r.1.c100 rfl)]
  exact h
theorem lwa_hand (r : RL s own t K N o) (v1 : Int32) (v2 : Int32) (v3 : Int32) (hhvw : v01 v2) : LwR own s t K N o 501 30006 (c_364 100 v1 v2 v3 o s) (t_637 v1 v2 v3 t) (fun x => some (if x = 0 then 0 else 1)) := by
  have h := lw_gen (fun x : Int32 => if x = 0 then (0 : Int64) else 1) r (hs_hand r.1 v1 v2 v3 hhvw) (h := hdl0) (fun _ _ _ _ _ => hE0)
  unfold c_364
  rw [if_pos (isK_t r.1.c100 rfl)]
  simp only [b64, Option.bind_some]
  exact h
theorem lwa_bind (r : RL s own t K N o) (v1 : Int32) (v2 : Int32) : LwR own s t K N o 501 30006 (c_365 100 v1 v2 o s) (t_638 v1 v2 t) (fun x => some x.toInt64) := by
  have h := lw_gen (fun x : Int32 => x.toInt64) r (hs_bind r.1 v1 v2) (h := hdl0) (fun _ _ _ _ _ => hE0)
  unfold c_365
  rw [if_pos (isK_t r.1.c100 rfl)]
  exact h
end
