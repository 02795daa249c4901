/-! the law: its helpers, each -/
section
variable {s : CS} {own : Nat → Nat} {t : TS} {K N o : Nat}
theorem n2_575 {v1 : Int32} : Kp (fun r : Int32 × TS => r.2.1 0 ≠ 2) (t_575 v1 t) := by
  unfold t_575
  refine Kp.bdt (A := Int32) (fun v => ?_)
  by_cases z : v = 0
  · rw [z, goes_0, Option.bind_some, if_pos rfl]
    exact Kp.ret (by show ¬ (1 : Int32) = 2; decide)
  · rw [show t_558 v 1 t = some (1, ptI t 0 0) by rw [goes_eq]; simp [z], Option.bind_some, if_neg (show ¬ (1 : Int32) = 0 by decide), Option.bind_some]
    exact Kp.ret (by show ¬ (0 : Int32) = 2; decide)
theorem n2_580 {v1 : Int32} : Kp (fun r : Int32 × TS => r.2.1 0 ≠ 2) (t_580 v1 t) := by
  unfold t_580
  refine Kp.bdt (A := Int32) (fun v => ?_)
  by_cases z : v = 0
  · rw [z, goes_0, Option.bind_some, if_pos rfl]
    exact Kp.ret (by show ¬ (1 : Int32) = 2; decide)
  · rw [show t_558 v 1 t = some (1, ptI t 0 0) by rw [goes_eq]; simp [z], Option.bind_some, if_neg (show ¬ (1 : Int32) = 0 by decide)]
    refine Kp.bd kd_752 (fun a ha => Kp.ret ?_)
    show ¬ a.2.1 0 = 2
    rw [ha.2]
    show ¬ (0 : Int32) = 2
    decide
theorem lwa_line (r : RL s own t K N o) (v1 : Int32) (v2 : Int32) (v3 : Int32) (v4 : Int32) : LwR own s t K N o 5 35 (c_312 100 v1 v2 v3 v4 o s) (t_557 v1 v2 v3 v4 t) (fun x => some x.toInt64) := by
  have h := lw_gen (fun x : Int32 => x.toInt64) r (hs_line r.1 v1 v2 v3 v4) (h := hdl0) (fun _ _ _ _ _ => hE0)
  unfold c_312
  rw [if_pos (isK_t r.1.c100 rfl)]
  exact h
theorem lwa_move (r : RL s own t K N o) (v1 : Int32) (v2 : Int32) (v3 : Int32) : LwR own s t K N o 2 10 (c_313 100 v1 v2 v3 o s) (t_559 v1 v2 v3 t) (fun x => some (if x = 0 then 0 else 1)) := by
  have h := lw_gen (fun x : Int32 => if x = 0 then (0 : Int64) else 1) r (hs_move r.1 v1 v2 v3) (h := hdl0) (fun _ _ _ _ _ => hE0)
  unfold c_313
  rw [if_pos (isK_t r.1.c100 rfl)]
  simp only [b64, Option.bind_some]
  exact h
theorem lwa_door (r : RL s own t K N o) (v1 : Int32) (v2 : Int32) (v3 : Int32) (v4 : Int32) : LwR own s t K N o 3 25 (c_314 100 v1 v2 v3 v4 o s) (t_561 v1 v2 v3 v4 t) (fun x => some x.toInt64) := by
  have h := lw_gen (fun x : Int32 => x.toInt64) r (hs_door r.1 v1 v2 v3 v4) (h := hdl0) (fun _ _ _ _ _ => hE0)
  unfold c_314
  rw [if_pos (isK_t r.1.c100 rfl)]
  exact h
theorem lwa_find (r : RL s own t K N o) (hcnt : s.2.2.1 < 3800000000) : LwR own s t K N o 8001 91006 (c_315 100 o s) (t_562 t) (fun x => some x.toInt64) := by
  have h := lw_gen (fun x : Int32 => x.toInt64) r (hs_find r.1 hcnt) (h := hdl1) (fun _ _ _ _ _ => hE1)
  unfold c_315
  rw [if_pos (isK_t r.1.c100 rfl)]
  exact h
theorem lwa_count (r : RL s own t K N o) (v1 : Int32) : LwR own s t K N o 2 10 (c_316 100 v1 o s) (t_564 v1 t) (fun x => some x.toInt64) := by
  have h := lw_gen (fun x : Int32 => x.toInt64) r (hs_count r.1 v1) (h := hdl0) (fun _ _ _ _ _ => hE0)
  unfold c_316
  rw [if_pos (isK_t r.1.c100 rfl)]
  exact h
theorem lwa_sides (r : RL s own t K N o) (v1 : Int32) (v2 : Int32) : LwR own s t K N o 1 6 (c_317 100 v1 v2 o s) (t_565 v1 v2 t) (fun x => some x.toInt64) := by
  have h := lw_gen (fun x : Int32 => x.toInt64) r (hs_sides r.1 v1 v2) (h := hdl0) (fun _ _ _ _ _ => hE0)
  unfold c_317
  rw [if_pos (isK_t r.1.c100 rfl)]
  exact h
theorem lwa_side (r : RL s own t K N o) (v1 : Int32) (v2 : Int32) (v3 : Int32) (v4 : Int32) : LwR own s t K N o 1 6 (c_318 100 v1 v2 v3 v4 o s) (t_566 v1 v2 v3 v4 t) (fun x => some x.toInt64) := by
  have h := lw_gen (fun x : Int32 => x.toInt64) r (hs_side r.1 v1 v2 v3 v4) (h := hdl0) (fun _ _ _ _ _ => hE0)
  unfold c_318
  rw [if_pos (isK_t r.1.c100 rfl)]
  exact h
theorem lwa_size (r : RL s own t K N o) (v1 : Int32) (v2 : Int32) : LwR own s t K N o 501 2006 (c_319 100 v1 v2 o s) (t_567 v1 v2 t) (fun x => some x.toInt64) := by
  have h := lw_gen (fun x : Int32 => x.toInt64) r (hs_size r.1 v1 v2) (h := hdl0) (fun _ _ _ _ _ => hE0)
  unfold c_319
  rw [if_pos (isK_t r.1.c100 rfl)]
  exact h
theorem lwa_at (r : RL s own t K N o) (v1 : Int32) (v2 : Int32) : LwR own s t K N o 2 10 (c_320 100 v1 v2 o s) (t_568 v1 v2 t) (fun x => some x.toInt64) := by
  have h := lw_gen (fun x : Int32 => x.toInt64) r (hs_at r.1 v1 v2) (h := hdl0) (fun _ _ _ _ _ => hE0)
  unfold c_320
  rw [if_pos (isK_t r.1.c100 rfl)]
  exact h
theorem lwa_between (r : RL s own t K N o) (v1 : Int32) (v2 : Int32) : LwR own s t K N o 501 2506 (c_321 100 v1 v2 o s) (t_570 v1 v2 t) (fun x => some x.toInt64) := by
  have h := lw_gen (fun x : Int32 => x.toInt64) r (hs_between r.1 v1 v2) (h := hdl0) (fun _ _ _ _ _ => hE0)
  unfold c_321
  rw [if_pos (isK_t r.1.c100 rfl)]
  exact h
theorem lwa_way (r : RL s own t K N o) (v1 : Int32) (v2 : Int32) : LwR own s t K N o 6701 41006 (c_322 100 v1 v2 o s) (t_571 v1 v2 t) (fun x => some x.toInt64) := by
  have h := lw_gen (fun x : Int32 => x.toInt64) r (hs_way r.1 v1 v2) (h := hdl0) (fun _ _ _ _ _ => hE0)
  unfold c_322
  rw [if_pos (isK_t r.1.c100 rfl)]
  exact h
theorem lwa_name (r : RL s own t K N o) (v1 : Int32) (v2 : Int32) : LwR own s t K N o 1 6 (c_323 100 v1 v2 o s) (t_572 v1 v2 t) (fun x => some x.toInt64) := by
  have h := lw_gen (fun x : Int32 => x.toInt64) r (hs_name r.1 v1 v2) (h := hdl0) (fun _ _ _ _ _ => hE0)
  unfold c_323
  rw [if_pos (isK_t r.1.c100 rfl)]
  exact h
theorem lwa_nameOf (r : RL s own t K N o) (v1 : Int32) : LwR own s t K N o 1 6 (c_324 100 v1 o s) (t_573 v1 t) (fun x => some x.toInt64) := by
  have h := lw_gen (fun x : Int32 => x.toInt64) r (hs_nameOf r.1 v1) (h := hdl0) (fun _ _ _ _ _ => hE0)
  unfold c_324
  rw [if_pos (isK_t r.1.c100 rfl)]
  exact h
theorem lwa_say (r : RL s own t K N o) (v1 : Int64) : LwR own s t K N o 17 198 (c_325 100 v1 o s) (t_574 v1 t) (fun x => some x.toInt64) := by
  have h := lw_gen (fun x : Int32 => x.toInt64) r (hs_say r.1 v1) (h := hdl0) (fun _ _ _ _ _ => hE0)
  unfold c_325
  rw [if_pos (isK_t r.1.c100 rfl)]
  exact h
theorem lwa_trim (r : RL s own t K N o) (v1 : Int32) : LwR own s t K N o 1 6 (c_326 100 v1 o s) (t_575 v1 t) (fun x => some x.toInt64) := by
  have h := lw_gen (fun x : Int32 => x.toInt64) r (Hr.no2 (hs_trim r.1 v1) n2_575) (h := hdlA) (fun _ _ _ _ _ => hEA)
  unfold c_326
  rw [if_pos (isK_t r.1.c100 rfl)]
  exact h
theorem lwa_fact (r : RL s own t K N o) (v1 : Int64) (v3 : Int32) : LwR own s t K N o 91 276 (c_327 100 v1 v3 o s) (t_577 v1 v3 t) (fun x => some x) := by
  have h := lw_gen (fun x : Int64 => x) r (hs_fact r.1 v1 v3) (h := hdl0) (fun _ _ _ _ _ => hE0)
  unfold c_327
  rw [if_pos (isK_t r.1.c100 rfl)]
  exact h
theorem lwa_measure (r : RL s own t K N o) (v1 : Int32) (v2 : Int32) (v3 : Int64) : LwR own s t K N o 700 2600 (c_328 100 v1 v2 v3 o s) (t_579 v1 v2 v3 t) (fun x => some x.toInt64) := by
  have h := lw_gen (fun x : Int32 => x.toInt64) r (hs_measure r.1 v1 v2 v3) (h := hdl0) (fun _ _ _ _ _ => hE0)
  unfold c_328
  rw [if_pos (isK_t r.1.c100 rfl)]
  exact h
theorem lwa_check (r : RL s own t K N o) (v1 : Int32) : LwR own s t K N o 1801 5206 (c_329 100 v1 o s) (t_580 v1 t) (fun x => some x.toInt64) := by
  have h := lw_gen (fun x : Int32 => x.toInt64) r (Hr.no2 (hs_check r.1 v1) n2_580) (h := hdlA) (fun _ _ _ _ _ => hEA)
  unfold c_329
  rw [if_pos (isK_t r.1.c100 rfl)]
  exact h
theorem lwa_rule (r : RL s own t K N o) (v1 : Int32) (v2 : Int32) : LwR own s t K N o 1 6 (c_330 100 v1 v2 o s) (t_582 v1 v2 t) (fun x => some x) := by
  have h := lw_gen (fun x : Int64 => x) r (hs_rule r.1 v1 v2) (h := hdl0) (fun _ _ _ _ _ => hE0)
  unfold c_330
  rw [if_pos (isK_t r.1.c100 rfl)]
  exact h
theorem lwa_build (r : RL s own t K N o) (v1 : Int32) : LwR own s t K N o 32110 596520 (c_331 100 v1 o s) (t_583 v1 t) (fun x => some x.toInt64) := by
  have h := lw_gen (fun x : Int32 => x.toInt64) r (hs_build r.1 v1) (h := hdl0) (fun _ _ _ _ _ => hE0)
  unfold c_331
  rw [if_pos (isK_t r.1.c100 rfl)]
  exact h
theorem lwa_portal (r : RL s own t K N o) (v1 : Int32) (v2 : Int32) : LwR own s t K N o 1 6 (c_332 100 v1 v2 o s) (t_592 v1 v2 t) (fun x => some x.toInt64) := by
  have h := lw_gen (fun x : Int32 => x.toInt64) r (hs_portal r.1 v1 v2) (h := hdl0) (fun _ _ _ _ _ => hE0)
  unfold c_332
  rw [if_pos (isK_t r.1.c100 rfl)]
  exact h
theorem lwa_person (r : RL s own t K N o) (v1 : Int32) (v2 : Int32) : LwR own s t K N o 3 31 (c_333 100 v1 v2 o s) (t_593 v1 v2 t) (fun x => some x.toInt64) := by
  have h := lw_gen (fun x : Int32 => x.toInt64) r (hs_person r.1 v1 v2) (h := hdl0) (fun _ _ _ _ _ => hE0)
  unfold c_333
  rw [if_pos (isK_t r.1.c100 rfl)]
  exact h
theorem lwa_card (r : RL s own t K N o) (v1 : Int32) (v2 : Int32) (hK : K < 1000) : LwR own s t K N o 5 37 (c_334 100 v1 v2 o s) (t_594 v1 v2 t) (fun x => some x.toInt64) := by
  have h := lw_gen (fun x : Int32 => x.toInt64) r (hs_card r.1 v1 v2 hK) (h := hdl0) (fun _ _ _ _ _ => hE0)
  unfold c_334
  rw [if_pos (isK_t r.1.c100 rfl)]
  exact h
theorem lwa_right (r : RL s own t K N o) (v1 : Int32) (v2 : Int32) (v3 : Int32) (v4 : Int32) (v5 : Int32) (hK : K < 1000) : LwR own s t K N o 5 39 (c_335 100 v1 v2 v3 v4 v5 o s) (t_597 v1 v2 v3 v4 v5 t) (fun x => some x.toInt64) := by
  have h := lw_gen (fun x : Int32 => x.toInt64) r (hs_right r.1 v1 v2 v3 v4 v5 hK) (h := hdl0) (fun _ _ _ _ _ => hE0)
  unfold c_335
  rw [if_pos (isK_t r.1.c100 rfl)]
  exact h
theorem lwa_end (r : RL s own t K N o) (v1 : Int32) (v2 : Int32) (hK : K < 1000) : LwR own s t K N o 5 15 (c_336 100 v1 v2 o s) (t_598 v1 v2 t) (fun x => some x.toInt64) := by
  have h := lw_gen (fun x : Int32 => x.toInt64) r (hs_end r.1 v1 v2 hK) (h := hdl0) (fun _ _ _ _ _ => hE0)
  unfold c_336
  rw [if_pos (isK_t r.1.c100 rfl)]
  exact h
theorem lwa_lost (r : RL s own t K N o) (v1 : Int32) (v2 : Int32) (hK : K < 1000) : LwR own s t K N o 5 15 (c_337 100 v1 v2 o s) (t_600 v1 v2 t) (fun x => some x.toInt64) := by
  have h := lw_gen (fun x : Int32 => x.toInt64) r (hs_lost r.1 v1 v2 hK) (h := hdl0) (fun _ _ _ _ _ => hE0)
  unfold c_337
  rw [if_pos (isK_t r.1.c100 rfl)]
  exact h
theorem lwa_two (r : RL s own t K N o) (v1 : Int32) (v2 : Int32) (hhvw : v01 v2) : LwR own s t K N o 1 6 (c_338 100 v1 v2 o s) (t_601 v1 v2 t) (fun x => some (if x = 0 then 0 else 1)) := by
  have h := lw_gen (fun x : Int32 => if x = 0 then (0 : Int64) else 1) r (hs_two r.1 v1 v2 hhvw) (h := hdl0) (fun _ _ _ _ _ => hE0)
  unfold c_338
  rw [if_pos (isK_t r.1.c100 rfl)]
  simp only [b64, Option.bind_some]
  exact h
end
