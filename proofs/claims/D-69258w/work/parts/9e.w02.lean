/-! the warden: its text -/
theorem R7_txt {h : lHeap} {t T : TS} {np sz mx zm am rl nr na ec sz' : Nat} {P Z ZP A RW od : Nat → Nat} (r : R7x h t np sz mx zm am rl nr na ec P Z ZP A RW od) (hb : ¬ t.1 1 = 0) (hn : ∀ c, c ≠ 0 → c ≠ 306 → c ≠ 335 → T.1 c = t.1 c) (hr : ∀ c, c ≠ 102 → c ≠ 124 → T.2.2.1 c = t.2.2.1 c) (h1 : T.1 306 = Int32.ofNat sz') (h2 : sz' ≤ 2000) (h3 : ∀ i, i < sz' → bel (T.2.2.1 102 i) 128) : R7x (lUpd h 153 (true, false, 1035, rowC (fun i => .int (T.2.2.1 102 i)) sz')) T np sz' mx zm am rl nr na ec P Z ZP A RW od := by
  obtain ⟨r0, r1, r2, r3, r4, r5⟩ := r
  have hu := hK_upd (c' := (true, false, 1035, rowC (fun i => .int (T.2.2.1 102 i)) sz')) r2.1
  have hu2 : hK (fun x => x ≠ 1035) h (lUpd h 153 (true, false, 1035, rowC (fun i => .int (T.2.2.1 102 i)) sz')) := hu
  have e1 := hn 1 (by omega) (by omega) (by omega)
  refine ⟨W0_cg r0 (hu2.mono (fun x hx => by omega)) (hn 301 (by omega) (by omega) (by omega)) e1 (fun c hc => hr c ?_ ?_), W1_cg r1 (hu2.mono (fun x hx => by omega)) (hn 300 (by omega) (by omega) (by omega)) e1 (fun c hc => hr c ?_ ?_), ⟨by rw [lUpd_at, if_pos rfl], h1, h2, h3, fun z => absurd (e1.symm.trans z) hb⟩, W3_cg r3 (hu2.mono (fun x hx => by omega)) (hn 321 (by omega) (by omega) (by omega)) (fun c hc => hr c ?_ ?_), W4_cg r4 (hu2.mono (fun x hx => by omega)) (fun c hc => hr c ?_ ?_), W5_cg r5 (hu2.mono (fun x hx => by omega)) (hn 330 (by omega) (by omega) (by omega)) (hn 301 (by omega) (by omega) (by omega)) (fun c hc => hr c ?_ ?_)⟩
  all_goals simp only [List.mem_cons, List.not_mem_nil, or_false] at hc; omega
theorem sbCt_r {s : CS} {a : Nat} {l : List Value} (h : s.1 a = some (true, false, 1035, l)) : sbCt s a = some l := by
  unfold sbCt cc; simp only [h, if_true]
theorem sbLen_r {s : CS} {a n : Nat} {f : Nat → Value} (h : s.1 a = some (true, false, 1035, rowC f n)) : sbLen s a = some (Int32.ofNat n) := by
  unfold sbLen; rw [sbCt_r h, Option.bind_some, rowC_len]
theorem sbApp_r {s : CS} {a : Nat} {l m : List Value} (h : s.1 a = some (true, false, 1035, l)) (hl : l.length + m.length < 100000) : sbApp s a m = some (cput s 1035 a 2 (8 * m.length + 16) (l ++ m)) := by
  unfold sbApp; rw [sbCt_r h, Option.bind_some, if_pos hl]
theorem u16 : ∀ k : Fin 128, ((Int32.ofNat k.val).toUInt32 % 65536).toInt32 = Int32.ofNat k.val := by decide +kernel
theorem rowC_take {f : Nat → Value} {n m : Nat} (h : m ≤ n) : (rowC f n).take m = rowC f m := by
  refine rowC_ext (by rw [List.length_take, rowC_len]; omega) (fun k hk => ?_)
  rw [List.getElem?_take_of_lt hk, rowC_get, if_pos (by omega)]
theorem orLe {n : Nat} (h : n + 1 < 2147483648) (v : Int32) : (if v < 0 then some (0 : Int32) else if Int32.ofNat n < v then some 0 else some 1) = some (if inB v (Int32.ofNat (n + 1)) = true then 1 else 0) := by
  have e1 := i_gt h v
  unfold inB
  by_cases h1 : v < 0
  · rw [if_pos h1, if_neg (by simp [h1])]
  · rw [if_neg h1]
    by_cases h2 : v < Int32.ofNat (n + 1)
    · rw [if_neg (fun z => e1.mp z h2), if_pos (decide_eq_true ⟨h1, h2⟩)]
    · rw [if_pos (e1.mpr h2), if_neg (fun z => h2 (of_decide_eq_true z).2)]
theorem wa_unit {own : Nat → Nat} {s : CS} {t : TS} (hw : wfS s) (r : R7 (rs s.1 own 7) t) (v1 : Int32) : Res (fun X => X = 7) 7 (fun H t => R7 (H 7) t) own s t 2 24 (c_486 151 v1 s) (t_619 v1 t) := by
  obtain ⟨np, sz, mx, zm, am, rl, nr, na, ec, P, Z, ZP, A, RW, od, r⟩ := r
  have h1 := (rs_in r.1.1).1
  have h2 := rs_in r.2.2.1.1
  have e306 := r.2.2.1.2.1
  have hsz := r.2.2.1.2.2.1
  unfold c_486 t_619
  have e3 : (if v1 < 0 then some (0 : Int32) else if 127 < v1 then some 0 else some 1) = some (if inB v1 128 = true then 1 else 0) := by
    have e1 : ((127 : Int32) < v1) = ¬ (v1 < 128) := propext (i_gt (a := 127) (by omega) v1)
    unfold inB
    by_cases h1 : v1 < 0
    · simp [h1]
    · by_cases h2 : v1 < 128
      · simp [h1, h2, e1]
      · simp [h1, h2, e1]
  rw [e3, e306]
  have e4 : (if t.1 1 = 0 then some (0 : Int32) else if Int32.ofNat sz < 2000 then some 1 else some 0) = some (if ¬ t.1 1 = 0 ∧ sz < 2000 then 1 else 0) := by
    by_cases y1 : t.1 1 = 0
    · simp [y1]
    · by_cases y2 : sz < 2000
      · rw [if_neg y1, if_pos ((i_ltL (by omega) (by omega)).mpr y2), if_pos ⟨y1, y2⟩]
      · rw [if_neg y1, if_neg (fun z => y2 ((i_ltL (by omega) (by omega)).mp z)), if_neg (fun z => y2 z.2)]
  rw [e4]
  cases hr : inB v1 128 with
  | true =>
    obtain ⟨c, hc, rfl⟩ := inB_nat 128 (by omega) hr
    simp only [if_true, Option.bind_some, need_eq, show ¬ (1 : Int32) = 0 by decide, if_false, Sum.elim_inl]
    rw [xI_o h1 rfl rfl, Option.bind_some, xN_o h1 rfl rfl, Option.bind_some, if_pos (isK_t h2.1 rfl), sbLen_r h2.1, Option.bind_some, e4, Option.bind_some, may_eq]
    by_cases y : ¬ t.1 1 = 0 ∧ sz < 2000
    · rw [if_pos y, if_neg (by decide), Option.bind_some, Sum.elim_inl, xN_o h1 rfl rfl, Option.bind_some, if_pos (isK_t h2.1 rfl), u16 ⟨c, hc⟩]
      unfold sbC
      rw [if_pos ⟨i_nlt0 (by omega), (i_ltL (by omega) (by omega)).mpr hc⟩, sbApp_r h2.1 (by rw [rowC_len]; simp; omega), Option.bind_some, xN_o ((cput_ne (by omega)).trans h1) rfl rfl, Option.bind_some, if_pos (isK_t (cput_eq ..) rfl), rowC_app, sbLen_r (cput_eq ..), Option.bind_some, goes_eq, if_neg (by simp), if_neg (by decide), if_neg (by decide), Option.bind_some, if_neg (show ¬ (1 : Int32) = 0 by decide)]
      have ht : t_764 (Int32.ofNat c) (ptI t 0 0) = some (Int32.ofNat (sz + 1), ptI (wrI (ptI t 0 0) 102 sz (Int32.ofNat c)) 306 (Int32.ofNat (sz + 1))) := by
        unfold t_764
        rw [show (ptI t 0 0).1 306 = Int32.ofNat sz from e306, stI_n (by omega) (by omega), Option.bind_some, wr_1, show (ptI t 0 0).1 306 = Int32.ofNat sz from e306, i_suc, Option.bind_some]; rfl
      rw [ht, Option.bind_some]
      refine Or.inl ⟨_, _, _, own, rfl, rfl, rfl, fun Z h7 h9 => ?_, Frm.trans (frm_cup (c := (true, false, 1035, rowC (fun j => if j = sz then .int (Int32.ofNat c) else .int (t.2.2.1 102 j)) (sz + 1))) hw (wf_lt hw h2.1) h2.2) (frm_chg (wf_cup hw (wf_lt hw h2.1))), ?_, ?_, ?_⟩
      · rw [rt_ptI (by show (7 : Nat) ≠ Z; omega), rt_7 rfl h7, ptI_rt h9]
      · show R7 (rs (lUpd s.1 153 _) own 7) _
        rw [rs_upd h2.2]
        have := R7_txt (sz' := sz + 1) (T := ptI (wrI (ptI t 0 0) 102 sz (Int32.ofNat c)) 306 (Int32.ofNat (sz + 1))) r y.1 (fun q a b _ => by rw [pt_1, if_neg b, wr_1, pt_1, if_neg a]) (fun q a _ => by funext j; show (wrI (ptI t 0 0) 102 sz (Int32.ofNat c)).2.2.1 q j = _; rw [wr_ne a]; rfl) rfl (by omega) (fun i hi => by
          show bel ((wrI (ptI t 0 0) 102 sz (Int32.ofNat c)).2.2.1 102 i) 128
          rw [wr_at]
          by_cases y3 : i = sz
          · rw [if_pos ⟨rfl, y3⟩]; exact ⟨c, hc, rfl⟩
          · rw [if_neg (fun z => y3 z.2)]; exact r.2.2.1.2.2.2.1 i (by omega))
        have hrow : rowC (fun i => Value.int ((ptI (wrI (ptI t 0 0) 102 sz (Int32.ofNat c)) 306 (Int32.ofNat (sz + 1))).2.2.1 102 i)) (sz + 1) = rowC (fun j => if j = sz then .int (Int32.ofNat c) else .int (t.2.2.1 102 j)) (sz + 1) := rowC_congr (fun j _ => by
          show Value.int ((wrI (ptI t 0 0) 102 sz (Int32.ofNat c)).2.2.1 102 j) = _
          rw [wr_at]
          by_cases y3 : j = sz
          · rw [if_pos ⟨rfl, y3⟩, if_pos y3]
          · rw [if_neg (fun z => y3 z.2), if_neg y3]; rfl)
        rw [hrow] at this
        exact ⟨_, _, _, _, _, _, _, _, _, _, _, _, _, _, _, this⟩
      · show s.2.2.1 + 2 ≤ _; omega
      · show s.2.2.2 + (8 * 1 + 16) ≤ _; omega
    · refine Res.sta (x := 0) ?_ ?_
      · rw [if_neg y]; simp
      · rw [if_neg y]; simp [goes_eq, ptI]
  | false => exact Res.arg (x := 0) (by simp [need_eq]) (by simp [goes_eq, ptI])
theorem wa_cut {own : Nat → Nat} {s : CS} {t : TS} (hw : wfS s) (r : R7 (rs s.1 own 7) t) (v1 : Int32) : Res (fun X => X = 7) 7 (fun H t => R7 (H 7) t) own s t 0 0 (c_490 151 v1 s) (t_621 v1 t) := by
  obtain ⟨np, sz, mx, zm, am, rl, nr, na, ec, P, Z, ZP, A, RW, od, r⟩ := r
  have h1 := (rs_in r.1.1).1
  have h2 := rs_in r.2.2.1.1
  have e306 := r.2.2.1.2.1
  have hsz := r.2.2.1.2.2.1
  unfold c_490 t_621
  rw [xN_o h1 rfl rfl]
  simp only [Option.bind_some, isK_t (tab := [35]) h2.1 rfl, if_true, sbLen_r h2.1]
  rw [e306]
  have e3 : (if v1 < 0 then some (0 : Int32) else if Int32.ofNat sz < v1 then some 0 else some 1) = some (if inB v1 (Int32.ofNat (sz + 1)) = true then 1 else 0) := by
    exact orLe (by omega) v1
  rw [e3]
  cases hr : inB v1 (Int32.ofNat (sz + 1)) with
  | true =>
    obtain ⟨n, hn, rfl⟩ := inB_nat (sz + 1) (by omega) hr
    simp only [if_true, Option.bind_some, need_eq, show ¬ (1 : Int32) = 0 by decide, if_false, Sum.elim_inl]
    rw [xI_o h1 rfl rfl, Option.bind_some, may_eq]
    by_cases y : t.1 1 = 0
    · refine Res.sta (x := 0) ?_ ?_
      · rw [if_pos y]; simp
      · simp [y, goes_eq, ptI]
    · rw [if_neg y, Option.bind_some, Sum.elim_inl, xN_o h1 rfl rfl, Option.bind_some, Option.bind_some, if_pos (isK_t h2.1 rfl), sbLen_r h2.1, Option.bind_some, if_pos (isK_t h2.1 rfl), i_sub (by omega)]
      unfold sbSet
      rw [sbCt_r h2.1, Option.bind_some, i_clamp (by omega), if_pos ⟨i_nlt0 (by omega), by rw [rowC_len]; omega⟩, rowC_take (by omega), Option.bind_some, xN_o ((cput_ne (by omega)).trans h1) rfl rfl, Option.bind_some, if_pos (isK_t (cput_eq ..) rfl), sbLen_r (cput_eq ..), Option.bind_some, goes_eq, if_neg (by simp [y]), if_neg (by decide), if_neg y, Option.bind_some, if_neg (show ¬ (1 : Int32) = 0 by decide), show (ptI t 0 0).1 306 = Int32.ofNat sz from e306, i_sub (by omega)]
      refine Or.inl ⟨_, _, _, own, rfl, rfl, rfl, fun Z h7 h9 => ?_, Frm.trans (frm_cup (c := (true, false, 1035, rowC (fun i => .int (t.2.2.1 102 i)) (sz - n))) hw (wf_lt hw h2.1) h2.2) (frm_chg (wf_cup hw (wf_lt hw h2.1))), ?_, Nat.le_refl _, Nat.le_refl _⟩
      · rw [rt_ptI (by show (7 : Nat) ≠ Z; omega), ptI_rt h9]
      · show R7 (rs (lUpd s.1 153 _) own 7) _
        rw [rs_upd h2.2]
        have := R7_txt (sz' := sz - n) (T := ptI (ptI t 0 0) 306 (Int32.ofNat (sz - n))) r y (fun q a b _ => by rw [pt_1, if_neg b, pt_1, if_neg a]) (fun q _ _ => rfl) rfl (by omega) (fun i hi => r.2.2.1.2.2.2.1 i (by omega))
        exact ⟨_, _, _, _, _, _, _, _, _, _, _, _, _, _, _, this⟩
  | false => exact Res.arg (x := 0) (by simp [need_eq]) (by simp [goes_eq, ptI])
