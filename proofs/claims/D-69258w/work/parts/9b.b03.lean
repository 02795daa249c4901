/-! the bus: readers, listening -/
theorem R6_pt {h : lHeap} {t : TS} {N Ne Nd M : Nat} {v : Int32} (r : R6x h t N Ne Nd M) : R6x h (ptI t 0 v) N Ne Nd M := R6_cg r (fun _ _ _ => rfl) (fun c h _ => by rw [pt_1, if_neg h])
theorem bit_set {xs : List Value} {g k : Nat} : bit (xs.set g (.int 0)) k = if k = g then false else bit xs k := by
  unfold bit
  rw [List.getElem?_set]
  by_cases h : g = k
  · subst h
    by_cases h2 : g < xs.length
    · simp [h2]
    · simp [h2]
  · rw [if_neg h, if_neg (fun e => h e.symm)]
theorem bit_setB {xs : List Value} {g k : Nat} : bit (setB xs g) k = if k = g then true else bit xs k := by
  unfold bit setB
  by_cases h2 : g < xs.length
  · rw [if_pos h2, List.getElem?_set]
    by_cases h : g = k
    · subst h; simp [h2]
    · rw [if_neg h, if_neg (fun e => h e.symm)]
  · rw [if_neg h2]
    by_cases h : k = g
    · subst h
      rw [if_pos rfl, List.getElem?_append_right (by simp; omega)]
      simp [show k - (xs.length + (k - xs.length)) = 0 by omega]
    · rw [if_neg h]
      by_cases h3 : k < xs.length
      · rw [List.getElem?_append_left (by simp; omega), List.getElem?_append_left h3]
      · rw [show xs[k]? = none from List.getElem?_eq_none (by omega)]
        by_cases h4 : k < g
        · rw [List.getElem?_append_left (by simp; omega), List.getElem?_append_right (by omega), List.getElem?_replicate, if_pos (by omega)]
          rfl
        · rw [List.getElem?_eq_none (by simp; omega)]
theorem bsGet_r {s : CS} {a g : Nat} {xs : List Value} (h : s.1 a = some (true, false, 1003, xs)) (hg : g < 2147483648) : bsGet s a (Int32.ofNat g) = some (if bit xs g = true then 1 else 0) := by
  unfold bsGet bsC cc; rw [h]; simp [i_nlt0 hg, i_clamp hg]
theorem bsSet_r {s : CS} {a g : Nat} {xs : List Value} (h : s.1 a = some (true, false, 1003, xs)) (hg : g < 1000000) : bsSet s a (Int32.ofNat g) = some (cput s 1003 a (bsG xs g) (bsG xs g * (2 * (g / 64) + 2)) (setB xs g)) := by
  unfold bsSet bsC cc; rw [h]; simp only [if_true, Option.bind_some]
  rw [if_pos ⟨i_nlt0 (by omega), by rw [i_clamp (by omega)]; exact hg⟩, i_clamp (by omega)]
theorem bsG_le (xs : List Value) (g : Nat) : bsG xs g ≤ 1 ∧ bsG xs g * (2 * (g / 64) + 2) ≤ 2 * (g / 64) + 2 := by
  unfold bsG
  split
  · omega
  · omega
theorem bsSetB_r {s : CS} {a g : Nat} {xs : List Value} {v : Int32} (h : s.1 a = some (true, false, 1003, xs)) (hg : g < 1000000) : ∃ n m ys, bsSetB s a (Int32.ofNat g) v = some (cput s 1003 a n m ys) ∧ n ≤ 1 ∧ m ≤ 2 * (g / 64) + 2 ∧ ∀ k, bit ys k = if k = g then !(v == 0) else bit xs k := by
  unfold bsSetB
  by_cases hv : v = 0
  · rw [if_pos hv]
    unfold bsC cc; rw [h]; simp only [if_true, Option.bind_some]
    rw [if_pos (i_nlt0 (by omega)), i_clamp (by omega)]
    exact ⟨_, _, _, rfl, Nat.zero_le _, Nat.zero_le _, fun k => by rw [bit_set]; simp [hv]⟩
  · rw [if_neg hv, bsSet_r h hg]
    exact ⟨_, _, _, rfl, (bsG_le xs g).1, (bsG_le xs g).2, fun k => by rw [bit_setB]; by_cases e : k = g <;> simp [e, hv]⟩
theorem wr_ne {s : TS} {c k : Nat} {v : Int32} {q : Nat} (h : q ≠ c) (j : Nat) : (wrI s c k v).2.2.1 q j = s.2.2.1 q j := by rw [wr_at, if_neg (fun e => h e.1)]
theorem wr_nk {s : TS} {c k : Nat} {v : Int32} {q j : Nat} (h : j ≠ k) : (wrI s c k v).2.2.1 q j = s.2.2.1 q j := by rw [wr_at, if_neg (fun e => h e.2)]
theorem R6_li {h : lHeap} {t : TS} {N k g : Nat} {v : Int32} {ys : List Value} (hk : k < 8) (hg : g < 256) (r : R6 h t N) (xs : List Value) (hx : h (128 + 3 * k) = some (true, false, 1003, xs)) (hy : ∀ q, bit ys q = if q = g then !(v == 0) else bit xs q) (hv : v01 v) : R6 (lUpd h (128 + 3 * k) (true, false, 1003, ys)) (wrI t 144 (256 * k + g) v) N := by
  obtain ⟨gg, e, d, n, ti, bi, m, i1, i2, r⟩ := r
  have ne : ∀ q, q ≠ 128 + 3 * k → lUpd h (128 + 3 * k) (true, false, 1003, ys) q = h q := fun q hq => by rw [lUpd_at, if_neg hq]
  refine ⟨R6g_cg gg (ne _ (by omega)) (ne _ (by omega)) (ne _ (by omega)) (ne _ (by omega)) (wr_ne (by omega)) (wr_ne (by omega)) (wr_ne (by omega)) (wr_ne (by omega)) (fun _ _ _ => rfl), R6e_cg e (ne _ (by omega)) (ne _ (by omega)) (wr_ne (by omega)) (wr_ne (by omega)) (wr_ne (by omega)) (fun _ _ _ => rfl), R6d_cg d (ne _ (by omega)) (wr_ne (by omega)) rfl, n, ti, bi, m, i1, i2, fun k' hk' => ?_⟩
  have r' := r k' hk'
  have h1 : ∀ j, j < n k' → ti k' j ≠ 128 + 3 * k ∧ bi k' j ≠ 128 + 3 * k := fun j hj => by
    have q1 := (r'.2.2.2.2.2.1 j hj).2.2.2.2.2.2.1
    have q2 := (r'.2.2.2.2.2.1 j hj).2.2.2.2.2.2.2
    omega
  by_cases hkk : k' = k
  · subst hkk
    obtain ⟨s1, s2, s3, s4, ⟨xs', s5, s5'⟩, s6, s7⟩ := r'
    rw [hx] at s5
    cases s5
    refine ⟨by rw [ne _ (by omega), s1]; simp [sC, wr_at], by rw [ne _ (by omega), s2], by rw [wr_ne (by omega), s3], s4, ⟨ys, by rw [lUpd_at, if_pos rfl], fun q hq => ?_⟩, fun j hj => R6t_cg (s6 j hj) (ne _ (h1 j hj).1) (ne _ (h1 j hj).2) (fun i _ => wr_ne (by omega) _), by simpa [wr_at, hdO, tl] using s7⟩
    rw [wr_at, hy]
    by_cases e : q = g
    · subst e; rcases hv with rfl | rfl <;> simp
    · rw [if_neg (by omega), if_neg e]
      exact s5' q hq
  · exact R6s_cg r' (ne _ (by omega)) (ne _ (by omega)) (ne _ (by omega)) (fun j hj => ⟨ne _ (h1 j hj).1, ne _ (h1 j hj).2⟩) (fun c _ _ q _ => wr_ne q _) (fun g' _ => wr_nk (by omega)) (fun j i _ _ => wr_ne (by omega) _)
theorem frm_cput {X : Nat → Prop} {own : Nat → Nat} {s : CS} {k a n m : Nat} {xs : List Value} (hw : wfS s) (ha : a < s.2.1) (hx : X (own a)) : Frm X own own s (cput s k a n m xs) := (frm_cup hw ha hx).trans (frm_chg (frm_cup (X := X) (own := own) hw ha hx).2.2.2.2)
theorem i_and1 {v : Int32} (h : v01 v) : v &&& 1 = v := by rcases h with rfl | rfl <;> rfl
theorem fit01 {v : Int32} (h : v01 v) : fits .boolean (.int v) = true := fitB h
theorem bus_listen {own : Nat → Nat} {s : CS} {t : TS} {N : Nat} (hw : wfS s) (r : R6 (rs s.1 own 6) t N) (v1 v2 v3 : Int32) (hv : v01 v3) : Res (fun X => X = 6) 6 (fun H t => R6 (H 6) t N) own s t 1 10 (c_1136 120 v1 v2 v3 s) (t_645 v1 v2 v3 t) := by
  have r2 := r
  obtain ⟨⟨⟨d, _, g1⟩, _⟩, _, _, n, ti, bi, m, _, _, rr⟩ := r2
  have h1 := (rs_in g1).1
  unfold c_1136 t_645
  rw [stOf r]
  simp only [orB, isInB]
  cases hr : inB v1 8 with
  | true =>
    obtain ⟨k, hk, rfl⟩ := inB_nat 8 (by omega) hr
    have h3 := (rs_in (rr k hk).1).1
    obtain ⟨xs, hx, hb2⟩ := (rr k hk).2.2.2.2.1
    have h4 := rs_in hx
    cases hr2 : inB v2 256 with
    | true =>
      obtain ⟨g, hg, rfl⟩ := inB_nat 256 (by omega) hr2
      by_cases hb : t.1 1 = 0
      · exact Res.sta (x := 0) (by simp [need_eq, may_eq, xI, xV, h1, toI, lLook, isK, kdo, hb]) (by simp [goes_eq, hb, ptI])
      · obtain ⟨n', m', ys, e1, e2, e3, e4⟩ := bsSetB_r (v := v3) h4.1 (show g < 1000000 by omega)
        have hvg : v01 (t.2.2.1 144 (256 * k + g)) := by rw [hb2 g hg]; split <;> simp [v01]
        refine Or.inl ⟨t.2.2.1 144 (256 * k + g), cput s 1003 (128 + 3 * k) n' m' ys, wrI (ptI t 0 0) 144 (256 * k + g) v3, own, ?_, ?_, rfl, ?_, ?_, ?_, ?_, ?_⟩
        · simp [need_eq, may_eq, xI, xN, toP, xV, h1, toI, lLook, isK, kdo, hb, h3, h4.1, sC, i_clamp (show k < 2147483648 by omega), bsGet_r h4.1 (show g < 2147483648 by omega), e1, ← hb2 g hg, fit01 hvg]
        · have := hvg
          unfold v01 at this
          simp only [i_mulL, i_add, rdI_n (show 256 * k + g < 2048 by omega) (show 2048 < 2147483648 by omega), stI_n (show 256 * k + g < 2048 by omega) (show 2048 < 2147483648 by omega)]
          simp [goes_eq, hb, i_and1 hv, pt_2, this]
        · exact fun Z h6 h9 => rt_y rfl h6 h9
        · exact frm_cput hw (wf_lt hw h4.1) h4.2
        · show R6 (rs (lUpd s.1 _ _) own 6) _ N
          rw [rs_upd h4.2]
          exact R6_li hk hg (R6_pt r) xs hx e4 hv
        · show s.2.2.1 + n' ≤ _; omega
        · show s.2.2.2 + m' ≤ _; omega
    | false => exact Res.arg (x := 0) (by simp [need_eq, isK, kdo, h1]) (by simp [goes_eq, ptI])
  | false => exact Res.arg (x := 0) (by simp [isK, kdo, h1]) (by simp [goes_eq, ptI])
theorem bus_busy {own : Nat → Nat} {s : CS} {t : TS} {N : Nat} (hw : wfS s) (r : R6 (rs s.1 own 6) t N) (v1 v2 : Int32) (hv : v01 v2) : Res (fun X => X = 6) 6 (fun H t => R6 (H 6) t N) own s t 0 0 (c_1137 120 v1 v2 s) (t_646 v1 v2 t) := by
  have r2 := r
  obtain ⟨⟨⟨d, _, g1⟩, _⟩, _, _, n, ti, bi, m, _, _, rr⟩ := r2
  have h1 := (rs_in g1).1
  unfold c_1137 t_646
  rw [stOf r]
  simp only [orB, isInB]
  cases hr : inB v1 8 with
  | true =>
    obtain ⟨k, hk, rfl⟩ := inB_nat 8 (by omega) hr
    have h3 := (rs_in (rr k hk).1).1
    have hbz := (rr k hk).2.2.2.2.2.2.1
    by_cases hb : t.1 1 = 0
    · exact Res.sta (x := 0) (by simp [need_eq, may_eq, xI, xV, h1, toI, lLook, isK, kdo, hb]) (by simp [goes_eq, hb, ptI])
    · refine st_res (k := k) (x := t.2.2.1 145 k) (t' := wrI (ptI t 0 0) 145 k v2) hw hk r ?_ ?_ ?_ ?_ ?_ ?_ ?_
      · intro c j _ hq
        rw [wr_at, if_neg (fun q => hq ⟨by unfold sRow; omega, q.2⟩)]
        rfl
      · intro c h0 _
        rw [wr_1, pt_1, if_neg h0]
      · rintro n m _ _ _ ⟨q1, q2, q3⟩
        exact ⟨by simpa [wr_at, pt_2] using hv, by simpa [wr_at, pt_2] using q2, by simpa [wr_at, pt_2, hdO, tl] using q3⟩
      · rfl
      · intro Z h6 h99
        exact rt_y rfl h6 h99
      · simp [need_eq, may_eq, xI, xV, h1, toI, lLook, isK, kdo, hb, h3, sC, xP, i_clamp (show k < 2147483648 by omega), wr_at, pt_2, cup, fit01 hv, fit01 hbz]
      · have := hbz
        unfold v01 at this
        simp [goes_eq, hb, rdI_n hk, stI_n hk, pt_2, i_and1 hv, this]
  | false => exact Res.arg (x := 0) (by simp [isK, kdo, h1]) (by simp [goes_eq, ptI])
theorem c_in {v1 : Int32} {n : Nat} (hn : n + 1 < 2147483648) : (if v1 < 0 then some (0 : Int32) else if (Int32.ofNat n) < v1 then some 0 else some 1) = some (if inB v1 (Int32.ofNat (n + 1)) = true then 1 else 0) := by
  by_cases h : v1 < 0
  · simp [h, inB]
  · obtain ⟨k, hk, rfl⟩ := i_of h
    rw [if_neg h]
    by_cases h2 : n < k
    · rw [if_pos ((i_lt (by omega) hk).mpr h2), inB_not (by omega) hk (by omega)]; rfl
    · rw [if_neg (fun q => h2 ((i_lt (by omega) hk).mp q)), inB_of (by omega) (by omega)]; rfl
theorem bus_heard {own : Nat → Nat} {s : CS} {t : TS} {N : Nat} (hw : wfS s) (r : R6 (rs s.1 own 6) t N) (v1 : Int32) : Res (fun X => X = 6) 6 (fun H t => R6 (H 6) t N) own s t 0 0 (c_1141 120 v1 s) (t_650 v1 t) := by
  have r2 := r
  obtain ⟨⟨⟨d, _, g1⟩, _, _, g4, _⟩, _⟩ := r2
  have h1 := (rs_in g1).1
  have h4 := (rs_in g4).1
  unfold c_1141 t_650
  simp only [xN, xV, h1, lLook, toP, aLen_r h4 (by omega), Option.bind_some, if_true, List.getElem?_cons_succ, List.getElem?_cons_zero]
  simp only [show Int32.ofNat 5 = 5 from rfl, orB, isInB]
  cases hr : inB v1 5 with
  | true =>
    obtain ⟨k, hk, rfl⟩ := inB_nat 5 (by omega) hr
    by_cases hb : t.1 1 = 0
    · exact Res.sta (x := 0) (by simp [need_eq, may_eq, xI, xV, h1, toI, lLook, isK, kdo, hb]) (by simp [goes_eq, hb, ptI])
    · exact Res.same (x := t.2.2.1 157 k) hw (by simp [need_eq, may_eq, xI, xV, h1, toI, toP, lLook, isK, kdo, hb, aI_r h4 (by omega) (ts := [0, 12]) (by decide) hk (by omega) rfl]) (by simp [goes_eq, hb, rdI_n hk, pt_2]) (R6_pt r)
  | false => exact Res.arg (x := 0) (by simp [need_eq]) (by simp [goes_eq, ptI])
theorem c_in5 {v1 : Int32} : (if v1 < 0 then some (0 : Int32) else if 5 < v1 then some 0 else some 1) = some (if inB v1 6 = true then 1 else 0) := c_in (n := 5) (by omega)
theorem bus_station {own : Nat → Nat} {s : CS} {t : TS} {N : Nat} (hw : wfS s) (r : R6 (rs s.1 own 6) t N) (v1 v2 : Int32) : Res (fun X => X = 6) 6 (fun H t => R6 (H 6) t N) own s t 0 0 (c_1140 120 v1 v2 s) (t_649 v1 v2 t) := by
  have r2 := r
  obtain ⟨⟨⟨d, _, g1⟩, _⟩, _, _, n, ti, bi, m, _, _, rr⟩ := r2
  have h1 := (rs_in g1).1
  unfold c_1140 t_649
  rw [stOf r]
  simp only [c_in5, isInB]
  cases hr : inB v1 8 with
  | true =>
    obtain ⟨k, hk, rfl⟩ := inB_nat 8 (by omega) hr
    obtain ⟨s1, s2, s3, s4, s5, s6, s7, s8, s9, s10, s11⟩ := rr k hk
    have h3 := (rs_in s1).1
    have h5 := (rs_in s2).1
    cases hr2 : inB v2 6 with
    | true =>
      obtain ⟨w, hw2, rfl⟩ := inB_nat 6 (by omega) hr2
      by_cases hb : t.1 1 = 0
      · exact Res.sta (x := 0) (by simp [need_eq, may_eq, xI, xV, h1, toI, lLook, isK, kdo, hb]) (by simp [goes_eq, hb, ptI])
      · have e4 : t.2.2.1 148 k < 0 ↔ t.2.2.1 148 k = -1 := by
          rcases s9 with e | ⟨p, e, q1, q2⟩
          · rw [e]; decide
          · have := (s6 0 q1).2.2.2.2.1
            rw [e, i_m1 (by omega), i_lt0 (by omega)]
        have e5 : t.2.2.1 149 k < 0 ↔ t.2.2.1 149 k = -1 := by
          rcases s10 with e | ⟨_, p, q1, e⟩
          · rw [e]; decide
          · rw [e, i_m1 (by omega), i_lt0 (by omega)]
        have hw3 : w = 0 ∨ w = 1 ∨ w = 2 ∨ w = 3 ∨ w = 4 ∨ w = 5 := by omega
        have kc := i_clamp (show k < 2147483648 by omega)
        rcases hw3 with rfl | rfl | rfl | rfl | rfl | rfl
        · exact Res.same (x := t.2.2.1 146 k) hw (by simp [need_eq, may_eq, xI, xN, xV, h1, toI, toP, lLook, isK, kdo, hb, h3, sC, kc, h5, adSize_r h5, s3]) (by simp [goes_eq, hb, t_829, rdI_n hk, pt_2]) (R6_pt r)
        · by_cases z : t.2.2.1 148 k = -1
          · exact Res.same (x := 0) hw (by simp [need_eq, may_eq, xI, xN, xV, h1, toI, toP, lLook, isK, kdo, hb, h3, sC, kc, z]) (by simp [goes_eq, hb, t_829, rdI_n hk, pt_2, e4, z]) (R6_pt r)
          · exact Res.same (x := 1) hw (by simp [need_eq, may_eq, xI, xN, xV, h1, toI, toP, lLook, isK, kdo, hb, h3, sC, kc, z]) (by simp [goes_eq, hb, t_829, rdI_n hk, pt_2, e4, z]) (R6_pt r)
        · by_cases z : t.2.2.1 149 k = -1
          · exact Res.same (x := 0) hw (by simp [need_eq, may_eq, xI, xN, xV, h1, toI, toP, lLook, isK, kdo, hb, h3, sC, kc, z]) (by simp [goes_eq, hb, t_829, rdI_n hk, pt_2, e5, z]) (R6_pt r)
          · exact Res.same (x := 1) hw (by simp [need_eq, may_eq, xI, xN, xV, h1, toI, toP, lLook, isK, kdo, hb, h3, sC, kc, z]) (by simp [goes_eq, hb, t_829, rdI_n hk, pt_2, e5, z]) (R6_pt r)
        · exact Res.same (x := t.2.2.1 152 k) hw (by simp [need_eq, may_eq, xI, xN, xV, h1, toI, toP, lLook, isK, kdo, hb, h3, sC, kc]) (by simp [goes_eq, hb, t_829, rdI_n hk, pt_2]) (R6_pt r)
        · exact Res.same (x := t.2.2.1 153 k) hw (by simp [need_eq, may_eq, xI, xN, xV, h1, toI, toP, lLook, isK, kdo, hb, h3, sC, kc]) (by simp [goes_eq, hb, t_829, rdI_n hk, pt_2]) (R6_pt r)
        · exact Res.same (x := t.2.2.1 154 k) hw (by simp [need_eq, may_eq, xI, xN, xV, h1, toI, toP, lLook, isK, kdo, hb, h3, sC, kc]) (by simp [goes_eq, hb, t_829, rdI_n hk, pt_2]) (R6_pt r)
    | false => exact Res.arg (x := 0) (by simp [need_eq, isK, kdo, h1]) (by simp [goes_eq, ptI])
  | false => exact Res.arg (x := 0) (by simp [isK, kdo, h1]) (by simp [goes_eq, ptI])
theorem bus_byteAt {own : Nat → Nat} {s : CS} {t : TS} {N : Nat} (hw : wfS s) (r : R6 (rs s.1 own 6) t N) (v1 : Int32) : Res (fun X => X = 6) 6 (fun H t => R6 (H 6) t N) own s t 0 0 (c_1142 120 v1 s) (t_651 v1 t) := by
  have r2 := r
  obtain ⟨⟨⟨d, _, g1⟩, _, ⟨mc, n, g3, g5, g6, g7, _⟩, _⟩, _⟩ := r2
  have h1 := (rs_in g1).1
  have h3 := (rs_in g3).1
  unfold c_1142 t_651
  by_cases ha : v1 < -1
  · exact Res.arg (x := 0) (by simp [need_eq, ha]) (by simp [goes_eq, ptI, ha])
  · by_cases hn : v1 < Int32.ofNat n
    · by_cases hb : t.1 1 = 0
      · exact Res.sta (x := 0) (by simp [need_eq, may_eq, ha, hn, xI, xN, xV, h1, toI, toP, lLook, isK, kdo, hb, h3, alSize_r h3]) (by simp [goes_eq, hb, ptI, ha, hn, g5])
      · by_cases hm : v1 = -1
        · subst hm
          exact Res.same (x := t.1 526) hw (by simp [need_eq, may_eq, hn, xI, xN, xV, h1, toI, toP, lLook, isK, kdo, hb, h3, alSize_r h3]) (by simp [goes_eq, hb, hn, g5, pt_1]) (R6_pt r)
        · have h0 : ¬ v1 < 0 := by
            rw [Int32.lt_iff_toInt_lt] at ha ⊢
            have e1 : (-1 : Int32).toInt = -1 := by decide
            have e2 : (0 : Int32).toInt = 0 := by decide
            rw [e1] at ha; rw [e2]
            intro q
            exact hm (Int32.toInt_inj.mp (by rw [e1]; omega))
          obtain ⟨k, hk, rfl⟩ := i_of h0
          have hkn := (i_lt hk (by omega)).mp hn
          exact Res.same (x := t.2.2.1 156 k) hw (by simp [need_eq, may_eq, ha, hn, hm, xI, xN, xV, h1, toI, toP, lLook, isK, kdo, hb, h3, alSize_r h3, alGet_r h3 hkn (by omega), toB]) (by simp [goes_eq, hb, ha, hn, g5, pt_2, h0, rdI_n (show k < 14000 by omega) (show 14000 < 2147483648 by omega)]) (R6_pt r)
    · exact Res.arg (x := 0) (by simp [need_eq, ha, hn, xN, xV, h1, toP, lLook, isK, kdo, h3, alSize_r h3]) (by simp [goes_eq, ptI, ha, hn, g5])
