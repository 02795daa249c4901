/-! the bus: disturb -/
theorem R6_dq {h h' : lHeap} {t t' : TS} {N Ne Nd Nd' M : Nat} (r : R6x h t N Ne Nd M) (hc : ∀ q, q ≠ 124 → h' q = h q) (hn : ∀ c, c ≠ 0 → c ≠ 503 → t'.1 c = t.1 c) (hr : ∀ c j, c ≠ 142 → t'.2.2.1 c j = t.2.2.1 c j) (h142 : ∀ i, i ≤ 182000 → v01 (t'.2.2.1 142 i)) (d : R6d h' t' Nd') : R6x h' t' N Ne Nd' M := by
  obtain ⟨⟨⟨d0, gi, gd⟩, g121, ⟨mc, n5, g5, g5a, g5b, g5c, g5d⟩, g126, g500, gM, g523, g525, g1, g524, g141, g142, g526⟩, e, _, n, ti, bi, m, i1, i2, rr⟩ := r
  refine ⟨⟨⟨d0, ?_, ?_⟩, ?_, ⟨mc, n5, ?_, ?_, g5b, ?_, ?_⟩, ?_, ?_, gM, ?_, ?_, ?_, ?_, ?_, h142, ?_⟩, R6e_cg2 e (hc _ (by omega)) (hc _ (by omega)) (fun j => hr _ j (by omega)) (fun j => hr _ j (by omega)) (fun j => hr _ j (by omega)) (hn _ (by omega) (by omega)) (hn _ (by omega) (by omega)) (hn _ (by omega) (by omega)) (hn _ (by omega) (by omega)) (hn _ (by omega) (by omega)), d, n, ti, bi, m, i1, i2, fun k hk => ?_⟩
  · unfold R6i at gi ⊢
    simpa only [hr 141 _ (show 141 ≠ 142 by omega)] using gi
  · rw [hc _ (by omega), gd, hn 523 (by omega) (by omega), hn 524 (by omega) (by omega), hn 525 (by omega) (by omega), hn 526 (by omega) (by omega), hn 500 (by omega) (by omega), hn 1 (by omega) (by omega)]
  · rw [hc _ (by omega)]; exact g121
  · rw [hc _ (by omega), g5]
    rw [rowC_congr (f := fun k => Value.int (t.2.2.1 156 k)) (g := fun k => .int (t'.2.2.1 156 k)) (fun i _ => by rw [hr 156 i (by omega)])]
  · rw [hn 521 (by omega) (by omega)]; exact g5a
  · intro i hi; rw [hr 156 i (by omega)]; exact g5c i hi
  · rw [hn 524 (by omega) (by omega)]; exact g5d
  · rw [hc _ (by omega), g126]
    rw [rowC_congr (f := fun k => Value.int (t.2.2.1 157 k)) (g := fun k => .int (t'.2.2.1 157 k)) (fun i _ => by rw [hr 157 i (by omega)])]
  · rw [hn 500 (by omega) (by omega)]; exact g500
  · rw [hn 523 (by omega) (by omega)]; exact g523
  · rw [hn 525 (by omega) (by omega)]; exact g525
  · rw [hn 1 (by omega) (by omega)]; exact g1
  · rw [hn 524 (by omega) (by omega)]; exact g524
  · intro i hi; rw [hr 141 i (by omega)]; exact g141 i hi
  · rw [hn 526 (by omega) (by omega)]; exact g526
  · have r' := rr k hk
    refine R6s_cg r' (hc _ (by omega)) (hc _ (by omega)) (hc _ (by omega)) (fun j hj => ?_) (fun c _ _ _ _ => hr c _ (by omega)) (fun _ _ => hr _ _ (by omega)) (fun _ _ _ _ => hr _ _ (by omega))
    have := (r'.2.2.2.2.2.1 j hj).2.2.2.2.2.2
    exact ⟨hc _ (by omega), hc _ (by omega)⟩
theorem bus_disturb {own : Nat → Nat} {s : CS} {t : TS} {N : Nat} (hw : wfS s) (r : R6 (rs s.1 own 6) t N) (v1 : Int32) : Res (fun X => X = 6) 6 (fun H t' => R6 (H 6) t' N ∧ Pc t' N ≤ Pc t N + 2 ∧ Ps t' N ≤ Ps t N + 1) own s t 3 8 (c_1139 120 v1 s) (t_648 v1 t) := by
  have r2 := r
  obtain ⟨⟨⟨d, gi, gd⟩, _, _, _, g500, gM, _, _, g1, _, _, g142, _⟩, _, ⟨mc, es, d1, d2, d3, d4, d5⟩, _⟩ := r2
  have h1 := (rs_in gd).1
  have D1 := (rs_in d1).1
  have x2 : xN s [(122, 2)] 120 = some 124 := by simp only [xN, xV, xI, xL, xR, toP, toI, toL, toO, lLook, isK, kdo, toN, toB, toR, toOB, h1]; rfl
  have x9 : xI s [(122, 9)] 120 = some (t.1 500) := by simp only [xN, xV, xI, xL, xR, toP, toI, toL, toO, lLook, isK, kdo, toN, toB, toR, toOB, h1]; rfl
  have x12 : xI s [(122, 12)] 120 = some (t.1 1) := by simp only [xN, xV, xI, xL, xR, toP, toI, toL, toO, lLook, isK, kdo, toN, toB, toR, toOB, h1]; rfl
  have k42 : ∀ n m, isK (chg s n m) [42] 124 = true := fun n m => by simp only [isK, kdo, chg, D1]; decide
  have sz : tmSize s 124 = some (t.1 503) := by rw [tm_size D1, d4]
  unfold c_1139 t_648 t_827
  by_cases ok : (if v1 < 1 then some (0 : Int32) else (if 2000 < v1 then some 0 else some 1)) = some 1
  · rw [ok, Option.bind_some, Option.bind_some, need_eq, if_neg (by decide), Option.bind_some]
    have hv : ∃ g, 1 ≤ g ∧ g ≤ 2000 ∧ v1 = Int32.ofNat g := by
      by_cases q1 : v1 < 1
      · rw [if_pos q1] at ok; exact absurd ok (by decide)
      · rw [if_neg q1] at ok
        by_cases q2 : 2000 < v1
        · rw [if_pos q2] at ok; exact absurd ok (by decide)
        · obtain ⟨k, hk, rfl⟩ := i_of (x := v1) (fun z => q1 (by rw [Int32.lt_iff_toInt_lt] at z ⊢; exact Int.lt_trans z (by decide)))
          refine ⟨k, ?_, ?_, rfl⟩
          · rcases Nat.lt_or_ge k 1 with z | z
            · exact absurd ((i_lt (j := k) (k := 1) hk (by omega)).mpr z) q1
            · exact z
          · rcases Nat.lt_or_ge 2000 k with z | z
            · exact absurd ((i_lt (j := 2000) (k := k) (by omega) hk).mpr z) q2
            · exact z
    obtain ⟨g, hg1, hg2, rfl⟩ := hv
    simp only [Sum.elim_inl, x12, Option.bind_some]
    have key : ∃ w, (if t.1 1 = 0 then some (0 : Int32) else if t.1 503 < 50 then some 1 else some 0) = some w ∧ (w = 0 ∨ w = 1 ∧ es.length < 50) := by
      by_cases b : t.1 1 = 0
      · exact ⟨0, if_pos b, Or.inl rfl⟩
      · rw [if_neg b]
        by_cases q : t.1 503 < 50
        · exact ⟨1, if_pos q, Or.inr ⟨rfl, by rw [d4] at q; exact (i_lt (k := 50) (by omega) (by omega)).mp q⟩⟩
        · exact ⟨0, if_neg q, Or.inl rfl⟩
    obtain ⟨w, w1, w2⟩ := key
    have c1 : (if t.1 1 = 0 then some (0 : Int32) else Option.bind (α := Nat) (xN s [(122, 2)] 120) (fun a4 => (if isK s [42] a4 = true then Option.bind (α := Int32) (tmSize s a4) (fun x5 => (if x5 < 50 then some 1 else some 0)) else none))) = some w := by
      rw [x2, Option.bind_some, if_pos (show isK s [42] 124 = true from k42 0 0), sz, Option.bind_some]; exact w1
    have c2 : (if t.1 1 = 0 then some (0 : Int32) else Option.bind (α := Int32) (if t.1 503 < 50 then some 1 else some 0) (fun x1 => (if x1 = 0 then some 0 else some 1))) = some w := by
      rw [← w1]
      by_cases b : t.1 1 = 0
      · rw [if_pos b, if_pos b]
      · rw [if_neg b, if_neg b]
        by_cases q : t.1 503 < 50
        · rw [if_pos q]; rfl
        · rw [if_neg q]; rfl
    rw [c1, c2, Option.bind_some, Option.bind_some, may_eq, goes_eq, Option.bind_some]
    rcases w2 with rfl | ⟨rfl, hl⟩
    · exact Res.sta (x := 0) (by simp) (by simp)
    · -- it goes
      rw [if_neg (show ¬ (1 : Int32) = 0 by decide), Option.bind_some]
      simp only [Sum.elim_inl, x2, x9, Option.bind_some]
      have e5 : t.1 500 + Int32.ofNat g = Int32.ofNat (N + g) := by rw [g500, i_add]
      have hk : KOk (chg (chg s 1 1) 1 1) rkI (.int (Int32.ofNat (N + g)) :: es.map Prod.fst) := KOk_int (fun x hx => by
        rcases List.mem_cons.mp hx with rfl | h
        · exact ⟨_, rfl⟩
        · exact d3 x h)
      obtain ⟨es', mc', n', j', p1, p2, p3, p4, p5, p6, _⟩ := tm_put (v := .int 0) (s := chg (chg s 1 1) 1 1) (show (chg (chg s 1 1) 1 1).1 124 = _ from D1) hk d2 (by omega)
      have rkJ : rkI (.int (Int32.ofNat (N + g))) = ((N + g : Nat) : Int) := i_toInt (by omega)
      rw [rkJ] at p1 p4 p6
      have cs : ∃ u, (u = 0 ∨ u = 1) ∧ t.2.2.1 142 (N + g) = Int32.ofNat (1 - u) ∧ tmPut (chg (chg s 1 1) 1 1) 124 (.int (Int32.ofNat (N + g))) (.int 0) = some (if u = 1 then .null else .int 0, cput (chg (chg s 1 1) 1 1) 1042 124 n' j' (.int mc' :: fl es')) ∧ es'.length = es.length + u := by
        rcases g142 (N + g) (by omega) with v0 | v0
        · have m0 : (if ∃ i : Nat, i ≤ 182000 ∧ ((N + g : Nat) : Int) = (i : Int) ∧ N < i ∧ t.2.2.1 142 i = 1 then some (Value.int 0) else none) = none := if_neg (fun ⟨i, i1, i2, i3, i4⟩ => by rw [show i = N + g by omega, v0] at i4; exact absurd i4 (by decide))
          rw [m0] at p1 p6
          exact ⟨1, Or.inr rfl, v0, p1, p6⟩
        · have m0 : (if ∃ i : Nat, i ≤ 182000 ∧ ((N + g : Nat) : Int) = (i : Int) ∧ N < i ∧ t.2.2.1 142 i = 1 then some (Value.int 0) else none) = some (.int 0) := if_pos ⟨N + g, by omega, rfl, by omega, v0⟩
          rw [m0] at p1 p6
          exact ⟨0, Or.inl rfl, v0, p1, p6⟩
      obtain ⟨u, hu, u1, u2, u3⟩ := cs
      have o124 := (rs_in d1).2
      have T : t_828 (Int32.ofNat g) (ptI t 0 0) = some (Int32.ofNat u, ptI (wrI (ptI t 0 0) 142 (N + g) 1) 503 (t.1 503 + Int32.ofNat u)) := by
        unfold t_828
        have e5' : (ptI t 0 0).1 500 + Int32.ofNat g = Int32.ofNat (N + g) := e5
        rw [e5', rdI_n (by omega) (by omega), Option.bind_some, show (ptI t 0 0).2.2.1 142 (N + g) = Int32.ofNat (1 - u) from u1, stI_n (by omega) (by omega)]
        rcases hu with rfl | rfl <;> rfl
      have n503 : t.1 503 + Int32.ofNat u = Int32.ofNat (es.length + u) := by rw [d4, i_add]
      refine Or.inl ⟨Int32.ofNat u, cput (chg (chg s 1 1) 1 1) 1042 124 n' j' (.int mc' :: fl es'), ptI (wrI (ptI t 0 0) 142 (N + g) 1) 503 (t.1 503 + Int32.ofNat u), own, ?_, ?_, rfl, ?_, ?_, ⟨?_, ?_, ?_⟩, ?_, ?_⟩
      · have kk : isK (chg (chg s 1 1) 1 1) [42] 124 = true := by simp only [isK, kdo, chg, D1]; decide
        rw [if_pos kk, e5, u2, Option.bind_some]
        rcases hu with rfl | rfl
        · exact if_neg (fun z => by cases z)
        · exact if_pos rfl
      · have : (if (1 : Int32) = 0 ∨ (1 : Int32) = 0 then (0 : Int32) else 1) = 1 := by decide
        have this2 : (if (1 : Int32) = 0 then (1 : Int32) else if (1 : Int32) = 0 then 2 else 0) = 0 := by decide
        simp only [this, this2]
        rw [if_neg (show ¬ (1 : Int32) = 0 by decide), T, Option.bind_some]
        rcases hu with rfl | rfl <;> rfl
      · intro Z h6 h9
        rw [rt_ptI (fun e => h6 e.symm), rt_wrI (fun e => h6 e.symm), ptI_rt h9]
      · have f0 : Frm (fun X => X = 6) own own s (chg (chg s 1 1) 1 1) := (frm_chg hw).trans (frm_chg hw)
        exact f0.trans (frm_cput hw (show 124 < s.2.1 from wf_lt hw D1) o124)
      · have er : rs (cput (chg (chg s 1 1) 1 1) 1042 124 n' j' (.int mc' :: fl es')).1 own 6 = lUpd (rs s.1 own 6) 124 (true, false, 1042, .int mc' :: fl es') := by
          show rs (lUpd s.1 124 _) own 6 = _
          rw [rs_upd o124]
        show R6 (rs _ own 6) _ N
        rw [er]
        have w142 : ∀ i, (ptI (wrI (ptI t 0 0) 142 (N + g) 1) 503 (t.1 503 + Int32.ofNat u)).2.2.1 142 i = if i = N + g then 1 else t.2.2.1 142 i := fun i => by
          show (wrI (ptI t 0 0) 142 (N + g) 1).2.2.1 142 i = _
          rw [wr_at]
          by_cases z : i = N + g
          · rw [if_pos ⟨rfl, z⟩, if_pos z]
          · rw [if_neg (fun q => z q.2), if_neg z]; rfl
        refine R6_dq r (fun q hq => by rw [lUpd_at, if_neg hq]) (fun c c0 c5 => by rw [pt_1, if_neg c5, wr_1, pt_1, if_neg c0]) (fun c j hc => by show (wrI (ptI t 0 0) 142 (N + g) 1).2.2.1 c j = _; rw [wr_ne hc]; rfl) (fun i hi => by rw [w142]; by_cases z : i = N + g <;> simp only [z, if_true, if_false]; exact Or.inr rfl; exact g142 i hi) ⟨mc', es', by rw [lUpd_at, if_pos rfl], Mp_cg p4 (fun z => ?_), fun x hx => ?_, ?_, ?_⟩
        · by_cases zM : z = ((N + g : Nat) : Int)
          · rw [if_pos zM, if_pos ⟨N + g, by omega, zM, by omega, by rw [w142, if_pos rfl]⟩]
          · rw [if_neg zM]
            by_cases ex : ∃ i : Nat, i ≤ 182000 ∧ z = (i : Int) ∧ N < i ∧ t.2.2.1 142 i = 1
            · obtain ⟨i, i1, i2, i3, i4⟩ := ex
              have ne : i ≠ N + g := fun q => zM (by rw [i2, q])
              rw [if_pos ⟨i, i1, i2, i3, by rw [w142, if_neg ne]; exact i4⟩, if_pos ⟨i, i1, i2, i3, i4⟩]
            · rw [if_neg ex, if_neg (fun ⟨i, i1, i2, i3, i4⟩ => ex ⟨i, i1, i2, i3, by
                rw [w142, if_neg (fun q => zM (by rw [i2, q]))] at i4; exact i4⟩)]
        · rcases p5 x hx with rfl | h
          · exact ⟨_, rfl⟩
          · exact d3 x h
        · show t.1 503 + Int32.ofNat u = _
          rw [n503, u3]
        · rw [u3]; omega
      · show potc _ N + 2 * bN (t.1 503 + Int32.ofNat u) ≤ potc t N + 2 * bN (t.1 503) + 2
        have p := (pot_cg (t := t) (t' := ptI (wrI (ptI t 0 0) 142 (N + g) 1) 503 (t.1 503 + Int32.ofNat u)) (N := N) rfl rfl rfl).1
        rw [p, n503, d4, i_bN (by omega), i_bN (by omega)]
        omega
      · show pots _ N + bN (t.1 503 + Int32.ofNat u) ≤ pots t N + bN (t.1 503) + 1
        have p := (pot_cg (t := t) (t' := ptI (wrI (ptI t 0 0) 142 (N + g) 1) 503 (t.1 503 + Int32.ofNat u)) (N := N) rfl rfl rfl).2
        rw [p, n503, d4, i_bN (by omega), i_bN (by omega)]
        omega
      · show s.2.2.1 + 1 + 1 + n' ≤ _; omega
      · show s.2.2.2 + 1 + 1 + j' ≤ _; omega
  · have o0 : (if v1 < 1 then some (0 : Int32) else (if 2000 < v1 then some 0 else some 1)) = some 0 := by
      by_cases q1 : v1 < 1
      · rw [if_pos q1]
      · rw [if_neg q1] at ok ⊢
        by_cases q2 : 2000 < v1
        · rw [if_pos q2]
        · rw [if_neg q2] at ok; exact absurd rfl ok
    rw [o0, Option.bind_some, Option.bind_some, need_eq, if_pos rfl, Option.bind_some]
    refine Res.arg (x := 0) rfl ?_
    by_cases b : t.1 1 = 0
    · simp [b, goes_eq]
    · by_cases q : t.1 503 < 50
      · simp [b, q, goes_eq]
      · simp [b, q, goes_eq]
