/-! the bus: what is disturbed -/
noncomputable def dstC (s : CS) (x10 : Int32) : Option (CS × Int32) := (if x10 = 0 then Option.bind (α := Nat) (xN s [(122, 2)] 120) (fun a11 => (if isK s [42] a11 = true then Option.bind (α := Value) (tmFirst s a11) (fun e12 => Option.bind (α := Int32) (toB e12) (fun b13 => Option.bind (α := Int32) (xI s [(122, 9)] 120) (fun x14 => (if b13 = x14 then Option.bind (α := Nat) (xN s [(122, 2)] 120) (fun a15 => Option.bind (α := Int32) (xI s [(122, 9)] 120) (fun x16 => Option.bind (α := CS) (some (chg s 1 1)) (fun s17 => (if isK s17 [42] a15 = true then Option.bind (α := Value × CS) (tmRem s17 a15 (.int x16)) (fun x18 => Option.bind (α := Option Int32) (toOB x18.1) (fun b19 => Option.bind (α := Int32) (b19) (fun x20 => some (x18.2, 0)))) else none)))) else some (s, 1))))) else none)) else some (s, 1))
theorem R6e_cg2 {h h' : lHeap} {t t' : TS} {N : Nat} (r : R6e h t N) (c1 : h' 122 = h 122) (c2 : h' 123 = h 123) (r1 : ∀ j, t'.2.2.1 141 j = t.2.2.1 141 j) (r2 : ∀ j, t'.2.2.1 155 j = t.2.2.1 155 j) (r3 : ∀ j, t'.2.2.1 157 j = t.2.2.1 157 j) (n516 : t'.1 516 = t.1 516) (n517 : t'.1 517 = t.1 517) (n519 : t'.1 519 = t.1 519) (n520 : t'.1 520 = t.1 520) (n528 : t'.1 528 = t.1 528) : R6e h' t' N := by
  unfold R6e at r ⊢
  simp only [lett_cg r1, r2, r3, n516, n517, n519, n520, n528, c1, c2]
  exact r
theorem Mp_cg {rk : Value → Int} {es : List (Value × Value)} {m m' : Int → Option Value} (h : Mp rk es m) (e : ∀ z, m' z = m z) : Mp rk es m' := by
  rw [show m' = m from funext e]; exact h
theorem R6_dd {h h' : lHeap} {t : TS} {N Ne Nd Nd' M : Nat} {v : Int32} (r : R6x h t N Ne Nd M) (hc : ∀ q, q ≠ 124 → h' q = h q) (d : R6d h' (ptI t 503 v) Nd') : R6x h' (ptI t 503 v) N Ne Nd' M := by
  obtain ⟨g, e, _, n, ti, bi, m, i1, i2, rr⟩ := r
  refine ⟨R6g_cg2 g (hc _ (by omega)) (hc _ (by omega)) (hc _ (by omega)) (hc _ (by omega)) (fun _ => rfl) (fun _ => rfl) (fun _ => rfl) (fun _ => rfl) rfl rfl rfl rfl rfl rfl rfl, R6e_cg2 e (hc _ (by omega)) (hc _ (by omega)) (fun _ => rfl) (fun _ => rfl) (fun _ => rfl) rfl rfl rfl rfl rfl, d, n, ti, bi, m, i1, i2, fun k hk => ?_⟩
  have r' := rr k hk
  refine R6s_cg r' (hc _ (by omega)) (hc _ (by omega)) (hc _ (by omega)) (fun j hj => ?_) (fun _ _ _ _ _ => rfl) (fun _ _ => rfl) (fun _ _ _ _ => rfl)
  have := (r'.2.2.2.2.2.1 j hj).2.2.2.2.2.2
  exact ⟨hc _ (by omega), hc _ (by omega)⟩
theorem bus_dist {own : Nat → Nat} {s : CS} {t : TS} {N Ne M : Nat} (hw : wfS s) (r : R6x (rs s.1 own 6) t N Ne N M) (hM : M = N + 1) :
    ∃ a s' x10, (a = 0 ∨ a = 1) ∧ tmEmpty s 124 = some x10 ∧ dstC s x10 = some (s', Int32.ofNat a) ∧ t.2.2.1 142 M = Int32.ofNat (1 - a) ∧ R6x (rs s'.1 own 6) (ptI t 503 (t.1 503 - Int32.ofNat (1 - a))) N Ne M M ∧ Frm (fun X => X = 6) own own s s' ∧ s'.2.2.1 + 2 * bN (t.1 503 - Int32.ofNat (1 - a)) ≤ s.2.2.1 + 2 * bN (t.1 503) ∧ s'.2.2.2 + bN (t.1 503 - Int32.ofNat (1 - a)) ≤ s.2.2.2 + bN (t.1 503) := by
  have r2 := r
  obtain ⟨g, _, ⟨mc, es, d1, d2, d3, d4, d5⟩, _⟩ := r2
  have g2 := g
  obtain ⟨⟨d, gi, gd⟩, _, _, _, g500, gM, _, _, _, _, _, g142, _⟩ := g2
  have D1 := (rs_in d1).1
  have x9 := (bus_g r).2.2.2.2.2.2.2.2.1
  have x2 : xN s [(122, 2)] 120 = some 124 := by simp only [xN, xV, xI, xL, xR, toP, toI, toL, toO, lLook, isK, kdo, toN, toB, toR, toOB, (rs_in gd).1]; rfl
  have k42 : ∀ n m, isK (chg s n m) [42] 124 = true := fun n m => by simp only [isK, kdo, chg, D1]; decide
  have k42' : isK s [42] 124 = true := k42 0 0
  have e0 := tm_empty D1
  have ev : ∀ x, rkI (.int x) = x.toInt := fun _ => rfl
  have toM : (Int32.ofNat M).toInt = (M : Int) := i_toInt (by omega)
  -- the head has the least key
  have keyN : ∀ e ∈ es, ∃ i : Nat, e.1 = .int (Int32.ofNat i) ∧ M ≤ i ∧ i ≤ 182000 ∧ t.2.2.1 142 i = 1 := by
    intro e he
    obtain ⟨x, hx⟩ := d3 e.1 (List.mem_map_of_mem he)
    have h1 := d2.2.1 e he
    by_cases c : ∃ i : Nat, i ≤ 182000 ∧ rkI e.1 = (i : Int) ∧ N < i ∧ t.2.2.1 142 i = 1
    · obtain ⟨i, i1, i2, i3, i4⟩ := c
      refine ⟨i, ?_, by omega, i1, i4⟩
      rw [hx] at i2 ⊢
      rw [ev] at i2
      rw [Int32.toInt_inj.mp (i2.trans (i_toInt (k := i) (by omega)).symm)]
    · exact absurd ((if_neg c).symm.trans h1) (by simp)
  by_cases c : t.2.2.1 142 M = 1
  · -- disturbed now
    have mM : (fun z => if ∃ i : Nat, i ≤ 182000 ∧ z = (i : Int) ∧ N < i ∧ t.2.2.1 142 i = 1 then some (Value.int 0) else none) (rkI (.int (Int32.ofNat M))) = some (.int 0) := by
      rw [ev, toM]
      exact if_pos ⟨M, by omega, rfl, by omega, c⟩
    obtain ⟨e, he, hr⟩ := d2.2.2 _ _ mM
    have eM : e.1 = .int (Int32.ofNat M) := by
      obtain ⟨i, i1, _⟩ := keyN e he
      obtain ⟨x, hx⟩ := d3 e.1 (List.mem_map_of_mem he)
      rw [hx] at hr ⊢
      rw [ev, ev] at hr
      rw [Int32.toInt_inj.mp hr]
    cases es with
    | nil => cases he
    | cons e1 es =>
      have hd1 : e1.1 = .int (Int32.ofNat M) := by
        rcases List.mem_cons.mp he with rfl | h
        · exact eM
        · have lt := (List.pairwise_cons.mp d2.1).1 e h
          obtain ⟨i, i1, i2, _⟩ := keyN e1 (List.mem_cons_self ..)
          rw [i1, eM, ev, ev, toM, i_toInt (by omega)] at lt
          omega
      have hk : KOk (chg s 1 1) rkI (.int (Int32.ofNat M) :: (e1 :: es).map Prod.fst) := KOk_int (fun x hx => by
        rcases List.mem_cons.mp hx with rfl | h
        · exact ⟨_, rfl⟩
        · exact d3 x h)
      obtain ⟨es', mc', t1, t2, t3, t4⟩ := tm_rem (s := chg s 1 1) (show (chg s 1 1).1 124 = _ from D1) hk d2 mM
      have o124 := (rs_in d1).2
      refine ⟨0, cput (chg s 1 1) 1042 124 1 0 (.int mc' :: fl es'), 0, Or.inl rfl, by rw [e0]; rfl, ?_, c, ?_, ?_, ?_⟩
      · unfold dstC
        rw [if_pos rfl, x2, Option.bind_some, if_pos k42', show tmFirst s 124 = some (.int (Int32.ofNat M)) by unfold tmFirst; rw [tmC_of D1]; show some e1.1 = _; rw [hd1], Option.bind_some, show toB (.int (Int32.ofNat M)) = some (Int32.ofNat M) from rfl, Option.bind_some, x9, Option.bind_some, if_pos g500.symm, Option.bind_some, Option.bind_some, Option.bind_some, if_pos (k42 1 1), g500, t1]
        rfl
      · have er : rs (cput (chg s 1 1) 1042 124 1 0 (.int mc' :: fl es')).1 own 6 = lUpd (rs s.1 own 6) 124 (true, false, 1042, .int mc' :: fl es') := by
          show rs (lUpd s.1 124 _) own 6 = _
          rw [rs_upd o124]
        rw [er]
        refine R6_dd r (fun q hq => by rw [lUpd_at, if_neg hq]) ⟨mc', es', by rw [lUpd_at, if_pos rfl], Mp_cg t2 (fun z => ?_), fun x hx => d3 x (t3 x hx), ?_, by simp at d5 t4; omega⟩
        · show (if ∃ i : Nat, i ≤ 182000 ∧ z = (i : Int) ∧ M < i ∧ t.2.2.1 142 i = 1 then some (Value.int 0) else none) = _
          rw [ev, toM]
          by_cases zM : z = (M : Int)
          · rw [if_pos zM, if_neg (fun ⟨i, i1, i2, i3, i4⟩ => by omega)]
          · rw [if_neg zM]
            by_cases ex : ∃ i : Nat, i ≤ 182000 ∧ z = (i : Int) ∧ N < i ∧ t.2.2.1 142 i = 1
            · obtain ⟨i, i1, i2, i3, i4⟩ := ex
              rw [if_pos ⟨i, i1, i2, by omega, i4⟩, if_pos ⟨i, i1, i2, i3, i4⟩]
            · rw [if_neg (fun ⟨i, i1, i2, i3, i4⟩ => ex ⟨i, i1, i2, by omega, i4⟩), if_neg ex]
        · show t.1 503 - Int32.ofNat (1 - 0) = _
          rw [d4, i_sub (by simp), ← t4]; rfl
      · exact (frm_chg hw).trans (frm_cput hw (show 124 < s.2.1 from wf_lt hw D1) o124)
      · rw [d4, i_sub (by simp), i_bN (by simp at d5 ⊢; omega), i_bN (by simp at d5 ⊢; omega)]
        have : (e1 :: es).length = es.length + 1 := rfl
        constructor
        · show s.2.2.1 + 1 + 1 + _ ≤ _; omega
        · show s.2.2.2 + 1 + 0 + _ ≤ _; omega
  · have c0 : t.2.2.1 142 M = 0 := (g142 M (by omega)).resolve_right c
    refine ⟨1, s, _, Or.inr rfl, e0, ?_, c0, ?_, Frm.refl hw, ?_⟩
    · unfold dstC
      cases es with
      | nil => exact if_neg (by decide)
      | cons e1 es =>
        obtain ⟨i, i1, i2, i3, i4⟩ := keyN e1 (List.mem_cons_self ..)
        have ne : ¬ Int32.ofNat i = t.1 500 := fun z => by
          rw [g500] at z
          have := (i_inj (by omega) (by omega)).mp z
          rw [this] at i4; exact c i4
        rw [if_pos (show (if (e1 :: es).length = 0 then (1 : Int32) else 0) = 0 from rfl), x2, Option.bind_some, if_pos k42', show tmFirst s 124 = some (.int (Int32.ofNat i)) by unfold tmFirst; rw [tmC_of D1]; show some e1.1 = _; rw [i1], Option.bind_some, show toB (.int (Int32.ofNat i)) = some (Int32.ofNat i) from rfl, Option.bind_some, x9, Option.bind_some, if_neg ne]
        rfl
    · have z0 : t.1 503 - Int32.ofNat (1 - 1) = t.1 503 := Int32.sub_zero _
      rw [z0]
      refine R6_dd r (fun _ _ => rfl) ⟨mc, es, d1, Mp_cg d2 (fun z => ?_), d3, d4, d5⟩
      show (if ∃ i : Nat, i ≤ 182000 ∧ z = (i : Int) ∧ M < i ∧ t.2.2.1 142 i = 1 then some (Value.int 0) else none) = _
      by_cases ex : ∃ i : Nat, i ≤ 182000 ∧ z = (i : Int) ∧ N < i ∧ t.2.2.1 142 i = 1
      · obtain ⟨i, i1, i2, i3, i4⟩ := ex
        have : i ≠ M := fun z => c (z ▸ i4)
        rw [if_pos ⟨i, i1, i2, by omega, i4⟩, if_pos ⟨i, i1, i2, i3, i4⟩]
      · rw [if_neg (fun ⟨i, i1, i2, i3, i4⟩ => ex ⟨i, i1, i2, by omega, i4⟩), if_neg ex]
    · rw [show t.1 503 - Int32.ofNat (1 - 1) = t.1 503 from Int32.sub_zero _]
      exact ⟨Nat.le_refl _, Nat.le_refl _⟩
