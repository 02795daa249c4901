/-! the bus: the tick -/
def Pc (t : TS) (N : Nat) : Nat := potc t N + 2 * bN (t.1 503)
def Ps (t : TS) (N : Nat) : Nat := pots t N + bN (t.1 503)
theorem pot_cg {t t' : TS} {N : Nat} (h1 : t'.1 516 = t.1 516) (h2 : t'.1 517 = t.1 517) (h3 : t'.1 528 = t.1 528) : potc t' N = potc t N ∧ pots t' N = pots t N := by
  unfold potc pots
  rw [h1, h2, h3]
  exact ⟨rfl, rfl⟩
theorem bus_tick {own : Nat → Nat} {s : CS} {t : TS} {N : Nat} (hw : wfS s) (r : R6 (rs s.1 own 6) t N) (hN : N < 180000) (o118 : own 118 = 10) (hpr : xN s [(100, 4)] 115 = some 118) (o115 : own 115 ≠ 6 ∧ own 115 ≠ 10) (h115 : 115 < s.2.1) (hp : s.1 118 = some (true, true, 0, rowC (fun i => .int (t.2.2.1 136 i)) 10)) :
    ∃ s' t', c_1144 120 s = some s' ∧ t_830 t = some t' ∧ R6 (rs s'.1 own 6) t' (N + 1) ∧ BT own s t s' t' ∧ s'.1 118 = some (true, true, 0, rowC (fun i => .int (pU t t' (t.2.2.1 136) i)) 10) ∧ s'.2.2.1 + Pc t' (N + 1) ≤ s.2.2.1 + Pc t N + 1 ∧ s'.2.2.2 + Ps t' (N + 1) ≤ s.2.2.2 + Ps t N + 4 ∧ (t.2.2.1 157 1 < t'.2.2.1 157 1 → byt (t'.2.2.1 156 3) ∧ byt (t'.2.2.1 156 4)) := by
  obtain ⟨s1, n1, n2, n3⟩ := bus_now hw r hN
  have x9 := (bus_g r).2.2.2.2.2.2.2.2.1
  have g1 := n2.1
  obtain ⟨⟨d, gi, gd⟩, _, _, _, g500, _⟩ := g1
  obtain ⟨y, id1, id2⟩ := t_idle g500 hN gi
  obtain ⟨s2, t2, b1, b2, b3, b4, b5⟩ := lp_begin n3.wf n2 id2
  obtain ⟨s3, t3, a1, a2, a3, a4⟩ := bus_answers b4.wf b3
  have a5 := (fr_833 b5).2 _ a2
  obtain ⟨a, s4, x10, ha, d1, d2, d3, d4, d5, d6, d7⟩ := bus_dist a4.wf a3 rfl
  generalize hT4 : ptI t3 503 (t3.1 503 - Int32.ofNat (1 - a)) = t4 at d4
  obtain ⟨l, hl, l1, l2⟩ := lp_send d4 ha
  have r5 := bus_line d4 rfl hl
  generalize hT5 : wrI t4 141 (N + 1) (Int32.ofNat l) = t5 at r5
  have line5 : t5.2.2.1 141 (N + 1) = Int32.ofNat l := by rw [← hT5, wr_at, if_pos ⟨rfl, rfl⟩]
  have w4 : wfS s4 := d5.2.2.2.2
  obtain ⟨s6, t6, h1, h2, h3, h4, h5⟩ := lp_hears w4 r5 hl line5
  have line6 : t6.2.2.1 141 (N + 1) = Int32.ofNat l := by rw [h5.2 141 _ (by omega)]; exact line5
  -- frames up to here
  have F : Frm (fun X => X = 6) own own s s6 := (((n3.1.trans b4.1).trans a4.1).trans d5).trans h4.1
  have rows : ∀ c j, c ≠ 141 → ¬ RSt c → t6.2.2.1 c j = t.2.2.1 c j := fun c j c1 c2 => by
    rw [h5.2 c j c2, ← hT5, wr_ne c1, ← hT4]
    show t3.2.2.1 c j = _
    rw [a5.2 c j c2]
    rfl
  have nums : ∀ c, c ≠ 500 → c ≠ 503 → t6.1 c = t.1 c := fun c c1 c2 => by
    rw [h5.1, ← hT5, wr_1, ← hT4, pt_1, if_neg c2, a5.1, pt_1, if_neg c1]
  have n503 : t6.1 503 = t3.1 503 - Int32.ofNat (1 - a) := by
    rw [h5.1, ← hT5, wr_1, ← hT4, pt_1, if_pos rfl]
  have t3503 : t3.1 503 = t.1 503 := by rw [a5.1, pt_1, if_neg (by omega)]
  have rtF : ∀ Z, Z ≠ 6 → rt t6 Z = rt t Z := fun Z hZ => by
    rw [h4.2.1 Z hZ, ← hT5, rt_wrI (fun e => hZ e.symm), ← hT4, rt_ptI (fun e => hZ e.symm), a4.2.1 Z hZ, b4.2.1 Z hZ, n3.2.1 Z hZ]
  have hpr6 : xN s6 [(100, 4)] 115 = some 118 := by rw [xN_cg (F.2.2.1 115 h115 o115.1)]; exact hpr
  have hp6 : s6.1 118 = some (true, true, 0, rowC (fun i => .int (t6.2.2.1 136 i)) 10) := by
    rw [F.2.2.1 118 (wf_lt hw hp) (by rw [o118]; decide), hp]
    rw [rowC_congr (f := fun i => Value.int (t.2.2.1 136 i)) (g := fun i => .int (t6.2.2.1 136 i)) (fun i _ => by rw [rows 136 i (by omega) (by omega)])]
  obtain ⟨x, s7, t7, e1, e2, e3, e4, e5, e6, e8, e9, ⟨e10, e10b⟩, e11, e12⟩ := bus_hear h4.wf h3 rfl hl line6 o118 hpr6 o115 hp6
  have w7 : wfS s7 := e5.1.2.2.2.2
  obtain ⟨v, s8, i1, i2, i3, i4⟩ := bus_idle w7 e4 rfl hl (by rw [e11]; exact line6)
  obtain ⟨s9, t9, k1, k2, k3, k4, k5⟩ := lp_look i4.wf i3
  refine ⟨s9, t9, ?_, ?_, k3, ?_, ?_, ?_, ?_, ?_⟩
  · have u2 := (bus_g b3).2.2.2.2.2.2.2.2.2
    have v2 : xN s3 [(122, 2)] 120 = some 124 ∧ isK s3 [42] 124 = true := by
      have z := a3
      obtain ⟨⟨⟨_, _, zd⟩, _⟩, _, ⟨_, _, zm, _⟩, _⟩ := z
      exact ⟨by simp only [xN, xV, xI, xL, xR, toP, toI, toL, toO, lLook, isK, kdo, toN, toB, toR, toOB, (rs_in zd).1]; rfl, by simp only [isK, kdo, (rs_in zm).1]; decide⟩
    have v6 : xN s6 [(122, 1)] 120 = some 122 ∧ isK s6 [130] 122 = true := by
      have z := h3
      obtain ⟨⟨⟨_, _, zd⟩, _⟩, ⟨_, _, _, _, _, _, _, _, _, _, ze, _⟩, _⟩ := z
      exact ⟨by simp only [xN, xV, xI, xL, xR, toP, toI, toL, toO, lLook, isK, kdo, toN, toB, toR, toOB, (rs_in zd).1]; rfl, by simp only [isK, kdo, (rs_in ze).1]; decide⟩
    have x6 := (bus_g h3).2.2.2.2.2.2.2.2.1
    unfold dstC at d2
    rw [v2.1] at d2
    unfold earC at e2
    unfold c_1144
    rw [x9, Option.bind_some, n1, Option.bind_some, b1, Option.bind_some, if_pos u2, a1, Option.bind_some, v2.1, Option.bind_some, if_pos v2.2, d1, Option.bind_some, d2, Option.bind_some]
    dsimp only
    rw [l1, Option.bind_some, h1, Option.bind_some, v6.1, Option.bind_some, x6, Option.bind_some, if_pos v6.2, e1, Option.bind_some, e2, Option.bind_some, i1, Option.bind_some, i2, Option.bind_some, k1, Option.bind_some]
  · have g4 : t4.1 500 = Int32.ofNat (N + 1) := d4.1.2.2.2.2.1
    have g3 : t3.1 500 = Int32.ofNat (N + 1) := a3.1.2.2.2.2.1
    have q142 : rdI t3 142 182001 (t3.1 500) = some (Int32.ofNat (1 - a)) := by rw [g3, rdI_n (by omega) (by omega), d3]
    have v31 : (if Int32.ofNat (1 - a) = 0 then some (1 : Int32) else some 0) = some (Int32.ofNat a) := by rcases ha with rfl | rfl <;> rfl
    have v44 : (if Int32.ofNat (1 - a) = 0 then some (0 : Int32) else some 1) = some (Int32.ofNat (1 - a)) := by rcases ha with rfl | rfl <;> rfl
    have st : stI t4 141 180001 (t4.1 500) (Int32.ofNat l &&& 1) = some t5 := by rw [i_and1 (v01_of hl), g4, stI_n (by omega) (by omega), hT5]
    unfold t_830
    rw [Option.bind_some, id1, Option.bind_some, b2, Option.bind_some, a2, Option.bind_some, q142, Option.bind_some, v31, Option.bind_some, Option.bind_some, v44, Option.bind_some, Option.bind_some, hT4, l2, Option.bind_some, st, Option.bind_some, h2, Option.bind_some, e3, Option.bind_some, k2, Option.bind_some]
  · exact ((((BT.tr ⟨F.weak (fun _ z => Or.inl z), rtF⟩ e5).tr i4.bt).tr k4.bt))
  · have q8 : s8.1 118 = s7.1 118 := i4.1.2.2.1 118 (by have := wf_lt w7 e6; exact this) (by rw [o118]; decide)
    have q9 : s9.1 118 = s8.1 118 := k4.1.2.2.1 118 (wf_lt i4.wf (q8.trans e6)) (by rw [o118]; decide)
    rw [q9, q8, e6]
    rw [rowC_congr (f := fun i => Value.int (pU t6 t7 (t6.2.2.1 136) i)) (g := fun i => .int (pU t t9 (t.2.2.1 136) i)) (fun i _ => ?_)]
    unfold pU
    rw [rows 157 1 (by omega) (by omega), k5.2 157 1 (by omega), k5.2 156 5 (by omega), k5.2 156 3 (by omega), k5.2 156 4 (by omega), k5.2 156 6 (by omega), rows 136 i (by omega) (by omega)]
  · have p1 := pot_cg (t := t) (t' := t6) (N := N) (nums _ (by omega) (by omega)) (nums _ (by omega) (by omega)) (nums _ (by omega) (by omega))
    have p2 := pot_cg (t := t7) (t' := t9) (N := N + 1) (by rw [k5.1]) (by rw [k5.1]) (by rw [k5.1])
    have q1 := n3.2.2.1
    have q2 := b4.2.2.1
    have q3 := a4.2.2.1
    have q4 := h4.2.2.1
    have q5 := i4.2.2.1
    have q6 := k4.2.2.1
    unfold Pc
    rw [p2.1, k5.1, e10b, n503]
    rw [p1.1] at e8
    rw [t3503] at d6 ⊢
    omega
  · have p1 := pot_cg (t := t) (t' := t6) (N := N) (nums _ (by omega) (by omega)) (nums _ (by omega) (by omega)) (nums _ (by omega) (by omega))
    have p2 := pot_cg (t := t7) (t' := t9) (N := N + 1) (by rw [k5.1]) (by rw [k5.1]) (by rw [k5.1])
    have q1 := n3.2.2.2
    have q2 := b4.2.2.2
    have q3 := a4.2.2.2
    have q4 := h4.2.2.2
    have q5 := i4.2.2.2
    have q6 := k4.2.2.2
    unfold Ps
    rw [p2.2, k5.1, e10b, n503]
    rw [p1.2] at e9
    rw [t3503] at d7 ⊢
    omega
  · intro z
    rw [k5.2 157 1 (by omega), ← rows 157 1 (by omega) (by omega)] at z
    have ne := e12 z
    rw [← k5.1] at ne
    obtain ⟨⟨_, _, ⟨_, n, _, _, _, by1, by2⟩, _⟩, _⟩ := k3
    have := by2 ne
    exact ⟨by1 3 (by omega), by1 4 (by omega)⟩
