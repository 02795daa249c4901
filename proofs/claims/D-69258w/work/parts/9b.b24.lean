/-! the bus: a second -/
theorem i_127 (x : Int32) : (127 : Int32) < x ↔ 127 < bN x := by
  rw [Int32.lt_iff_toInt_lt]
  show (127 : Int) < x.toInt ↔ 127 < x.toInt.toNat
  omega
theorem t_pt {t T : TS} (h : t.2.2.1 157 1 < T.2.2.1 157 1 → byt (T.2.2.1 156 3) ∧ byt (T.2.2.1 156 4)) (h136 : ∀ i, T.2.2.1 136 i = t.2.2.1 136 i) :
    ∃ T', (if t.2.2.1 157 1 < T.2.2.1 157 1 then Option.bind (α := Int32) (rdI T 156 14000 5) (fun x6 => (if 127 < x6 then (if 3 < ((256 * T.2.2.1 156 3) + T.2.2.1 156 4) then (if ((256 * T.2.2.1 156 3) + T.2.2.1 156 4) < 10 then Option.bind (α := Int32) (rdI T 156 14000 6) (fun x7 => Option.bind (α := TS) (stI T 136 10 ((256 * T.2.2.1 156 3) + T.2.2.1 156 4) x7) (fun s8 => some s8)) else some T) else some T) else some T)) else some T) = some T' ∧ T'.1 = T.1 ∧ T'.2.1 = T.2.1 ∧ T'.2.2.2 = T.2.2.2 ∧ (∀ c j, c ≠ 136 → T'.2.2.1 c j = T.2.2.1 c j) ∧ ∀ i, T'.2.2.1 136 i = pU t T (t.2.2.1 136) i := by
  by_cases q : t.2.2.1 157 1 < T.2.2.1 157 1
  · obtain ⟨y3, y4⟩ := h q
    have b3 := byt_N y3
    have b4 := byt_N y4
    generalize hA : 256 * bN (T.2.2.1 156 3) + bN (T.2.2.1 156 4) = A
    have eA : (256 * T.2.2.1 156 3) + T.2.2.1 156 4 = Int32.ofNat A := by
      rw [b3.1, b4.1, i_mulL, i_add]
      exact congrArg Int32.ofNat hA
    have lA : A < 65536 := by omega
    rw [if_pos q, rdI_0 (by decide) (by decide), Option.bind_some, eA]
    by_cases q5 : 127 < bN (T.2.2.1 156 5)
    · rw [if_pos ((i_127 _).mpr q5)]
      by_cases q3 : 3 < A
      · rw [if_pos (show (3 : Int32) < Int32.ofNat A from (i_lt (j := 3) (k := A) (by omega) (by omega)).mpr q3)]
        by_cases q10 : A < 10
        · rw [if_pos (show Int32.ofNat A < 10 from (i_lt (j := A) (k := 10) (by omega) (by omega)).mpr q10), rdI_0 (by decide) (by decide), Option.bind_some, stI_n q10 (by omega), Option.bind_some]
          refine ⟨_, rfl, rfl, rfl, rfl, fun c j hc => wr_ne hc j, fun i => ?_⟩
          unfold pU
          rw [hA, wr_at]
          by_cases e : i = A
          · rw [if_pos ⟨rfl, e⟩, if_pos ⟨q, q5, by omega, q10, e⟩]
          · rw [if_neg (fun z => e z.2), if_neg (fun z => e z.2.2.2.2)]; exact h136 i
        · rw [if_neg (show ¬ Int32.ofNat A < 10 from fun z => q10 ((i_lt (j := A) (k := 10) (by omega) (by omega)).mp z))]
          refine ⟨_, rfl, rfl, rfl, rfl, fun _ _ _ => rfl, fun i => ?_⟩
          unfold pU
          rw [hA, if_neg (fun z => q10 z.2.2.2.1)]; exact h136 i
      · rw [if_neg (show ¬ (3 : Int32) < Int32.ofNat A from fun z => q3 ((i_lt (j := 3) (k := A) (by omega) (by omega)).mp z))]
        refine ⟨_, rfl, rfl, rfl, rfl, fun _ _ _ => rfl, fun i => ?_⟩
        unfold pU
        rw [hA, if_neg (fun z => q3 (by have := z.2.2.1; omega))]; exact h136 i
    · rw [if_neg (fun z => q5 ((i_127 _).mp z))]
      refine ⟨_, rfl, rfl, rfl, rfl, fun _ _ _ => rfl, fun i => ?_⟩
      unfold pU
      rw [if_neg (fun z => q5 z.2.1)]; exact h136 i
  · rw [if_neg q]
    refine ⟨_, rfl, rfl, rfl, rfl, fun _ _ _ => rfl, fun i => ?_⟩
    unfold pU
    rw [if_neg (fun z => q z.1)]; exact h136 i
theorem bus_second {own : Nat → Nat} {s : CS} {t : TS} {N : Nat} (hw : wfS s) (r : R6 (rs s.1 own 6) t N) (hN : N + 30 ≤ 180000) (o118 : own 118 = 10) (hpr : xN s [(100, 4)] 115 = some 118) (o115 : own 115 ≠ 6 ∧ own 115 ≠ 10) (h115 : 115 < s.2.1) (hp : s.1 118 = some (true, true, 0, rowC (fun i => .int (t.2.2.1 136 i)) 10)) :
    ∃ s' t', c_1143 120 s = some s' ∧ t_668 t = some t' ∧ R6 (rs s'.1 own 6) t' (N + 30) ∧ Frm (fun X => X = 6 ∨ X = 10) own own s s' ∧ (∀ Z, Z ≠ 6 → Z ≠ 10 → rt t' Z = rt t Z) ∧ (∀ c j, mR c = 10 → c ≠ 136 → t'.2.2.1 c j = t.2.2.1 c j) ∧ s'.1 118 = some (true, true, 0, rowC (fun i => .int (t'.2.2.1 136 i)) 10) ∧ s'.2.2.1 + Pc t' (N + 30) ≤ s.2.2.1 + Pc t N + 30 ∧ s'.2.2.2 + Ps t' (N + 30) ≤ s.2.2.2 + Ps t N + 120 := by
  have lp := wh_two (f := fun p2 : CS × Int32 => (if p2.2 < 30 then (if isK p2.1 [122] 120 = true then Option.bind (α := CS) (c_1144 120 p2.1) (fun x1 => some (Sum.inl (β := CS) (x1, p2.2 + 1))) else none) else some (.inr p2.1)))
    (g := fun p2 : TS × Int32 => (if p2.2 < 30 then Option.bind (α := Int32) (rdI p2.1 157 5 1) (fun x1 => Option.bind (α := TS) (t_830 p2.1) (fun x2 => Option.bind (α := Int32) (rdI x2 156 14000 3) (fun x3 => Option.bind (α := Int32) (rdI x2 156 14000 4) (fun x4 => Option.bind (α := Int32) (rdI x2 157 5 1) (fun x5 => Option.bind (α := TS) ((if x1 < x5 then Option.bind (α := Int32) (rdI x2 156 14000 5) (fun x6 => (if 127 < x6 then (if 3 < ((256 * x3) + x4) then (if ((256 * x3) + x4) < 10 then Option.bind (α := Int32) (rdI x2 156 14000 6) (fun x7 => Option.bind (α := TS) (stI x2 136 10 ((256 * x3) + x4) x7) (fun s8 => some s8)) else some x2) else some x2) else some x2)) else some x2)) (fun v58 => some (Sum.inl (β := TS) (v58, p2.2 + 1)))))))) else some (.inr p2.1)))
    (Q := fun s' t' => R6 (rs s'.1 own 6) t' (N + 30) ∧ Frm (fun X => X = 6 ∨ X = 10) own own s s' ∧ (∀ Z, Z ≠ 6 → Z ≠ 10 → rt t' Z = rt t Z) ∧ (∀ c j, mR c = 10 → c ≠ 136 → t'.2.2.1 c j = t.2.2.1 c j) ∧ s'.1 118 = some (true, true, 0, rowC (fun i => .int (t'.2.2.1 136 i)) 10) ∧ s'.2.2.1 + Pc t' (N + 30) ≤ s.2.2.1 + Pc t N + 30 ∧ s'.2.2.2 + Ps t' (N + 30) ≤ s.2.2.2 + Ps t N + 120) 30
    (fun k (a : CS × Int32) (b : TS × Int32) => a.2 = Int32.ofNat k ∧ b.2 = Int32.ofNat k ∧ R6 (rs a.1.1 own 6) b.1 (N + k) ∧ Frm (fun X => X = 6 ∨ X = 10) own own s a.1 ∧ (∀ Z, Z ≠ 6 → Z ≠ 10 → rt b.1 Z = rt t Z) ∧ (∀ c j, mR c = 10 → c ≠ 136 → b.1.2.2.1 c j = t.2.2.1 c j) ∧ a.1.1 118 = some (true, true, 0, rowC (fun i => .int (b.1.2.2.1 136 i)) 10) ∧ a.1.2.2.1 + Pc b.1 (N + k) ≤ s.2.2.1 + Pc t N + k ∧ a.1.2.2.2 + Ps b.1 (N + k) ≤ s.2.2.2 + Ps t N + 4 * k)
    (a := (s, 0)) (b := (t, 0)) ?_ ?_ ⟨rfl, rfl, r, Frm.refl hw, fun _ _ _ => rfl, fun _ _ _ _ => rfl, hp, Nat.le_refl _, Nat.le_refl _⟩
  · obtain ⟨s', t', e1, e2, e3⟩ := lp
    exact ⟨s', t', by unfold c_1143; rw [e1]; rfl, by unfold t_668; rw [e2]; rfl, e3⟩
  · rintro k ⟨s1, _⟩ ⟨t1, _⟩ hk ⟨e1, e2, e3, e4, e5, e5b, e6, e7, e8⟩
    obtain rfl : _ = Int32.ofNat k := e1
    obtain rfl : _ = Int32.ofNat k := e2
    have e3' : R6 (rs s1.1 own 6) t1 (N + k) := e3
    have lt : Int32.ofNat k < 30 := (i_lt (j := k) (k := 30) (by omega) (by omega)).mpr hk
    have u := (bus_g e3').2.2.2.2.2.2.2.2.2
    obtain ⟨s2, t2, f1, f2, f3, f4, f5, f6, f7, f8⟩ := bus_tick e4.2.2.2.2 e3' (by omega) o118 (by rw [xN_cg (e4.2.2.1 115 h115 (fun z => z.elim o115.1 o115.2))]; exact hpr) o115 (Nat.lt_of_lt_of_le h115 e4.1) e6
    have h136 : ∀ i, t2.2.2.1 136 i = t1.2.2.1 136 i := fun i => by
      have z := f4.2 10 (by omega)
      rw [← rt_3 (t := t2) (X := 10) (c := 136) (k := i) rfl, z, rt_3 (t := t1) (X := 10) (c := 136) (k := i) rfl]
    obtain ⟨t3, g1, g2, g3, g4, g5, g6⟩ := t_pt f8 h136
    right
    refine ⟨(s2, Int32.ofNat k + 1), (t3, Int32.ofNat k + 1), ?_, ?_, i_suc k, i_suc k, ?_, e4.trans f4.1, ?_, ?_, ?_, ?_, ?_⟩
    · simp only [if_pos lt, if_pos u, f1, Option.bind_some]
    · dsimp only
      rw [if_pos lt, rdI_0 (by decide) (by decide), Option.bind_some, f2, Option.bind_some, rdI_0 (by decide) (by decide), Option.bind_some, rdI_0 (by decide) (by decide), Option.bind_some, rdI_0 (by decide) (by decide), Option.bind_some]
      erw [g1]
      rfl
    · exact R6_cg f3 (fun c j hc => g5 c j (fun z => by rw [z] at hc; cases hc)) (fun c _ _ => by rw [g2])
    · intro Z z1 z2
      rw [← e5 Z z1 z2, ← f4.2 Z z1]
      unfold rt
      rw [g2, g3, g4]
      refine Prod.ext rfl (Prod.ext rfl (Prod.ext ?_ rfl))
      funext c j
      by_cases hz : mR c = Z
      · simp only [if_pos hz]
        exact g5 c j (fun q => z2 (by rw [← hz, q]; rfl))
      · simp only [if_neg hz]
    · intro c j c1 c2
      have z := f4.2 10 (by omega)
      show t3.2.2.1 c j = _
      rw [g5 c j c2, ← rt_3 (t := t2) (X := 10) (c := c) (k := j) c1, z, rt_3 c1]
      exact e5b c j c1 c2
    · show s2.1 118 = _
      rw [f5, rowC_congr (f := fun i => Value.int (pU t1 t2 (t1.2.2.1 136) i)) (g := fun i => .int (t3.2.2.1 136 i)) (fun i _ => by rw [g6 i])]
    · have p := pot_cg (t := t2) (t' := t3) (N := N + k + 1) (by rw [g2]) (by rw [g2]) (by rw [g2])
      have : Pc t3 (N + (k + 1)) = Pc t2 (N + k + 1) := by unfold Pc; rw [show N + (k + 1) = N + k + 1 by omega, p.1, g2]
      show s2.2.2.1 + Pc t3 (N + (k + 1)) ≤ _
      have e7' : s1.2.2.1 + Pc t1 (N + k) ≤ s.2.2.1 + Pc t N + k := e7
      have f6' : s2.2.2.1 + Pc t2 (N + k + 1) ≤ s1.2.2.1 + Pc t1 (N + k) + 1 := f6
      omega
    · have p := pot_cg (t := t2) (t' := t3) (N := N + k + 1) (by rw [g2]) (by rw [g2]) (by rw [g2])
      have : Ps t3 (N + (k + 1)) = Ps t2 (N + k + 1) := by unfold Ps; rw [show N + (k + 1) = N + k + 1 by omega, p.2, g2]
      show s2.2.2.2 + Ps t3 (N + (k + 1)) ≤ _
      have e8' : s1.2.2.2 + Ps t1 (N + k) ≤ s.2.2.2 + Ps t N + 4 * k := e8
      have f7' : s2.2.2.2 + Ps t2 (N + k + 1) ≤ s1.2.2.2 + Ps t1 (N + k) + 4 := f7
      omega
  · rintro ⟨s1, _⟩ ⟨t1, _⟩ ⟨e1, e2, e3, e4, e5, e5b, e6, e7, e8⟩
    obtain rfl : _ = Int32.ofNat 30 := e1
    obtain rfl : _ = Int32.ofNat 30 := e2
    exact ⟨s1, t1, if_neg (show ¬ (Int32.ofNat 30 < 30) by decide), if_neg (show ¬ (Int32.ofNat 30 < 30) by decide), e3, e4, e5, e5b, e6, e7, e8⟩
