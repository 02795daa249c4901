/-! the bus: stations hear the line -/
theorem cup_cup (s : CS) (a : Nat) (c d : lCell) : cup (cup s a c) a d = cup s a d := by
  unfold cup; rw [lUpdU]
theorem cup_same {s : CS} {a : Nat} {c : lCell} (h : s.1 a = some c) : cup s a c = s := by
  unfold cup
  refine Prod.ext ?_ rfl
  funext q
  show lUpd s.1 a c q = s.1 q
  rw [lUpd_at]
  by_cases e : q = a
  · rw [if_pos e, e, h]
  · rw [if_neg e]
theorem cup_at (s : CS) (a : Nat) (c : lCell) (q : Nat) : (cup s a c).1 q = if q = a then some c else s.1 q := rfl
theorem bus_hearA {own : Nat → Nat} {s : CS} {t : TS} {N Ne Nd M k : Nat} (hw : wfS s) (hk : k < 8) (r : R6x (rs s.1 own 6) t N Ne Nd M) : ∃ s1 t1,
    (if t.2.2.1 150 k = (-1) then some s else Option.bind (α := Int32) (xI s [(46, 7)] (127 + 3 * k)) (fun x2 => Option.bind (α := CS) (xP s [(46, 7)] (127 + 3 * k) (.int (x2 + 1))) (fun s3 => Option.bind (α := Int32) (xI s3 [(46, 7)] (127 + 3 * k)) (fun x4 => Option.bind (α := Int32) ((if x4 = 11 then some (-1) else Option.bind (α := Int32) (xI s3 [(46, 6)] (127 + 3 * k)) (fun x5 => some x5))) (fun v19 => Option.bind (α := CS) (xP s3 [(46, 6)] (127 + 3 * k) (.int v19)) (fun s6 => some s6)))))) = some s1 ∧
    (if t.2.2.1 150 k < 0 then some t else Option.bind (α := Int32) (rdI t 151 8 (Int32.ofNat k)) (fun x2 => Option.bind (α := TS) (stI t 151 8 (Int32.ofNat k) (x2 + 1)) (fun s3 => Option.bind (α := Int32) (rdI s3 151 8 (Int32.ofNat k)) (fun x4 => Option.bind (α := Int32) ((if x4 = 11 then some (-1) else Option.bind (α := Int32) (rdI s3 150 8 (Int32.ofNat k)) (fun x5 => some x5))) (fun v28 => Option.bind (α := TS) (stI s3 150 8 (Int32.ofNat k) v28) (fun s6 => some s6)))))) = some t1 ∧
    R6x (rs s1.1 own 6) t1 N Ne Nd M ∧ BS own own 0 0 s t s1 t1 ∧ (∀ c j, c ≠ 150 → c ≠ 151 → t1.2.2.1 c j = t.2.2.1 c j) ∧ t1.1 = t.1 := by
  obtain ⟨z0, z1, z2, z3, z4, z5, z6, z7, z8, z9⟩ := bus_f r hk
  have r1' := r
  obtain ⟨_, _, _, n1, ti, bi, m, _, _, rr⟩ := r1'
  have rk := rr k hk
  have ng := st_neg rk
  obtain ⟨s1', s2', s3', s4', s5', s6', s7', s8', s9', s10', s11', s12'⟩ := rk
  have hc := (rs_in s1').1
  have m8 : 8 < 2147483648 := by omega
  by_cases e : t.2.2.1 150 k = -1
  · exact ⟨s, t, by rw [if_pos e], by rw [if_pos (ng.2.2.mpr e)], r, BS.rf hw, fun _ _ _ _ => rfl, rfl⟩
  · rcases s11' with q | ⟨q, p, hp, q2⟩
    · exact absurd q e
    · have n0 : ¬ t.2.2.1 150 k < 0 := fun z => e (ng.2.2.mp z)
      have hv : ∃ v, (v = -1 ∨ (v = t.2.2.1 150 k ∧ p + 1 < 11)) ∧ (if Int32.ofNat (p + 1) = 11 then some (-1 : Int32) else some (t.2.2.1 150 k)) = some v := by
        by_cases h : p + 1 = 11
        · exact ⟨-1, Or.inl rfl, by rw [if_pos ((i_eqL (by omega) (by omega)).mpr h)]⟩
        · exact ⟨_, Or.inr ⟨rfl, by omega⟩, by rw [if_neg (fun z => h ((i_eqL (by omega) (by omega)).mp z))]⟩
      obtain ⟨v, hv, ve⟩ := hv
      obtain ⟨r', bs'⟩ := st_bs (t' := wrI (wrI t 151 k (Int32.ofNat (p + 1))) 150 k v) hw hk r (fun c j q => by rw [wr_at, if_neg (fun z => q ⟨by unfold sRow; omega, z.2⟩), wr_at, if_neg (fun z => q ⟨by unfold sRow; omega, z.2⟩)]) rfl rfl rfl (by
        rintro n' m' _ _ _ ⟨u1, u2, u3, u4, u5, u6⟩
        refine ⟨by rw [wr_ne (by omega), wr_ne (by omega)]; exact u1, by rw [wr_ne (by omega), wr_ne (by omega)]; exact u2, by rw [wr_ne (by omega), wr_ne (by omega)]; exact u3, by rw [wr_ne (by omega), wr_ne (by omega)]; exact u4, ?_, hdO_cg u6 (by rw [wr_ne (by omega), wr_ne (by omega)]) (by rw [wr_ne (by omega), wr_ne (by omega)]) (fun j _ => by unfold tl; rw [wr_ne (by omega), wr_ne (by omega)])⟩
        rw [wr_s, wr_ne (by omega), wr_s]
        rcases hv with h | ⟨h, h2⟩
        · exact Or.inl h
        · exact Or.inr ⟨by rw [h]; exact q, p + 1, h2, rfl⟩)
      refine ⟨_, _, ?_, ?_, r', bs', fun c j h1 h2 => by rw [wr_ne h1, wr_ne h2], rfl⟩
      · rw [if_neg e, z7, Option.bind_some, q2, i_suc]
        have e1 : xP s [(46, 7)] (127 + 3 * k) (.int (Int32.ofNat (p + 1))) = some (cup s (127 + 3 * k) (sC (wrI t 151 k (Int32.ofNat (p + 1))) k)) := by simp [xP, hc, sC, lLook, wr_at]
        rw [e1, Option.bind_some]
        have e2 : xI (cup s (127 + 3 * k) (sC (wrI t 151 k (Int32.ofNat (p + 1))) k)) [(46, 7)] (127 + 3 * k) = some (Int32.ofNat (p + 1)) := by simp only [xI, xV, cup, lUpd_at, if_true, sC, lLook, Option.bind_some, List.getElem?_cons_succ, List.getElem?_cons_zero, toI, wr_s]
        have e3 : xI (cup s (127 + 3 * k) (sC (wrI t 151 k (Int32.ofNat (p + 1))) k)) [(46, 6)] (127 + 3 * k) = some (t.2.2.1 150 k) := by simp [xI, xV, cup, lUpd_at, sC, lLook, toI, wr_at]
        simp only [e2, e3, Option.bind_some]
        rw [ve, Option.bind_some]
        simp [xP, cup, lUpd_at, lUpdU, sC, lLook, wr_at]
      · rw [if_neg n0]
        simp only [rdI_n hk m8, q2, Option.bind_some, i_suc, stI_n hk m8, wr_s, wr_ne (show (150 : Nat) ≠ 151 by omega)]
        rw [ve, Option.bind_some]
theorem bus_hears {own : Nat → Nat} {s : CS} {t : TS} {N Ne Nd M k l : Nat} (hw : wfS s) (hk : k < 8) (r : R6x (rs s.1 own 6) t N Ne Nd M) (hl : l = 0 ∨ l = 1) (hline : t.2.2.1 141 M = Int32.ofNat l) :
    ∃ s' t', c_481 (127 + 3 * k) (Int32.ofNat l) (t.1 500) s = some s' ∧ t_838 (Int32.ofNat k) t = some t' ∧ R6x (rs s'.1 own 6) t' N Ne Nd M ∧ BS own own 0 0 s t s' t' ∧ t'.1 = t.1 ∧ t'.2.2.1 141 M = Int32.ofNat l := by
  obtain ⟨_, _, _, _, _, _, z6, _⟩ := bus_f r hk
  obtain ⟨s1, t1, c1, d1, r1, bs1, rw1, nu1⟩ := bus_hearA hw hk r
  unfold c_481 t_838
  have m8 : 8 < 2147483648 := by omega
  have z150 : rdI t 150 8 (Int32.ofNat k) = some (t.2.2.1 150 k) := rdI_n hk m8
  simp only [z6, z150, Option.bind_some]
  rw [c1, d1, Option.bind_some, Option.bind_some]
  obtain ⟨z0, z1, z2, z3, z4, z5, -, z7, z8, z9⟩ := bus_f r1 hk
  have r1' := r1
  obtain ⟨g, ee, dd, n1, ti, bi, m, i1, i2, rr⟩ := r1'
  have rk := rr k hk
  have ng := st_neg rk
  obtain ⟨s1', s2', s3', s4', s5', s6', s7', s8', s9', s10', s11', s12'⟩ := rk
  have hc := rs_in s1'
  have h2 := (rs_in s2').1
  have hw1 := bs1.wf
  have hone : t1.2.2.1 141 M = Int32.ofNat l := by rw [rw1 141 _ (by omega) (by omega), hline]
  obtain ⟨_, _, _, _, g500, gM, _⟩ := g
  have z148 : rdI t1 148 8 (Int32.ofNat k) = some (t1.2.2.1 148 k) := rdI_n hk m8
  simp only [z4, z148, Option.bind_some]
  by_cases e4 : t1.2.2.1 148 k = -1
  · exact ⟨s1, t1, by rw [if_pos e4], by rw [if_pos (ng.1.mpr e4)], r1, bs1, nu1, hone⟩
  · rcases s9' with q | ⟨p, q, q1, q2⟩
    · exact absurd q e4
    · have rt0 := s6' 0 q1
      have hp : p < 2147483648 := by have := rt0.2.2.2.2.1; omega
      have nn : ¬ t1.2.2.1 148 k < 0 := fun z => e4 (ng.1.mp z)
      have h3 := rs_in rt0.1
      have h5 := rs_in rt0.2.1
      have k93 : isK s1 [93] (ti k 0) = true := by simp [isK, kdo, h3.1]
      have cb := c_tb (s := s1) (fun q c h => (rs_in h).1) rt0 q2
      have tbb := t_tb hk rt0 q2
      rw [if_neg e4, if_neg nn]
      simp only [z3, z9, if_true, adFirst_r h2 q1, Option.bind_some, toN, k93, q, cb, tbb]
      have one : rdI t1 141 180001 (t1.1 500) = some (Int32.ofNat l) := by rw [g500, rdI_n (by omega) (by omega), hone]
      simp only [one, Option.bind_some]
      by_cases stop : tb t1 k p = 1 ∧ l = 0
      · -- it stops
        obtain ⟨b1, b2⟩ := stop
        subst b2
        obtain ⟨r', bs'⟩ := st_bs (t' := wrI (wrI t1 148 k (-1)) 154 k (t1.2.2.1 154 k + 1)) hw1 hk r1 (fun c j q => by rw [wr_at, if_neg (fun z => q ⟨by unfold sRow; omega, z.2⟩), wr_at, if_neg (fun z => q ⟨by unfold sRow; omega, z.2⟩)]) rfl rfl rfl (by
          rintro n' m' _ _ _ ⟨u1, u2, u3, u4, u5, u6⟩
          refine ⟨by rw [wr_ne (by omega), wr_ne (by omega)]; exact u1, by rw [wr_ne (by omega), wr_ne (by omega)]; exact u2, Or.inl (by rw [wr_ne (by omega), wr_s]), by rw [wr_ne (by omega), wr_ne (by omega)]; exact u4, ?_, fun hn => by rw [wr_ne (by omega), wr_ne (by omega)]; exact u6.1 hn, fun j w1 w2 => u6.2.1 j w1 w2, Or.inl (by rw [wr_ne (by omega), wr_s])⟩
          rw [wr_ne (by omega), wr_ne (by omega), wr_ne (by omega), wr_ne (by omega)]
          exact u5)
        refine ⟨_, _, ?_, ?_, r', bs1.tr0 bs', nu1, by rw [wr_ne (by omega), wr_ne (by omega)]; exact hone⟩
        · rw [b1]
          have e1 : xP s1 [(46, 4)] (127 + 3 * k) (.int (-1)) = some (cup s1 (127 + 3 * k) (sC (wrI t1 148 k (-1)) k)) := by simp [xP, hc.1, sC, lLook, wr_at]
          have e2 : xI (cup s1 (127 + 3 * k) (sC (wrI t1 148 k (-1)) k)) [(46, 10)] (127 + 3 * k) = some (t1.2.2.1 154 k) := by simp [xI, xV, cup, lUpd_at, sC, lLook, toI, wr_at]
          have e3 : xP (cup s1 (127 + 3 * k) (sC (wrI t1 148 k (-1)) k)) [(46, 10)] (127 + 3 * k) (.int (t1.2.2.1 154 k + 1)) = some (cup s1 (127 + 3 * k) (sC (wrI (wrI t1 148 k (-1)) 154 k (t1.2.2.1 154 k + 1)) k)) := by simp [xP, cup, lUpd_at, lUpdU, sC, lLook, wr_at]
          simp only [show Int32.ofNat 1 = 1 from rfl, show Int32.ofNat 0 = 0 from rfl, if_true, e1, e2, e3, Option.bind_some, Sum.elim_inr]
        · rw [b1]
          simp only [show Int32.ofNat 1 = 1 from rfl, show Int32.ofNat 0 = 0 from rfl, show ¬ (1 : Int32) = 0 by decide, if_false, if_true, stI_n hk m8, rdI_n hk m8, Option.bind_some, Sum.elim_inr, wr_ne (show (154 : Nat) ≠ 148 by omega)]
      · -- it goes on
        have cgo : (if Int32.ofNat (tb t1 k p) = 1 then (if Int32.ofNat l = 0 then Option.bind (α := CS) (xP s1 [(46, 4)] (127 + 3 * k) (.int (-1))) (fun s13 => Option.bind (α := Int32) (xI s13 [(46, 10)] (127 + 3 * k)) (fun x14 => Option.bind (α := CS) (xP s13 [(46, 10)] (127 + 3 * k) (.int (x14 + 1))) (fun s15 => some (Sum.inr s15)))) else some (Sum.inl ())) else some (Sum.inl ())) = (some (Sum.inl ()) : Option (Unit ⊕ CS)) := by
          rcases tb_2 t1 k p with b1 | b1
          · rw [b1]; rfl
          · rcases hl with rfl | rfl
            · exact absurd ⟨b1, rfl⟩ stop
            · rw [b1]; rfl
        have tgo : (if Int32.ofNat (tb t1 k p) = 0 then some (Sum.inl ()) else (if Int32.ofNat l = 0 then Option.bind (α := TS) (stI t1 148 8 (Int32.ofNat k) (-1)) (fun s11 => Option.bind (α := Int32) (rdI s11 154 8 (Int32.ofNat k)) (fun x12 => Option.bind (α := TS) (stI s11 154 8 (Int32.ofNat k) (x12 + 1)) (fun s13 => some (Sum.inr s13)))) else some (Sum.inl ()))) = (some (Sum.inl ()) : Option (Unit ⊕ TS)) := by
          rcases tb_2 t1 k p with b1 | b1
          · rw [b1]; rfl
          · rcases hl with rfl | rfl
            · exact absurd ⟨b1, rfl⟩ stop
            · rw [b1]; rfl
        rw [cgo, tgo]
        simp only [Option.bind_some, Sum.elim_inl, i_suc]
        have e1 : xP s1 [(46, 4)] (127 + 3 * k) (.int (Int32.ofNat (p + 1))) = some (cup s1 (127 + 3 * k) (sC (wrI t1 148 k (Int32.ofNat (p + 1))) k)) := by simp [xP, hc.1, sC, lLook, wr_at]
        have tne : ti k 0 ≠ 127 + 3 * k := by have := rt0.2.2.2.2.2.2.1; omega
        have bne : bi k 0 ≠ 127 + 3 * k := by have := rt0.2.2.2.2.2.2.2; omega
        have e3 : (cup s1 (127 + 3 * k) (sC (wrI t1 148 k (Int32.ofNat (p + 1))) k)).1 (ti k 0) = some (true, false, 93, [.int (tl t1 k 0 22), .ref (bi k 0), .int (tl t1 k 0 23)]) := by simp only [cup, lUpd_at, if_neg tne, h3.1]
        have e5 : (cup s1 (127 + 3 * k) (sC (wrI t1 148 k (Int32.ofNat (p + 1))) k)).1 (bi k 0) = some (true, true, 0, rowC (fun i => .int (tl t1 k 0 i)) (m k 0)) := by simp only [cup, lUpd_at, if_neg bne, h5.1]
        have k93' : isK (cup s1 (127 + 3 * k) (sC (wrI t1 148 k (Int32.ofNat (p + 1))) k)) [93] (ti k 0) = true := by simp only [isK, kdo, e3]; decide
        have m13 : m k 0 ≤ 21 ∧ 8 ≤ m k 0 := ⟨rt0.2.2.2.2.1, rt0.2.2.2.1⟩
        have sz : c_1065 (ti k 0) (cup s1 (127 + 3 * k) (sC (wrI t1 148 k (Int32.ofNat (p + 1))) k)) = some (Int32.ofNat (13 * m k 0 - 2)) := by
          unfold c_1065
          have a1 : xN (cup s1 (127 + 3 * k) (sC (wrI t1 148 k (Int32.ofNat (p + 1))) k)) [(93, 1)] (ti k 0) = some (bi k 0) := by simp only [xN, xV, e3, lLook, if_true, Option.bind_some, List.getElem?_cons_succ, List.getElem?_cons_zero, toP]
          rw [a1, Option.bind_some, aLen_r e5 (by omega), Option.bind_some, i_mulL, i_subL (a := 2) (by show 2 ≤ 13 * m k 0; omega)]
        have t21 : (wrI t1 148 k (Int32.ofNat (p + 1))).2.2.1 147 (144 * k + 21) = Int32.ofNat (m k 0) := by
          rw [wr_ne (by omega), show 144 * k + 21 = 24 * (6 * k + 0) + 21 by omega]
          exact rt0.2.2.1
        simp only [e1, Option.bind_some, k93', if_true, sz, stI_n hk m8, rdI_n hk m8, wr_s, i_mulL, i_addL, rdI_n (show 144 * k + 21 < 1152 by omega) (show 1152 < 2147483648 by omega), t21, i_subL (show 2 ≤ 13 * m k 0 by omega)]
        by_cases fin : p + 1 = 13 * m k 0 - 2
        · have fin' : Int32.ofNat (p + 1) = Int32.ofNat (13 * m k 0 - 2) := by rw [fin]
          rw [if_pos fin', if_pos fin']
          have e6 : xP (cup s1 (127 + 3 * k) (sC (wrI t1 148 k (Int32.ofNat (p + 1))) k)) [(46, 4)] (127 + 3 * k) (.int (-1)) = some (cup s1 (127 + 3 * k) (sC (wrI t1 148 k (-1)) k)) := by simp [xP, cup, lUpd_at, lUpdU, sC, lLook, wr_at]
          have f3 : (cup s1 (127 + 3 * k) (sC (wrI t1 148 k (-1)) k)).1 (ti k 0) = some (true, false, 93, [.int (tl t1 k 0 22), .ref (bi k 0), .int (tl t1 k 0 23)]) := by simp only [cup, lUpd_at, if_neg tne, h3.1]
          have f5 : (cup s1 (127 + 3 * k) (sC (wrI t1 148 k (-1)) k)).1 (bi k 0) = some (true, true, 0, rowC (fun i => .int (tl t1 k 0 i)) (m k 0)) := by simp only [cup, lUpd_at, if_neg bne, h5.1]
          have k93'' : isK (cup s1 (127 + 3 * k) (sC (wrI t1 148 k (-1)) k)) [93] (ti k 0) = true := by simp only [isK, kdo, f3]; decide
          have tb1 : ti k 0 ≠ bi k 0 := fun q => by have q1 := h3.1; rw [q, h5.1] at q1; cases q1
          -- said once more
          have ag : ∃ F : Nat → Int32, c_1066 (ti k 0) (cup s1 (127 + 3 * k) (sC (wrI t1 148 k (-1)) k)) = some (cup (cup (cup s1 (127 + 3 * k) (sC (wrI t1 148 k (-1)) k)) (bi k 0) (true, true, 0, rowC (fun i => .int (F i)) (m k 0))) (ti k 0) (true, false, 93, [.int (tl t1 k 0 22), .ref (bi k 0), .int (tl t1 k 0 23 + 1)])) ∧ (∀ i, i < m k 0 → byt (F i)) ∧
              ∃ t3, (Option.bind (α := TS) (if tl t1 k 0 23 = 0 then Option.bind (α := Int32) (some (tl t1 k 0 0)) (fun x21 => Option.bind (α := TS) (stI (wrI (wrI (wrI t1 148 k (Int32.ofNat (p + 1))) 148 k (-1)) 149 k (t1.1 500 + 28)) 147 1152 (Int32.ofNat (144 * k)) (x21 - 32)) (fun s22 => Option.bind (α := TS) (t_826 (Int32.ofNat (144 * k)) s22) (fun x23 => some x23))) else some (wrI (wrI (wrI t1 148 k (Int32.ofNat (p + 1))) 148 k (-1)) 149 k (t1.1 500 + 28))) (fun v121 => Option.bind (α := Int32) (rdI v121 147 1152 (Int32.ofNat (144 * k + 23))) (fun x24 => Option.bind (α := TS) (stI v121 147 1152 (Int32.ofNat (144 * k + 23)) (x24 + 1)) (fun s25 => some s25)))) = some t3 ∧ t3.1 = t1.1 ∧ t3.2.1 = t1.2.1 ∧ t3.2.2.2 = t1.2.2.2 ∧ (∀ c j, c ≠ 147 → t3.2.2.1 c j = (wrI (wrI t1 148 k (-1)) 149 k (t1.1 500 + 28)).2.2.1 c j) ∧ (∀ i, i < m k 0 → t3.2.2.1 147 (144 * k + i) = F i) ∧ t3.2.2.1 147 (144 * k + 23) = tl t1 k 0 23 + 1 ∧ (∀ q, (q < 144 * k ∨ 144 * k + m k 0 ≤ q) → q ≠ 144 * k + 23 → t3.2.2.1 147 q = t1.2.2.1 147 q) := by
            have a2 : ∀ S : CS, S.1 (ti k 0) = some (true, false, 93, [.int (tl t1 k 0 22), .ref (bi k 0), .int (tl t1 k 0 23)]) → xI S [(93, 2)] (ti k 0) = some (tl t1 k 0 23) ∧ xR S [(93, 1)] (ti k 0) = some (some (bi k 0)) ∧ xP S [(93, 2)] (ti k 0) (.int (tl t1 k 0 23 + 1)) = some (cup S (ti k 0) (true, false, 93, [.int (tl t1 k 0 22), .ref (bi k 0), .int (tl t1 k 0 23 + 1)])) ∧ isK S [93] (ti k 0) = true := by
              intro S hS
              refine ⟨?_, ?_, ?_, ?_⟩ <;> simp [xI, xR, xP, xV, hS, lLook, toI, toO, isK, kdo]
            have T23 : ∀ v, tl t1 k 0 v = t1.2.2.1 147 (144 * k + v) := fun v => by unfold tl; rw [show 24 * (6 * k + 0) + v = 144 * k + v by omega]
            have m11 : 1152 < 2147483648 := by omega
            by_cases sd : tl t1 k 0 23 = 0
            · -- the first time
              let G : Nat → Int32 := fun i => if i = 0 then tl t1 k 0 0 - 32 else tl t1 k 0 i
              have hG : ∀ i, i < m k 0 → byt (G i) := by
                intro i hi
                by_cases i0 : i = 0
                · have := rt0.2.2.2.2.2.1 0 (by omega)
                  obtain ⟨⟨b, hb, hb1⟩, hb2⟩ := this
                  have hb3 := hb2 rfl sd
                  rw [hb1, i_bN (by omega)] at hb3
                  refine ⟨b - 32, by omega, ?_⟩
                  simp only [G, if_pos i0, hb1]
                  exact i_subL (a := 32) hb3
                · simp only [G, if_neg i0]
                  exact (rt0.2.2.2.2.2.1 i hi).1
              let S0 := cup s1 (127 + 3 * k) (sC (wrI t1 148 k (-1)) k)
              have p1 : aPut S0 0 (bi k 0) 0 (.int (tl t1 k 0 0 - 32)) = some (cup S0 (bi k 0) (true, true, 0, rowC (fun i => .int (G i)) (m k 0))) := by
                rw [show (0 : Int32) = Int32.ofNat 0 from rfl, aPut_r f5 (by omega) (by omega)]
                congr 6
                funext i
                show (if i = 0 then Value.int (tl t1 k 0 0 - 32) else Value.int (tl t1 k 0 i)) = .int (if i = 0 then tl t1 k 0 0 - 32 else tl t1 k 0 i)
                split <;> rfl
              have q3 : (cup S0 (bi k 0) (true, true, 0, rowC (fun i => .int (G i)) (m k 0))).1 (ti k 0) = some (true, false, 93, [.int (tl t1 k 0 22), .ref (bi k 0), .int (tl t1 k 0 23)]) := by rw [cup_at, if_neg tb1]; exact f3
              have q5 : (cup S0 (bi k 0) (true, true, 0, rowC (fun i => .int (G i)) (m k 0))).1 (bi k 0) = some (true, true, 0, rowC (fun i => .int (G i)) (m k 0)) := by rw [cup_at, if_pos rfl]
              have cl := c_close q3 q5 (by omega) (by omega)
              rw [cup_cup] at cl
              have q6 : (cup S0 (bi k 0) (true, true, 0, rowC (fun j => if j = m k 0 - 1 then Value.int (xr G (m k 0 - 1)) else .int (G j)) (m k 0))).1 (ti k 0) = some (true, false, 93, [.int (tl t1 k 0 22), .ref (bi k 0), .int (tl t1 k 0 23)]) := by rw [cup_at, if_neg tb1]; exact f3
              refine ⟨fun j => if j = m k 0 - 1 then xr G (m k 0 - 1) else G j, ?_, ?_, ?_⟩
              · unfold c_1066
                simp only [(a2 _ f3).1, (a2 _ f3).2.1, Option.bind_some, if_pos sd, show ∀ q, aI S0 [0, 12] (bi k 0) q = aI S0 [0, 12] (bi k 0) q from fun _ => rfl]
                have ai : aI S0 [0, 12] (bi k 0) 0 = some (tl t1 k 0 0) := aI_r (k := 0) f5 (by omega) (by decide) (by omega) (by omega) rfl
                rw [ai, Option.bind_some, p1, Option.bind_some, if_pos (a2 _ q3).2.2.2, cl, Option.bind_some, Option.bind_some, (a2 _ q6).1, Option.bind_some, (a2 _ q6).2.2.1, Option.bind_some]
                congr 7
                funext i
                split <;> rfl
              · intro i hi
                by_cases e : i = m k 0 - 1
                · simp only [if_pos e]; exact xr_byt (fun j hj => hG j (by omega))
                · simp only [if_neg e]; exact hG i hi
              · let T0 := wrI (wrI (wrI t1 148 k (Int32.ofNat (p + 1))) 148 k (-1)) 149 k (t1.1 500 + 28)
                have T7 : ∀ q, T0.2.2.1 147 q = t1.2.2.1 147 q := fun q => by simp only [T0, wr_ne (show (147 : Nat) ≠ 148 by omega), wr_ne (show (147 : Nat) ≠ 149 by omega)]
                have X : xr (fun i => (wrI T0 147 (144 * k) (tl t1 k 0 0 - 32)).2.2.1 147 (144 * k + i)) (m k 0 - 1) = xr G (m k 0 - 1) := by
                  refine xr_cg (fun i _ => ?_)
                  simp only [wr_at, G, T7, T23]
                  by_cases i0 : i = 0
                  · simp [i0]
                  · simp [i0]
                have ck := t_check (t := wrI T0 147 (144 * k) (tl t1 k 0 0 - 32)) (B := 144 * k) (m := m k 0) (by omega) (by rw [wr_nk (by omega), T7, ← T23]; exact rt0.2.2.1) (by omega) (by omega)
                rw [X] at ck
                refine ⟨wrI (wrI (wrI T0 147 (144 * k) (tl t1 k 0 0 - 32)) 147 (144 * k + (m k 0 - 1)) (xr G (m k 0 - 1))) 147 (144 * k + 23) (tl t1 k 0 23 + 1), ?_, rfl, rfl, rfl, ?_, ?_, ?_, ?_⟩
                · rw [if_pos sd, Option.bind_some, stI_n (show 144 * k < 1152 by omega) m11, Option.bind_some, ck, Option.bind_some, Option.bind_some, rdI_n (show 144 * k + 23 < 1152 by omega) m11, Option.bind_some, stI_n (show 144 * k + 23 < 1152 by omega) m11, Option.bind_some]
                  rw [wr_nk (show 144 * k + 23 ≠ 144 * k + (m k 0 - 1) by omega), wr_nk (show 144 * k + 23 ≠ 144 * k by omega), T7, ← T23]
                · intro c j hc7
                  rw [wr_ne hc7, wr_ne hc7, wr_ne hc7]
                  simp only [T0, wr_at]
                  repeat' split
                  all_goals first | rfl | omega
                · intro i hi
                  rw [wr_nk (show 144 * k + i ≠ 144 * k + 23 by omega)]
                  show _ = (if i = m k 0 - 1 then xr G (m k 0 - 1) else G i)
                  by_cases e : i = m k 0 - 1
                  · rw [if_pos e, e, wr_s]
                  · rw [if_neg e, wr_nk (by omega)]
                    by_cases i0 : i = 0
                    · subst i0; simp [G, wr_at]
                    · rw [wr_nk (by omega), T7, ← T23]; simp only [G, if_neg i0]
                · rw [wr_s]
                · intro q hq hq2
                  rw [wr_nk hq2, wr_nk (by omega), wr_nk (by omega), T7]
            · refine ⟨fun i => tl t1 k 0 i, ?_, fun i hi => (rt0.2.2.2.2.2.1 i hi).1, wrI (wrI (wrI (wrI t1 148 k (Int32.ofNat (p + 1))) 148 k (-1)) 149 k (t1.1 500 + 28)) 147 (144 * k + 23) (tl t1 k 0 23 + 1), ?_, rfl, rfl, rfl, ?_, ?_, ?_, ?_⟩
              · unfold c_1066
                simp only [(a2 _ f3).1, Option.bind_some, if_neg sd, (a2 _ f3).2.2.1]
                rw [cup_same f5]
              · rw [if_neg sd, Option.bind_some, rdI_n (show 144 * k + 23 < 1152 by omega) m11, Option.bind_some, stI_n (show 144 * k + 23 < 1152 by omega) m11, Option.bind_some]
                rw [wr_ne (show (147 : Nat) ≠ 149 by omega), wr_ne (show (147 : Nat) ≠ 148 by omega), wr_ne (show (147 : Nat) ≠ 148 by omega), ← T23]
              · intro c j hc7
                rw [wr_ne hc7]
                simp only [wr_at]
                repeat' split
                all_goals first | rfl | omega
              · intro i hi
                rw [wr_nk (show 144 * k + i ≠ 144 * k + 23 by omega), wr_ne (show (147 : Nat) ≠ 149 by omega), wr_ne (show (147 : Nat) ≠ 148 by omega), wr_ne (show (147 : Nat) ≠ 148 by omega), ← T23]
              · rw [wr_s]
              · intro q hq hq2
                rw [wr_nk hq2, wr_ne (show (147 : Nat) ≠ 149 by omega), wr_ne (show (147 : Nat) ≠ 148 by omega), wr_ne (show (147 : Nat) ≠ 148 by omega)]
          obtain ⟨F, ag1, ag2, t3, ag3, n3, l3, ll3, ro3, by3, sd3, ot3⟩ := ag
          have T23 : ∀ v, tl t1 k 0 v = t1.2.2.1 147 (144 * k + v) := fun v => by unfold tl; rw [show 24 * (6 * k + 0) + v = 144 * k + v by omega]
          have U23 : ∀ v, tl t3 k 0 v = t3.2.2.1 147 (144 * k + v) := fun v => by unfold tl; rw [show 24 * (6 * k + 0) + v = 144 * k + v by omega]
          let C1 : lCell := (true, true, 0, rowC (fun i => .int (F i)) (m k 0))
          let C2 : lCell := (true, false, 93, [.int (tl t1 k 0 22), .ref (bi k 0), .int (tl t1 k 0 23 + 1)])
          have r3 : ∀ c, c ≠ 147 → c ≠ 148 → c ≠ 149 → ∀ j, t3.2.2.1 c j = t1.2.2.1 c j := fun c q1 q2 q3 j => by rw [ro3 c j q1, wr_ne q3, wr_ne q2]
          have sc : xP (cup (cup (cup s1 (127 + 3 * k) (sC (wrI t1 148 k (-1)) k)) (bi k 0) C1) (ti k 0) C2) [(46, 5)] (127 + 3 * k) (.int (t1.1 500 + 28)) = some (cup (cup (cup (cup s1 (127 + 3 * k) (sC (wrI t1 148 k (-1)) k)) (bi k 0) C1) (ti k 0) C2) (127 + 3 * k) (sC t3 k)) := by
            have : (cup (cup (cup s1 (127 + 3 * k) (sC (wrI t1 148 k (-1)) k)) (bi k 0) C1) (ti k 0) C2).1 (127 + 3 * k) = some (sC (wrI t1 148 k (-1)) k) := by
              rw [cup_at, if_neg (fun q => tne q.symm), cup_at, if_neg (fun q => bne q.symm), cup_at, if_pos rfl]
            unfold xP
            rw [this]
            simp only [sC, lLook, if_true, Option.bind_some, List.length_cons, List.length_nil]
            rw [if_pos (by omega)]
            simp only [List.set_cons_succ, List.set_cons_zero, r3 143 (by omega) (by omega) (by omega), r3 145 (by omega) (by omega) (by omega), r3 150 (by omega) (by omega) (by omega), r3 151 (by omega) (by omega) (by omega), r3 152 (by omega) (by omega) (by omega), r3 153 (by omega) (by omega) (by omega), r3 154 (by omega) (by omega) (by omega), ro3 148 k (by omega), ro3 149 k (by omega), wr_s, wr_ne (show (148 : Nat) ≠ 149 by omega), wr_ne (show (143 : Nat) ≠ 148 by omega), wr_ne (show (145 : Nat) ≠ 148 by omega), wr_ne (show (150 : Nat) ≠ 148 by omega), wr_ne (show (151 : Nat) ≠ 148 by omega), wr_ne (show (152 : Nat) ≠ 148 by omega), wr_ne (show (153 : Nat) ≠ 148 by omega), wr_ne (show (154 : Nat) ≠ 148 by omega)]
          have obi : own (bi k 0) = 6 := h5.2
          have oti : own (ti k 0) = 6 := h3.2
          have ost : own (127 + 3 * k) = 6 := hc.2
          have fr : BS own own 0 0 s1 t1 (cup (cup (cup (cup s1 (127 + 3 * k) (sC (wrI t1 148 k (-1)) k)) (bi k 0) C1) (ti k 0) C2) (127 + 3 * k) (sC t3 k)) t3 := by
            refine ⟨?_, ?_, Nat.le_refl _, Nat.le_refl _⟩
            · have f1 := frm_cup (X := fun X => X = 6) (own := own) (c := sC (wrI t1 148 k (-1)) k) hw1 (wf_lt hw1 hc.1) ost
              have f2 := frm_cup (X := fun X => X = 6) (own := own) (c := C1) (a := bi k 0) f1.2.2.2.2 (show bi k 0 < s1.2.1 from wf_lt hw1 h5.1) obi
              have f3' := frm_cup (X := fun X => X = 6) (own := own) (c := C2) (a := ti k 0) f2.2.2.2.2 (show ti k 0 < s1.2.1 from wf_lt hw1 h3.1) oti
              have f4 := frm_cup (X := fun X => X = 6) (own := own) (c := sC t3 k) (a := 127 + 3 * k) f3'.2.2.2.2 (show 127 + 3 * k < s1.2.1 from wf_lt hw1 hc.1) ost
              exact ((f1.trans f2).trans f3').trans f4
            · intro Z hZ
              unfold rt
              rw [n3, l3, ll3]
              refine Prod.ext rfl (Prod.ext rfl (Prod.ext ?_ rfl))
              funext c j
              by_cases hz : mR c = Z
              · simp only [if_pos hz]
                have : c ≠ 147 ∧ c ≠ 148 ∧ c ≠ 149 := by
                  refine ⟨fun q => hZ ?_, fun q => hZ ?_, fun q => hZ ?_⟩ <;> (rw [← hz, q]; rfl)
                exact r3 c this.1 this.2.1 this.2.2 j
              · simp only [if_neg hz]
          have ne2 : ∀ q, q ≠ 127 + 3 * k → q ≠ bi k 0 → q ≠ ti k 0 → rs (cup (cup (cup (cup s1 (127 + 3 * k) (sC (wrI t1 148 k (-1)) k)) (bi k 0) C1) (ti k 0) C2) (127 + 3 * k) (sC t3 k)).1 own 6 q = rs s1.1 own 6 q := by
            intro q q1 q2 q3
            unfold rs
            by_cases qo : own q = 6
            · rw [if_pos qo, if_pos qo, cup_at, if_neg q1, cup_at, if_neg q3, cup_at, if_neg q2, cup_at, if_neg q1]
            · rw [if_neg qo, if_neg qo]
          have b179 : 179 ≤ bi k 0 ∧ 179 ≤ ti k 0 := ⟨rt0.2.2.2.2.2.2.2, rt0.2.2.2.2.2.2.1⟩
          have apart : ∀ k' j, k' < 8 → j < n1 k' → (k' ≠ k ∨ j ≠ 0) → ti k' j ≠ 127 + 3 * k ∧ ti k' j ≠ bi k 0 ∧ ti k' j ≠ ti k 0 ∧ bi k' j ≠ 127 + 3 * k ∧ bi k' j ≠ bi k 0 ∧ bi k' j ≠ ti k 0 := by
            intro k' j hk' hj hne
            have rj := (rr k' hk').2.2.2.2.2.1 j hj
            have z1 := (rs_in rj.1).1
            have z2 := (rs_in rj.2.1).1
            refine ⟨by have := rj.2.2.2.2.2.2.1; omega, fun q => ?_, fun q => ?_, by have := rj.2.2.2.2.2.2.2; omega, fun q => ?_, fun q => ?_⟩
            · rw [q, h5.1] at z1; cases z1
            · have := i1 k' j k 0 hk' hk hj q1 q; omega
            · have := i2 k' j k 0 hk' hk hj q1 q; omega
            · rw [q, h3.1] at z2; cases z2
          have R3 : R6x (rs (cup (cup (cup (cup s1 (127 + 3 * k) (sC (wrI t1 148 k (-1)) k)) (bi k 0) C1) (ti k 0) C2) (127 + 3 * k) (sC t3 k)).1 own 6) t3 N Ne Nd M := by
            refine R6_k (k := k) (n := n1) (ti := ti) (bi := bi) (m := m) (h := rs s1.1 own 6) (t := t1) r1.1 ee dd i1 i2 hk (fun k' hk' _ => rr k' hk') (fun c j hcj => r3 c (by omega) (by omega) (by omega) j) n3 (fun c k' q1 q2 q3 q7 hkk => ?_) (fun j => r3 144 (by omega) (by omega) (by omega) j) (fun q hq => ot3 q (by omega) (by omega)) (fun q hq => ne2 q (by omega) (by omega) (by omega)) (fun k' hk8 hkk => ⟨ne2 _ (by omega) (by omega) (by omega), ne2 _ (by omega) (by omega) (by omega), ne2 _ (by omega) (by omega) (by omega)⟩) (fun k' j hk' hkk hj => ?_) ?_
            · by_cases c8 : c = 148
              · subst c8; rw [ro3 148 _ (by omega), wr_ne (by omega), wr_nk hkk]
              · by_cases c9 : c = 149
                · subst c9; rw [ro3 149 _ (by omega), wr_nk hkk, wr_ne (by omega)]
                · exact r3 c q7 c8 c9 k'
            · have := apart k' j hk' hj (Or.inl hkk)
              exact ⟨ne2 _ this.1 this.2.1 this.2.2.1, ne2 _ this.2.2.2.1 this.2.2.2.2.1 this.2.2.2.2.2⟩
            · refine ⟨?_, ?_, by rw [r3 146 (by omega) (by omega) (by omega)]; exact s3', s4', ?_, fun j hj => ?_, ?_⟩
              · unfold rs; rw [if_pos ost, cup_at, if_pos rfl]
              · rw [ne2 _ (by omega) (by omega) (by omega)]; exact s2'
              · obtain ⟨xs, x1, x2⟩ := s5'
                exact ⟨xs, by rw [ne2 _ (by omega) (by omega) (by omega)]; exact x1, fun g hg => by rw [r3 144 (by omega) (by omega) (by omega)]; exact x2 g hg⟩
              · by_cases j0 : j = 0
                · subst j0
                  refine ⟨?_, ?_, ?_, rt0.2.2.2.1, rt0.2.2.2.2.1, fun i hi => ?_, rt0.2.2.2.2.2.2⟩
                  · unfold rs; rw [if_pos oti, cup_at, if_neg tne, cup_at, if_pos rfl, U23, U23, sd3, ot3 (144 * k + 22) (by omega) (by omega), ← T23]
                  · unfold rs; rw [if_pos obi, cup_at, if_neg bne, cup_at, if_neg (fun q => tb1 q.symm), cup_at, if_pos rfl]
                    show some (true, true, 0, rowC (fun i => Value.int (F i)) (m k 0)) = _
                    rw [rowC_congr (f := fun i => Value.int (F i)) (g := fun i => Value.int (tl t3 k 0 i)) (fun i hi => by rw [U23, by3 i hi])]
                  · rw [U23, ot3 (144 * k + 21) (by omega) (by omega), ← T23]; exact rt0.2.2.1
                  · rw [U23, by3 i hi]
                    refine ⟨ag2 i hi, fun _ q => ?_⟩
                    exfalso
                    obtain ⟨sd, y1, y2, y3⟩ := s12'.1 q1
                    rw [U23, sd3, y1, i_suc] at q
                    have := (i_inj (j := sd + 1) (k := 0) (by omega) (by omega)).mp q
                    omega
                · have := apart k j hk hj (Or.inr j0)
                  refine R6t_cg (s6' j hj) (ne2 _ this.1 this.2.1 this.2.2.1) (ne2 _ this.2.2.2.1 this.2.2.2.2.1 this.2.2.2.2.2) (fun i hi => ?_)
                  unfold tl
                  have : j < 6 := by omega
                  exact ot3 _ (by omega) (by omega)
              · refine ⟨by rw [r3 145 (by omega) (by omega) (by omega)]; exact s7', by rw [r3 143 (by omega) (by omega) (by omega)]; exact s8', Or.inl (by rw [ro3 148 _ (by omega), wr_ne (by omega), wr_s]), Or.inr ⟨q1, M + 28, by omega, by rw [ro3 149 _ (by omega), wr_s, g500, i_addL]⟩, ?_⟩
                rw [r3 150 (by omega) (by omega) (by omega), r3 151 (by omega) (by omega) (by omega)]
                refine ⟨s11', fun hn => ?_, fun j w1 w2 => ?_, Or.inl (by rw [ro3 148 _ (by omega), wr_ne (by omega), wr_s])⟩
                · obtain ⟨sd, y1, y2, y3⟩ := s12'.1 q1
                  have y4 : t1.2.2.1 149 k = -1 := by
                    rcases s12'.2.2 with z | z
                    · exact absurd z e4
                    · exact z
                  refine ⟨sd + 1, by rw [U23, sd3, y1, i_suc], by have := y3 y4; omega, fun z => ?_⟩
                  rw [ro3 149 _ (by omega), wr_s, g500, i_addL] at z
                  exact absurd z (i_ne1 (by omega))
                · have := s12'.2.1 j w1 w2
                  rw [← this]
                  unfold tl
                  exact ot3 _ (by omega) (by omega)
          refine ⟨_, _, ?_, ?_, R3, bs1.tr0 fr, by rw [n3, nu1], by rw [r3 141 (by omega) (by omega) (by omega)]; exact hone⟩
          · simp only [e6, Option.bind_some, k93'', if_true, ag1]
            rw [← nu1]
            exact (congrArg (fun o => Option.bind o (fun s21 => some s21)) sc)
          · have hz : ∀ v, v < 24 → rdI (wrI (wrI (wrI t1 148 k (Int32.ofNat (p + 1))) 148 k (-1)) 149 k (t1.1 500 + 28)) 147 1152 (Int32.ofNat (144 * k + v)) = some (tl t1 k 0 v) := by
              intro v hv
              rw [rdI_n (by omega) (by omega), wr_ne (by omega), wr_ne (by omega), wr_ne (by omega), T23]
            have hz0 : rdI (wrI (wrI (wrI t1 148 k (Int32.ofNat (p + 1))) 148 k (-1)) 149 k (t1.1 500 + 28)) 147 1152 (Int32.ofNat (144 * k)) = some (tl t1 k 0 0) := hz 0 (by omega)
            simp only [stI_n hk m8, Option.bind_some, wr_1, hz 23 (by omega), hz0]
            simp only [Option.bind_some] at ag3
            exact ag3
        · have fin' : ¬ Int32.ofNat (p + 1) = Int32.ofNat (13 * m k 0 - 2) := fun z => fin ((i_inj (by omega) (by omega)).mp z)
          obtain ⟨r', bs'⟩ := st_bs (t' := wrI t1 148 k (Int32.ofNat (p + 1))) hw1 hk r1 (fun c j q => by rw [wr_at, if_neg (fun z => q ⟨by unfold sRow; omega, z.2⟩)]) rfl rfl rfl (by
            rintro n' m' w1 w2 w3 ⟨u1, u2, u3, u4, u5, u6⟩
            have hn : n' = n1 k := (i_inj (by omega) (by omega)).mp (w1.symm.trans s3')
            have hm := w3 (by omega)
            have hm2 : m' = m k 0 := (i_inj (by omega) (by omega)).mp (hm.2.2.symm.trans rt0.2.2.1)
            refine ⟨by rw [wr_ne (by omega)]; exact u1, by rw [wr_ne (by omega)]; exact u2, Or.inr ⟨p + 1, by rw [wr_s], by omega, by omega⟩, by rw [wr_ne (by omega)]; exact u4, ?_, fun hn => by rw [wr_ne (by omega)]; exact u6.1 hn, fun j w1 w2 => u6.2.1 j w1 w2, Or.inr ?_⟩
            · rw [wr_ne (by omega), wr_ne (by omega)]
              exact u5
            · rw [wr_ne (by omega)]
              rcases u6.2.2 with z | z
              · exact absurd z e4
              · exact z)
          refine ⟨_, _, by rw [if_neg fin'], by rw [if_neg fin'], r', bs1.tr0 bs', nu1, by rw [wr_ne (by omega)]; exact hone⟩
