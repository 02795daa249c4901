/-! the bus: answers -/
theorem bus_g {own : Nat → Nat} {s : CS} {t : TS} {N Ne Nd M : Nat} (r : R6x (rs s.1 own 6) t N Ne Nd M) : xN s [(122, 0)] 120 = some 121 ∧ isK s [13] 121 = true ∧ xN s [(122, 3)] 120 = some 125 ∧ isK s [13] 125 = true ∧ xI s [(122, 5)] 120 = some (t.1 523) ∧ xI s [(122, 6)] 120 = some (if t.1 524 = 0 then -1 else t.1 524) ∧ xI s [(122, 7)] 120 = some (t.1 525) ∧ xI s [(122, 8)] 120 = some (t.1 526) ∧ xI s [(122, 9)] 120 = some (t.1 500) ∧ isK s [122] 120 = true := by
  obtain ⟨⟨⟨d, _, g1⟩, ⟨mc, g2⟩, ⟨mc3, n3, g3, _⟩, _⟩, _⟩ := r
  have h1 := (rs_in g1).1
  have h2 := (rs_in g2).1
  have h3 := (rs_in g3).1
  refine ⟨?_, ?_, ?_, ?_, ?_, ?_, ?_, ?_, ?_, ?_⟩ <;> simp [xN, xI, xV, h1, lLook, toP, toI, isK, kdo, h2, h3]
theorem bus_k {own : Nat → Nat} {s : CS} {t : TS} {N Ne Nd M k : Nat} (r : R6x (rs s.1 own 6) t N Ne Nd M) (hk : k < 8) : alGet s 121 (Int32.ofNat k) = some (.ref (127 + 3 * k)) ∧ toN s [46] (.ref (127 + 3 * k)) = some (127 + 3 * k) ∧ isK s [46] (127 + 3 * k) = true := by
  obtain ⟨⟨_, ⟨mc, g2⟩, _⟩, _, _, n, ti, bi, m, _, _, rr⟩ := r
  have h2 := (rs_in g2).1
  have h3 := (rs_in (rr k hk).1).1
  have k46 : isK s [46] (127 + 3 * k) = true := by simp [isK, kdo, h3, sC]
  exact ⟨alGet_r h2 hk (by omega), by simp [toN, k46], k46⟩
/-- of a station: its fields -/
theorem bus_f {own : Nat → Nat} {s : CS} {t : TS} {N Ne Nd M k : Nat} (r : R6x (rs s.1 own 6) t N Ne Nd M) (hk : k < 8) : xI s [(46, 0)] (127 + 3 * k) = some (t.2.2.1 143 k) ∧ xN s [(46, 1)] (127 + 3 * k) = some (128 + 3 * k) ∧ xI s [(46, 2)] (127 + 3 * k) = some (t.2.2.1 145 k) ∧ xN s [(46, 3)] (127 + 3 * k) = some (129 + 3 * k) ∧ xI s [(46, 4)] (127 + 3 * k) = some (t.2.2.1 148 k) ∧ xI s [(46, 5)] (127 + 3 * k) = some (t.2.2.1 149 k) ∧ xI s [(46, 6)] (127 + 3 * k) = some (t.2.2.1 150 k) ∧ xI s [(46, 7)] (127 + 3 * k) = some (t.2.2.1 151 k) ∧ isK s [3] (128 + 3 * k) = true ∧ isK s [4] (129 + 3 * k) = true := by
  obtain ⟨_, _, _, n, ti, bi, m, _, _, rr⟩ := r
  obtain ⟨s1, s2, s3, s4, ⟨xs, s5, _⟩, _⟩ := rr k hk
  have h1 := (rs_in s1).1
  have h2 := (rs_in s2).1
  have h5 := (rs_in s5).1
  refine ⟨?_, ?_, ?_, ?_, ?_, ?_, ?_, ?_, ?_, ?_⟩ <;> simp [xN, xI, xV, h1, sC, lLook, toP, toI, isK, kdo, h2, h5]
theorem bus_answers {own : Nat → Nat} {s : CS} {t : TS} {N Ne Nd M : Nat} (hw : wfS s) (r : R6x (rs s.1 own 6) t N Ne Nd M) :
    ∃ s' t', c_1145 120 s = some s' ∧ t_833 t = some t' ∧ R6x (rs s'.1 own 6) t' N Ne Nd M ∧ BS own own 0 0 s t s' t' := by
  obtain ⟨f0, f1, f2, f3, f4, f5, f6, f7, f8, f9⟩ := bus_g r
  have r2 := r
  obtain ⟨⟨_, _, ⟨mc, n, g3, g3a, g3b, g3c, g3d⟩, _, g500, gM, _, _, _, ⟨e, ge1, ge2⟩, _⟩, _⟩ := r2
  have h3 := (rs_in g3).1
  unfold c_1145 t_833
  simp only [f5, f8, f6, Option.bind_some]
  by_cases e0 : t.1 524 = 0
  · exact ⟨s, t, by simp [e0], by simp [e0], r, BS.rf hw⟩
  · have em : ¬ t.1 524 = -1 := by rw [ge2]; exact i_ne1 (by omega)
    simp only [if_neg e0, if_neg em]
    by_cases e1 : t.1 500 = t.1 524 + 14
    · by_cases e2 : t.1 525 = 0
      · have n8 := g3d e0
        obtain ⟨b3, hb3, q3⟩ := g3c 3 (by omega)
        obtain ⟨b4, hb4, q4⟩ := g3c 4 (by omega)
        obtain ⟨b5, hb5, q5⟩ := g3c 5 (by omega)
        have l3 : alGet s 125 3 = some (.int (Int32.ofNat b3)) := by rw [← q3]; exact alGet_r (k := 3) h3 (by omega) (by omega)
        have l4 : alGet s 125 4 = some (.int (Int32.ofNat b4)) := by rw [← q4]; exact alGet_r (k := 4) h3 (by omega) (by omega)
        have l5 : alGet s 125 5 = some (.int (Int32.ofNat b5)) := by rw [← q5]; exact alGet_r (k := 5) h3 (by omega) (by omega)
        have d3 : rdI t 156 14000 3 = some (Int32.ofNat b3) := by rw [← q3]; exact rdI_n (n := 3) (by omega) (by omega)
        have d4 : rdI t 156 14000 4 = some (Int32.ofNat b4) := by rw [← q4]; exact rdI_n (n := 4) (by omega) (by omega)
        have aim1 : (Int32.ofNat b3 <<< ((8 : Int32) &&& 31)) ||| Int32.ofNat b4 = Int32.ofNat (256 * b3 + b4) := by
          rw [show ((8 : Int32) &&& 31) = Int32.ofNat 8 from rfl, i_shl (by omega), i_or]
          have := Nat.shiftLeft_add_eq_or_of_lt (i := 8) (b := b4) (by omega) b3
          rw [Nat.shiftLeft_eq] at this
          rw [← this]
          congr 1
          omega
        have gr : (if (127 : Int32) < Int32.ofNat b5 then some (1 : Int32) else some 0) = some (if 127 < b5 then 1 else 0) := by
          by_cases q : 127 < b5
          · rw [if_pos ((i_Llt (by omega) (by omega)).mpr q), if_pos q]
          · rw [if_neg (fun z => q ((i_Llt (by omega) (by omega)).mp z)), if_neg q]
        simp only [if_pos e1, if_pos e2, f2, f3, l3, l4, l5, d3, d4, toB, Option.bind_some, if_true, aim1, gr, i_mulL, i_add]
        -- station by station
        have lp := wh_two (f := fun p45 : CS × Int32 => (if p45.2 < 8 then Option.bind (α := Nat) (xN p45.1 [(122, 0)] 120) (fun a14 => (if isK p45.1 [13] a14 = true then Option.bind (α := Value) (alGet p45.1 a14 p45.2) (fun e15 => Option.bind (α := Nat) (toN p45.1 [46] e15) (fun a16 => (if isK p45.1 [46] a16 = true then Option.bind (α := Int32) (c_478 a16 (Int32.ofNat (256 * b3 + b4)) (if 127 < b5 then 1 else 0) p45.1) (fun x17 => Option.bind (α := CS) ((if x17 = 0 then some p45.1 else Option.bind (α := Int32) (xI p45.1 [(122, 5)] 120) (fun x18 => Option.bind (α := Int32) ((if x18 = 0 then some 12 else Option.bind (α := Int32) (xI p45.1 [(46, 2)] a16) (fun x19 => (if x19 = 0 then some 204 else some 192)))) (fun v71 => (if isK p45.1 [46] a16 = true then Option.bind (α := CS) (c_479 a16 v71 p45.1) (fun x20 => some x20) else none))))) (fun v72 => some (Sum.inl (β := CS) (v72, p45.2 + 1)))) else none))) else none)) else some (.inr p45.1)))
          (g := fun p28 : TS × Int32 => (if p28.2 < 8 then Option.bind (α := Int32) (rdI p28.1 156 14000 5) (fun x3 => Option.bind (α := Int32) ((if x3 < 128 then Option.bind (α := Int32) (rdI p28.1 143 8 p28.2) (fun x5 => (if Int32.ofNat (256 * b3 + b4) = x5 then some 1 else some 0)) else (if Int32.ofNat (256 * b3 + b4) < 256 then Option.bind (α := Int32) (rdI p28.1 144 2048 ((256 * p28.2) + (Int32.ofNat (256 * b3 + b4) - Int32.ofNat (256 * b3 + b4) / (256 : Int32) * (256 : Int32)))) (fun x4 => (if x4 = 0 then some 0 else some 1)) else some 0))) (fun v64 => Option.bind (α := TS) ((if v64 = 0 then some p28.1 else Option.bind (α := Int32) (rdI p28.1 148 8 p28.2) (fun x6 => (if x6 < 0 then Option.bind (α := Int32) (rdI p28.1 149 8 p28.2) (fun x7 => (if x7 < 0 then Option.bind (α := Int32) ((if (p28.1.1 523) = 0 then some 12 else Option.bind (α := Int32) (rdI p28.1 145 8 p28.2) (fun x8 => (if x8 = 0 then some 204 else some 192)))) (fun v93 => Option.bind (α := TS) (stI p28.1 150 8 p28.2 v93) (fun s9 => Option.bind (α := TS) (stI s9 151 8 p28.2 0) (fun s10 => some s10))) else some p28.1)) else some p28.1)))) (fun v99 => some (Sum.inl (β := TS) (v99, p28.2 + 1))))) else some (.inr p28.1)))
          (Q := fun s' t' => R6x (rs s'.1 own 6) t' N Ne Nd M ∧ BS own own 0 0 s t s' t') 8
          (fun k a b => ∃ s1 t1, a = (s1, Int32.ofNat k) ∧ b = (t1, Int32.ofNat k) ∧ R6x (rs s1.1 own 6) t1 N Ne Nd M ∧ BS own own 0 0 s t s1 t1 ∧ t1.2.2.1 156 5 = Int32.ofNat b5) ?_ ?_ (a := (s, 0)) (b := (t, 0)) ⟨s, t, rfl, rfl, r, BS.rf hw, q5⟩
        · obtain ⟨s', t', l1, l2, l3, l4⟩ := lp
          exact ⟨s', t', by rw [l1]; rfl, by rw [l2]; rfl, l3, l4⟩
        · rintro k _ _ hk ⟨s1, t1, rfl, rfl, r1, bs, w5⟩
          refine Or.inr ?_
          obtain ⟨x0, x1, x2, x3, x4, x5, x6, x7, x8, x9⟩ := bus_g r1
          obtain ⟨y1, y2, y3⟩ := bus_k r1 hk
          obtain ⟨z0, z1, z2, z3, z4, z5, z6, z7, z8, z9⟩ := bus_f r1 hk
          have r1' := r1
          obtain ⟨_, _, _, n1, ti, bi, m, _, _, rr⟩ := r1'
          have rk := rr k hk
          have ng := st_neg rk
          obtain ⟨s1', s2', s3', s4', ⟨xs, s5', s5''⟩, s6', s7', ⟨ad, had, s8'⟩, s9', s10', s11'⟩ := rk
          have hx := (rs_in s5').1
          have hc := (rs_in s1').1
          have l8 : (Int32.ofNat k < 8) = True := eq_true ((i_ltL (by omega) (by omega)).mpr hk)
          have d5 : rdI t1 156 14000 5 = some (Int32.ofNat b5) := by rw [← w5]; exact rdI_n (n := 5) (by omega) (by omega)
          have b128 : (Int32.ofNat b5 < 128) = (b5 < 128) := propext (i_ltL (by omega) (by omega))
          have m8 : 8 < 2147483648 := by omega
          have am : (Int32.ofNat (256 * b3 + b4) < 256) = (256 * b3 + b4 < 256) := propext (i_ltL (by omega) (by omega))
          have am2 : Int32.ofNat (256 * b3 + b4) - Int32.ofNat (256 * b3 + b4) / (256 : Int32) * (256 : Int32) = Int32.ofNat b4 := by
            rw [i_modL (by omega) (by omega)]
            congr 1
            show (256 * b3 + b4) % 256 = b4
            omega
          -- who is meant
          let mt : Bool := if b5 < 128 then decide (Int32.ofNat (256 * b3 + b4) = t1.2.2.1 143 k) else decide (256 * b3 + b4 < 256) && bit xs b4
          have cm : c_478 (127 + 3 * k) (Int32.ofNat (256 * b3 + b4)) (if 127 < b5 then 1 else 0) s1 = some (if t1.2.2.1 148 k = -1 ∧ t1.2.2.1 149 k = -1 ∧ mt = true then 1 else 0) := by
            unfold c_478
            simp only [z0, z1, z4, z5, z8, Option.bind_some, if_true]
            by_cases u1 : t1.2.2.1 148 k = -1
            · by_cases u2 : t1.2.2.1 149 k = -1
              · by_cases u3 : b5 < 128
                · simp [u1, u2, u3, mt, show ¬ 127 < b5 by omega]
                  split <;> rfl
                · by_cases u4 : 256 * b3 + b4 < 256
                  · have hb : b3 = 0 := by omega
                    subst hb
                    simp only [Nat.mul_zero, Nat.zero_add] at *
                    simp only [u1, u2, if_true, if_pos (show 127 < b5 by omega), show ¬ (1 : Int32) = 0 by decide, if_false, am, if_pos u4, bsGet_r hx (show b4 < 2147483648 by omega), Option.bind_some, mt, if_neg u3]
                    cases hbit : bit xs b4 <;> simp [u4]
                  · simp only [u1, u2, if_true, if_pos (show 127 < b5 by omega), show ¬ (1 : Int32) = 0 by decide, if_false, am, if_neg u4, mt, if_neg u3]
                    simp [u4]
              · simp [u1, u2]
            · simp [u1]
          have tm : (if Int32.ofNat b5 < 128 then Option.bind (α := Int32) (rdI t1 143 8 (Int32.ofNat k)) (fun x5 => (if Int32.ofNat (256 * b3 + b4) = x5 then some (1 : Int32) else some 0)) else (if Int32.ofNat (256 * b3 + b4) < 256 then Option.bind (α := Int32) (rdI t1 144 2048 ((256 * Int32.ofNat k) + (Int32.ofNat (256 * b3 + b4) - Int32.ofNat (256 * b3 + b4) / (256 : Int32) * (256 : Int32)))) (fun x4 => (if x4 = 0 then some 0 else some 1)) else some 0)) = some (if mt = true then 1 else 0) := by
            simp only [am2, b128, am, i_mulL, i_add, rdI_n hk m8, rdI_n (show 256 * k + b4 < 2048 by omega) (show 2048 < 2147483648 by omega), Option.bind_some, s5'' b4 hb4]
            by_cases u3 : b5 < 128
            · simp [u3, mt]
              split <;> rfl
            · by_cases u4 : 256 * b3 + b4 < 256
              · simp only [u3, u4, mt, if_false, if_true]
                cases bit xs b4 <;> simp
              · simp [u3, u4, mt]
          by_cases al : t1.2.2.1 148 k = -1 ∧ t1.2.2.1 149 k = -1 ∧ mt = true
          · -- it answers
            obtain ⟨a1, a2, a3⟩ := al
            have vv : ∃ v, byt v ∧ (if t1.1 523 = 0 then some (12 : Int32) else (if t1.2.2.1 145 k = 0 then some 204 else some 192)) = some v := by
              by_cases q1 : t1.1 523 = 0
              · exact ⟨12, ⟨12, by omega, rfl⟩, by simp [q1]⟩
              · by_cases q2 : t1.2.2.1 145 k = 0
                · exact ⟨204, ⟨204, by omega, rfl⟩, by simp [q1, q2]⟩
                · exact ⟨192, ⟨192, by omega, rfl⟩, by simp [q1, q2]⟩
            obtain ⟨v, hv, ve⟩ := vv
            obtain ⟨r', bs'⟩ := st_bs (t' := wrI (wrI t1 150 k v) 151 k 0) bs.wf hk r1 (fun c j q => by rw [wr_at, if_neg (fun z => q ⟨by unfold sRow; omega, z.2⟩), wr_at, if_neg (fun z => q ⟨by unfold sRow; omega, z.2⟩)]) rfl rfl rfl (by
              rintro n' m' q1 q2 q3 ⟨u1, u2, u3, u4, u5, u6⟩
              refine ⟨by rw [wr_ne (by omega), wr_ne (by omega)]; exact u1, by rw [wr_ne (by omega), wr_ne (by omega)]; exact u2, by rw [wr_ne (by omega), wr_ne (by omega)]; exact u3, by rw [wr_ne (by omega), wr_ne (by omega)]; exact u4, Or.inr ⟨by rw [wr_ne (by omega), wr_s]; exact hv, 0, by omega, by rw [wr_s]; rfl⟩, hdO_cg u6 (by rw [wr_ne (by omega), wr_ne (by omega)]) (by rw [wr_ne (by omega), wr_ne (by omega)]) (fun j _ => by unfold tl; rw [wr_ne (by omega), wr_ne (by omega)])⟩)
            refine ⟨_, _, ?_, ?_, _, _, rfl, rfl, r', bs.tr0 bs', by rw [wr_ne (by omega), wr_ne (by omega)]; exact w5⟩
            · have cm' := cm.trans (congrArg some (if_pos ⟨a1, a2, a3⟩))
              simp only [l8, if_true, x0, x1, y1, y2, y3, Option.bind_some, cm', x4, z2, show ¬ (1 : Int32) = 0 by decide, if_false]
              rw [ve, Option.bind_some, i_suc]
              unfold c_479
              simp [xP, hc, sC, lLook, cup, lUpd_at, lUpdU, wr_at]
            · simp only [l8, if_true, d5, Option.bind_some]
              rw [tm]
              simp only [Option.bind_some, a3, if_true, show ¬ (1 : Int32) = 0 by decide, if_false, rdI_n hk m8, if_pos (ng.1.mpr a1), if_pos (ng.2.1.mpr a2)]
              rw [ve, Option.bind_some, stI_n hk m8, Option.bind_some, stI_n hk m8, Option.bind_some, Option.bind_some, i_suc]
          · refine ⟨(s1, Int32.ofNat (k + 1)), (t1, Int32.ofNat (k + 1)), ?_, ?_, s1, t1, rfl, rfl, r1, bs, w5⟩
            · have cm' := cm.trans (congrArg some (if_neg al))
              simp only [l8, if_true, x0, x1, y1, y2, y3, Option.bind_some, cm', i_suc]
            · simp only [l8, if_true, d5, Option.bind_some]
              rw [tm]
              simp only [Option.bind_some]
              by_cases u3 : mt = true
              · by_cases u1 : t1.2.2.1 148 k = -1
                · have u2 : ¬ t1.2.2.1 149 k = -1 := fun q => al ⟨u1, q, u3⟩
                  simp only [u3, if_true, show ¬ (1 : Int32) = 0 by decide, if_false, rdI_n hk m8, Option.bind_some, if_pos (ng.1.mpr u1), if_neg (fun q => u2 (ng.2.1.mp q)), i_suc]
                · simp only [u3, if_true, show ¬ (1 : Int32) = 0 by decide, if_false, rdI_n hk m8, Option.bind_some, if_neg (fun q => u1 (ng.1.mp q)), i_suc]
              · simp only [if_neg u3, if_true, Option.bind_some, i_suc]
        · rintro _ _ ⟨s1, t1, rfl, rfl, r1, bs, _⟩
          exact ⟨s1, t1, rfl, rfl, r1, bs⟩
      · exact ⟨s, t, by simp [e1, e2], by simp [e1, e2], r, BS.rf hw⟩
    · exact ⟨s, t, by simp [e1], by simp [e1], r, BS.rf hw⟩
