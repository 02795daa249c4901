/-! the bus: stations look whether they were answered -/
theorem t_shift {t : TS} {k n : Nat} (hk : k < 8) (hn : n < 6) (h6 : t.2.2.1 146 k = Int32.ofNat n) : ∃ t', wh (S := TS × Int32) (X := TS) (fun p69 => Option.bind (α := Int32) (rdI p69.1 146 8 (Int32.ofNat k)) (fun x10 => (if p69.2 < ((Int32.ofNat (144 * k)) + (24 * x10)) then Option.bind (α := Int32) (rdI p69.1 147 1152 (p69.2 + 24)) (fun x11 => Option.bind (α := TS) (stI p69.1 147 1152 p69.2 x11) (fun s12 => some (.inl (s12, p69.2 + 1)))) else some (.inr p69.1)))) (t, Int32.ofNat (144 * k)) = some t' ∧ t'.1 = t.1 ∧ t'.2.1 = t.2.1 ∧ t'.2.2.2 = t.2.2.2 ∧ (∀ c j, c ≠ 147 → t'.2.2.1 c j = t.2.2.1 c j) ∧ ∀ q, t'.2.2.1 147 q = if 144 * k ≤ q ∧ q < 144 * k + 24 * n then t.2.2.1 147 (q + 24) else t.2.2.1 147 q := by
  refine wh_cnt (Q := fun t' : TS => t'.1 = t.1 ∧ t'.2.1 = t.2.1 ∧ t'.2.2.2 = t.2.2.2 ∧ (∀ c j, c ≠ 147 → t'.2.2.1 c j = t.2.2.1 c j) ∧ ∀ q, t'.2.2.1 147 q = if 144 * k ≤ q ∧ q < 144 * k + 24 * n then t.2.2.1 147 (q + 24) else t.2.2.1 147 q) (24 * n) (fun c a => ∃ u, a = (u, Int32.ofNat (144 * k + c)) ∧ u.1 = t.1 ∧ u.2.1 = t.2.1 ∧ u.2.2.2 = t.2.2.2 ∧ (∀ c j, c ≠ 147 → u.2.2.1 c j = t.2.2.1 c j) ∧ ∀ q, u.2.2.1 147 q = if 144 * k ≤ q ∧ q < 144 * k + c then t.2.2.1 147 (q + 24) else t.2.2.1 147 q) ?_ ?_ ⟨t, rfl, rfl, rfl, rfl, fun _ _ _ => rfl, fun q => by rw [if_neg (by omega)]⟩
  · rintro c _ hc ⟨u, rfl, u1, u2, u3, u4, u5⟩
    refine Or.inr ⟨_, ?_, wrI u 147 (144 * k + c) (t.2.2.1 147 (144 * k + c + 24)), rfl, u1, u2, u3, fun q j hq => by rw [wr_ne hq]; exact u4 q j hq, fun q => ?_⟩
    · have l : Int32.ofNat (144 * k + c) < Int32.ofNat (144 * k) + 24 * Int32.ofNat n := by rw [i_mulL, i_add]; exact (i_lt (by omega) (by omega)).mpr (by show 144 * k + c < 144 * k + 24 * n; omega)
      have e : u.2.2.1 147 (144 * k + c + 24) = t.2.2.1 147 (144 * k + c + 24) := by rw [u5, if_neg (by omega)]
      simp only [rdI_n hk (show 8 < 2147483648 by omega), u4 146 k (by omega), h6, Option.bind_some, if_pos l, i_addL, rdI_n (show 144 * k + c + 24 < 1152 by omega) (show 1152 < 2147483648 by omega), stI_n (show 144 * k + c < 1152 by omega) (show 1152 < 2147483648 by omega), e]
      rfl
    · rw [wr_at]
      by_cases e : q = 144 * k + c
      · subst e; rw [if_pos ⟨rfl, rfl⟩, if_pos (by omega)]
      · rw [if_neg (fun z => e z.2), u5]
        by_cases z : 144 * k ≤ q ∧ q < 144 * k + c
        · rw [if_pos z, if_pos (by omega)]
        · rw [if_neg z, if_neg (by omega)]
  · rintro _ ⟨u, rfl, u1, u2, u3, u4, u5⟩
    refine ⟨u, ?_, u1, u2, u3, u4, u5⟩
    have l : ¬ Int32.ofNat (144 * k + 24 * n) < Int32.ofNat (144 * k) + 24 * Int32.ofNat n := by rw [i_mulL, i_add]; exact fun z => absurd ((i_lt (by omega) (by omega)).mp z) (by show ¬ 144 * k + 24 * n < 144 * k + 24 * n; omega)
    simp only [rdI_n hk (show 8 < 2147483648 by omega), u4 146 k (by omega), h6, Option.bind_some, if_neg l]
theorem bus_look {own : Nat → Nat} {s : CS} {t : TS} {N Ne Nd M k : Nat} (hw : wfS s) (hk : k < 8) (r : R6x (rs s.1 own 6) t N Ne Nd M) :
    ∃ s' t', c_482 (127 + 3 * k) (t.1 526) (t.1 500) s = some s' ∧ t_842 (Int32.ofNat k) t = some t' ∧ R6x (rs s'.1 own 6) t' N Ne Nd M ∧ BS own own 0 0 s t s' t' ∧ t'.1 = t.1 := by
  obtain ⟨z0, z1, z2, z3, z4, z5, z6, z7, z8, z9⟩ := bus_f r hk
  have r1' := r
  obtain ⟨g, ee, dd, n1, ti, bi, m, i1, i2, rr⟩ := r1'
  have rk := rr k hk
  obtain ⟨s1', s2', s3', s4', s5', s6', s7', s8', s9', s10', s11', s12'⟩ := rk
  have hc := rs_in s1'
  have h2 := rs_in s2'
  obtain ⟨_, _, _, _, g500, gM, _⟩ := g
  have m8 : 8 < 2147483648 := by omega
  have z149 : rdI t 149 8 (Int32.ofNat k) = some (t.2.2.1 149 k) := rdI_n hk m8
  unfold c_482 t_842
  simp only [z5, z149, Option.bind_some]
  by_cases e : t.2.2.1 149 k = t.1 500
  · have em : ¬ t.2.2.1 149 k = -1 := by rw [e, g500]; exact i_ne1 (by omega)
    have hn : 0 < n1 k := by
      rcases s10' with q | q
      · exact absurd q em
      · exact q.1
    have h148 : t.2.2.1 148 k = -1 := by
      rcases s12'.2.2 with q | q
      · exact q
      · exact absurd q em
    have rt0 := s6' 0 hn
    have h3 := rs_in rt0.1
    obtain ⟨sd, y1, y2, y3⟩ := s12'.1 hn
    have T23 : ∀ v, tl t k 0 v = t.2.2.1 147 (144 * k + v) := fun v => by unfold tl; rw [show 24 * (6 * k + 0) + v = 144 * k + v by omega]
    rw [if_pos e, if_pos e]
    have e1 : xP s [(46, 5)] (127 + 3 * k) (.int (-1)) = some (cup s (127 + 3 * k) (sC (wrI t 149 k (-1)) k)) := by simp [xP, hc.1, sC, lLook, wr_at]
    rw [e1, Option.bind_some, stI_n hk m8, Option.bind_some]
    have tne : ti k 0 ≠ 127 + 3 * k := by have := rt0.2.2.2.2.2.2.1; omega
    have f3 : (cup s (127 + 3 * k) (sC (wrI t 149 k (-1)) k)).1 (ti k 0) = some (true, false, 93, [.int (tl t k 0 22), .ref (bi k 0), .int (tl t k 0 23)]) := by simp only [cup_at, if_neg tne, h3.1]
    have f2 : (cup s (127 + 3 * k) (sC (wrI t 149 k (-1)) k)).1 (129 + 3 * k) = some (true, false, 1004, rowC (fun j => .ref (ti k j)) (n1 k)) := by simp only [cup_at, if_neg (show 129 + 3 * k ≠ 127 + 3 * k by omega), h2.1]
    have a3 : xN (cup s (127 + 3 * k) (sC (wrI t 149 k (-1)) k)) [(46, 3)] (127 + 3 * k) = some (129 + 3 * k) := by simp [xN, xV, cup_at, sC, lLook, toP]
    have k4 : isK (cup s (127 + 3 * k) (sC (wrI t 149 k (-1)) k)) [4] (129 + 3 * k) = true := by simp only [isK, kdo, f2]; decide
    have k93 : isK (cup s (127 + 3 * k) (sC (wrI t 149 k (-1)) k)) [93] (ti k 0) = true := by simp only [isK, kdo, f3]; decide
    have b2 : xI (cup s (127 + 3 * k) (sC (wrI t 149 k (-1)) k)) [(93, 2)] (ti k 0) = some (tl t k 0 23) := by simp [xI, xV, f3, lLook, toI]
    have gd : (if t.1 526 = 204 then some (1 : Int32) else some 0) = some (if t.1 526 = 204 then 1 else 0) := by split <;> rfl
    have r23 : rdI (wrI t 149 k (-1)) 147 1152 (144 * Int32.ofNat k + 23) = some (tl t k 0 23) := by rw [i_mulL, i_addL, rdI_n (show 144 * k + 23 < 1152 by omega) (by omega), wr_ne (by omega), T23]
    by_cases keep : ¬ t.1 526 = 204 ∧ ¬ tl t k 0 23 = 4
    · -- nothing is taken away
      obtain ⟨q1, q2⟩ := keep
      obtain ⟨r', bs'⟩ := st_bs (t' := wrI t 149 k (-1)) hw hk r (fun c j q => by rw [wr_at, if_neg (fun z => q ⟨by unfold sRow; omega, z.2⟩)]) rfl rfl rfl (by
        rintro n' m' w1 w2 w3 ⟨u1, u2, u3, u4, u5, u6⟩
        refine ⟨by rw [wr_ne (by omega)]; exact u1, by rw [wr_ne (by omega)]; exact u2, by rw [wr_ne (by omega)]; exact u3, Or.inl (by rw [wr_s]), by rw [wr_ne (by omega), wr_ne (by omega)]; exact u5, fun hn' => ?_, fun j w1 w2 => u6.2.1 j w1 w2, Or.inr (by rw [wr_s])⟩
        refine ⟨sd, y1, y2, fun _ => ?_⟩
        apply Classical.byContradiction
        intro z
        exact q2 (by rw [y1, show sd = 4 by omega]; rfl))
      refine ⟨_, _, ?_, ?_, r', bs', rfl⟩
      · show Option.bind (if t.1 526 = 204 then some (1 : Int32) else some 0) _ = some (cup s (127 + 3 * k) (sC (wrI t 149 k (-1)) k))
        simp only [if_neg q1, Option.bind_some, if_true, a3, k4, adFirst_r f2 hn, toN, k93, b2, if_neg q2, Sum.elim_inr]
      · show Option.bind (if t.1 526 = 204 then some (1 : Int32) else some 0) _ = some (wrI t 149 k (-1))
        simp only [if_neg q1, Option.bind_some, if_true, r23, if_neg q2, Sum.elim_inr]
    · -- the first one is gone
      obtain ⟨n, hn1⟩ : ∃ n, n1 k = n + 1 := ⟨n1 k - 1, by omega⟩
      let gv : Int32 := if t.1 526 = 204 then 1 else 0
      let lv : Int32 := if t.1 526 = 204 then 0 else 1
      let T3 := wrI (wrI (wrI (wrI t 149 k (-1)) 152 k (t.2.2.1 152 k + gv)) 153 k (t.2.2.1 153 k + lv)) 146 k (Int32.ofNat n)
      obtain ⟨t4, sh, n4, l4, ll4, ro4, sh7⟩ := t_shift (t := T3) (k := k) (n := n) hk (by omega) (by simp only [T3, wr_s])
      have r4 : ∀ c, c ≠ 147 → c ≠ 149 → c ≠ 152 → c ≠ 153 → c ≠ 146 → ∀ j, t4.2.2.1 c j = t.2.2.1 c j := fun c q1 q2 q3 q4 q5 j => by
        rw [ro4 c j q1]
        simp only [T3, wr_ne q5, wr_ne q4, wr_ne q3, wr_ne q2]
      have t149 : t4.2.2.1 149 k = -1 := by rw [ro4 149 k (by omega)]; simp only [T3, wr_ne (show (149 : Nat) ≠ 146 by omega), wr_ne (show (149 : Nat) ≠ 153 by omega), wr_ne (show (149 : Nat) ≠ 152 by omega), wr_s]
      have t152 : t4.2.2.1 152 k = t.2.2.1 152 k + gv := by rw [ro4 152 k (by omega)]; simp only [T3, wr_ne (show (152 : Nat) ≠ 146 by omega), wr_ne (show (152 : Nat) ≠ 153 by omega), wr_s]
      have t153 : t4.2.2.1 153 k = t.2.2.1 153 k + lv := by rw [ro4 153 k (by omega)]; simp only [T3, wr_ne (show (153 : Nat) ≠ 146 by omega), wr_s]
      have t146 : t4.2.2.1 146 k = Int32.ofNat n := by rw [ro4 146 k (by omega)]; simp only [T3, wr_s]
      have T37 : ∀ q, T3.2.2.1 147 q = t.2.2.1 147 q := fun q => by simp only [T3, wr_ne (show (147 : Nat) ≠ 146 by omega), wr_ne (show (147 : Nat) ≠ 153 by omega), wr_ne (show (147 : Nat) ≠ 152 by omega), wr_ne (show (147 : Nat) ≠ 149 by omega)]
      have tls : ∀ j i, j < n → i < 24 → tl t4 k j i = tl t k (j + 1) i := by
        intro j i hj hi
        unfold tl
        rw [sh7, if_pos (by omega), T37, show 24 * (6 * k + j) + i + 24 = 24 * (6 * k + (j + 1)) + i by omega]
      rw [hn1] at f2
      let C1 : lCell := (true, false, 1004, rowC (fun j => .ref (ti k (j + 1))) n)
      let S2 := cup (cup (cup s (127 + 3 * k) (sC (wrI t 149 k (-1)) k)) (129 + 3 * k) C1) (127 + 3 * k) (sC t4 k)
      have q0 : (cup (cup s (127 + 3 * k) (sC (wrI t 149 k (-1)) k)) (129 + 3 * k) C1).1 (127 + 3 * k) = some (sC (wrI t 149 k (-1)) k) := by rw [cup_at, if_neg (by omega)]; simp only [cup_at, if_true]
      have p1 : adRem (cup s (127 + 3 * k) (sC (wrI t 149 k (-1)) k)) (129 + 3 * k) = some (.ref (ti k 0), cup (cup s (127 + 3 * k) (sC (wrI t 149 k (-1)) k)) (129 + 3 * k) C1) := by rw [adRem_r f2]; rfl
      have p93 : isK (cup (cup s (127 + 3 * k) (sC (wrI t 149 k (-1)) k)) (129 + 3 * k) C1) [93] (ti k 0) = true := by
        have : (cup (cup s (127 + 3 * k) (sC (wrI t 149 k (-1)) k)) (129 + 3 * k) C1).1 (ti k 0) = some (true, false, 93, [.int (tl t k 0 22), .ref (bi k 0), .int (tl t k 0 23)]) := by
          rw [cup_at, if_neg (by have := rt0.2.2.2.2.2.2.1; omega)]; exact f3
        simp only [isK, kdo, this]; decide
      have x8 : xI (cup (cup s (127 + 3 * k) (sC (wrI t 149 k (-1)) k)) (129 + 3 * k) C1) [(46, 8)] (127 + 3 * k) = some (t.2.2.1 152 k) := by unfold xI xV; rw [q0]; simp [sC, lLook, toI, wr_at]
      have px8 : xP (cup (cup s (127 + 3 * k) (sC (wrI t 149 k (-1)) k)) (129 + 3 * k) C1) [(46, 8)] (127 + 3 * k) (.int (t.2.2.1 152 k + gv)) = some (cup (cup (cup s (127 + 3 * k) (sC (wrI t 149 k (-1)) k)) (129 + 3 * k) C1) (127 + 3 * k) (sC (wrI (wrI t 149 k (-1)) 152 k (t.2.2.1 152 k + gv)) k)) := by unfold xP; rw [q0]; simp [sC, lLook, wr_at]
      have x9 : xI (cup (cup (cup s (127 + 3 * k) (sC (wrI t 149 k (-1)) k)) (129 + 3 * k) C1) (127 + 3 * k) (sC (wrI (wrI t 149 k (-1)) 152 k (t.2.2.1 152 k + gv)) k)) [(46, 9)] (127 + 3 * k) = some (t.2.2.1 153 k) := by unfold xI xV; rw [cup_at, if_pos rfl]; simp [sC, lLook, toI, wr_at]
      have px9 : xP (cup (cup (cup s (127 + 3 * k) (sC (wrI t 149 k (-1)) k)) (129 + 3 * k) C1) (127 + 3 * k) (sC (wrI (wrI t 149 k (-1)) 152 k (t.2.2.1 152 k + gv)) k)) [(46, 9)] (127 + 3 * k) (.int (t.2.2.1 153 k + lv)) = some S2 := by
        unfold xP; rw [cup_at, if_pos rfl]
        simp only [sC, lLook, if_true, Option.bind_some, List.length_cons, List.length_nil]
        rw [if_pos (by omega), cup_cup]
        simp only [S2, sC, List.set_cons_succ, List.set_cons_zero, r4 143 (by omega) (by omega) (by omega) (by omega) (by omega), r4 145 (by omega) (by omega) (by omega) (by omega) (by omega), r4 148 (by omega) (by omega) (by omega) (by omega) (by omega), r4 150 (by omega) (by omega) (by omega) (by omega) (by omega), r4 151 (by omega) (by omega) (by omega) (by omega) (by omega), r4 154 (by omega) (by omega) (by omega) (by omega) (by omega), t149, t152, t153]
        simp [wr_at]
      have ost : own (127 + 3 * k) = 6 := hc.2
      have oq : own (129 + 3 * k) = 6 := h2.2
      have fr : BS own own 0 0 s t S2 t4 := by
        refine ⟨?_, ?_, Nat.le_refl _, Nat.le_refl _⟩
        · have f1 := frm_cup (X := fun X => X = 6) (own := own) (c := sC (wrI t 149 k (-1)) k) hw (wf_lt hw hc.1) ost
          have f2 := frm_cup (X := fun X => X = 6) (own := own) (c := C1) (a := 129 + 3 * k) f1.2.2.2.2 (show 129 + 3 * k < s.2.1 from wf_lt hw h2.1) oq
          have f4 := frm_cup (X := fun X => X = 6) (own := own) (c := sC t4 k) (a := 127 + 3 * k) f2.2.2.2.2 (show 127 + 3 * k < s.2.1 from wf_lt hw hc.1) ost
          exact (f1.trans f2).trans f4
        · intro Z hZ
          unfold rt
          rw [n4, l4, ll4]
          refine Prod.ext rfl (Prod.ext rfl (Prod.ext ?_ rfl))
          funext c j
          by_cases hz : mR c = Z
          · simp only [if_pos hz]
            have : c ≠ 147 ∧ c ≠ 149 ∧ c ≠ 152 ∧ c ≠ 153 ∧ c ≠ 146 := by
              refine ⟨fun q => hZ ?_, fun q => hZ ?_, fun q => hZ ?_, fun q => hZ ?_, fun q => hZ ?_⟩ <;> (rw [← hz, q]; rfl)
            exact r4 c this.1 this.2.1 this.2.2.1 this.2.2.2.1 this.2.2.2.2 j
          · simp only [if_neg hz]
      have ne2 : ∀ q, q ≠ 127 + 3 * k → q ≠ 129 + 3 * k → rs S2.1 own 6 q = rs s.1 own 6 q := by
        intro q q1 q2
        unfold rs
        by_cases qo : own q = 6
        · rw [if_pos qo, if_pos qo]; simp only [S2, cup_at, if_neg q1, if_neg q2]
        · rw [if_neg qo, if_neg qo]
      have R3 : R6x (rs S2.1 own 6) t4 N Ne Nd M := by
        have hh : ∀ k' j, k' < 8 → j < n1 k' → 179 ≤ ti k' j ∧ 179 ≤ bi k' j := fun k' j a b => ⟨((rr k' a).2.2.2.2.2.1 j b).2.2.2.2.2.2.1, ((rr k' a).2.2.2.2.2.1 j b).2.2.2.2.2.2.2⟩
        have inj' : ∀ a : Nat → Nat → Nat, inj2 n1 a → inj2 (fun q => if q = k then n else n1 q) (fun q j => if q = k then a k (j + 1) else a q j) := by
          intro a ha x j x' j' hx hx' hj hj' he
          simp only at hj hj' he
          by_cases c1 : x = k
          · subst c1
            rw [if_pos rfl] at hj he
            by_cases c2 : x' = x
            · subst c2
              rw [if_pos rfl] at hj' he
              have := ha x' (j + 1) x' (j' + 1) hx hx (by omega) (by omega) he
              omega
            · rw [if_neg c2] at hj' he
              have := ha x (j + 1) x' j' hx hx' (by omega) hj' he
              omega
          · rw [if_neg c1] at hj he
            by_cases c2 : x' = k
            · subst c2
              rw [if_pos rfl] at hj' he
              have := ha x j x' (j' + 1) hx hx' hj (by omega) he
              omega
            · rw [if_neg c2] at hj' he
              exact ha x j x' j' hx hx' hj hj' he
        refine R6_k (k := k) (n := fun q => if q = k then n else n1 q) (ti := fun q j => if q = k then ti k (j + 1) else ti q j) (bi := fun q j => if q = k then bi k (j + 1) else bi q j) (m := fun q j => if q = k then m k (j + 1) else m q j) (h := rs s.1 own 6) (t := t) r.1 ee dd (inj' ti i1) (inj' bi i2) hk (fun k' hk' hkk => ?_) (fun c j hcj => r4 c (by omega) (by omega) (by omega) (by omega) (by omega) j) n4 (fun c k' q1 q2 q3 q7 hkk => ?_) (fun j => r4 144 (by omega) (by omega) (by omega) (by omega) (by omega) j) (fun q hq => ?_) (fun q hq => ne2 q (by omega) (by omega)) (fun k' hk8 hkk => ⟨ne2 _ (by omega) (by omega), ne2 _ (by omega) (by omega), ne2 _ (by omega) (by omega)⟩) (fun k' j hk' hkk hj => ?_) ?_
        · simp only [if_neg hkk]; exact rr k' hk'
        · by_cases c9 : c = 149
          · subst c9; rw [ro4 149 _ (by omega)]; simp only [T3, wr_ne (show (149 : Nat) ≠ 146 by omega), wr_ne (show (149 : Nat) ≠ 153 by omega), wr_ne (show (149 : Nat) ≠ 152 by omega), wr_nk hkk]
          · by_cases c2 : c = 152
            · subst c2; rw [ro4 152 _ (by omega)]; simp only [T3, wr_ne (show (152 : Nat) ≠ 146 by omega), wr_ne (show (152 : Nat) ≠ 153 by omega), wr_nk hkk]
            · by_cases c3 : c = 153
              · subst c3; rw [ro4 153 _ (by omega)]; simp only [T3, wr_ne (show (153 : Nat) ≠ 146 by omega), wr_nk hkk]
              · by_cases c6 : c = 146
                · subst c6; rw [ro4 146 _ (by omega)]; simp only [T3, wr_nk hkk]
                · exact r4 c q7 c9 c2 c3 c6 k'
        · rw [sh7, if_neg (by omega), T37]
        · simp only [if_neg hkk] at hj ⊢
          have := hh k' j hk' hj
          exact ⟨ne2 _ (by omega) (by omega), ne2 _ (by omega) (by omega)⟩
        · simp only [eq_self, if_true]
          refine ⟨?_, ?_, t146, by omega, ?_, fun j hj => ?_, ?_⟩
          · unfold rs; rw [if_pos ost]; simp only [S2, cup_at, if_true]
          · unfold rs; rw [if_pos oq]; simp only [S2, cup_at, if_neg (show 129 + 3 * k ≠ 127 + 3 * k by omega), if_true]; rfl
          · obtain ⟨xs, x1, x2⟩ := s5'
            exact ⟨xs, by rw [ne2 _ (by omega) (by omega)]; exact x1, fun g hg => by rw [r4 144 (by omega) (by omega) (by omega) (by omega) (by omega)]; exact x2 g hg⟩
          · show R6t _ t4 k j (ti k (j + 1)) (bi k (j + 1)) (m k (j + 1))
            have hj1 : j + 1 < n1 k := by omega
            have := hh k (j + 1) hk hj1
            obtain ⟨v1, v2, v3, v4, v5, v6, v7, v8⟩ := s6' (j + 1) hj1
            refine ⟨by rw [ne2 _ (by omega) (by omega), v1, tls j 22 hj (by omega), tls j 23 hj (by omega)], ?_, by rw [tls j 21 hj (by omega), v3], v4, v5, fun i hi => ?_, v7, v8⟩
            · rw [ne2 _ (by omega) (by omega), v2, rowC_congr (f := fun i => Value.int (tl t k (j + 1) i)) (g := fun i => Value.int (tl t4 k j i)) (fun i hi => by rw [tls j i hj (by omega)])]
            · rw [tls j i hj (by omega), tls j 23 hj (by omega)]
              exact v6 i hi
          · refine ⟨by rw [r4 145 (by omega) (by omega) (by omega) (by omega) (by omega)]; exact s7', by rw [r4 143 (by omega) (by omega) (by omega) (by omega) (by omega)]; exact s8', Or.inl (by rw [r4 148 (by omega) (by omega) (by omega) (by omega) (by omega)]; exact h148), Or.inl t149, by rw [r4 150 (by omega) (by omega) (by omega) (by omega) (by omega), r4 151 (by omega) (by omega) (by omega) (by omega) (by omega)]; exact s11', fun h0 => ?_, fun j w1 w2 => ?_, Or.inr t149⟩
            · refine ⟨0, ?_, by omega, fun _ => by omega⟩
              rw [tls 0 23 h0 (by omega)]
              exact s12'.2.1 1 (by omega) (by omega)
            · rw [tls j 23 w2 (by omega)]
              exact s12'.2.1 (j + 1) (by omega) (by omega)
      refine ⟨S2, t4, ?_, ?_, R3, fr, n4⟩
      · show Option.bind (if t.1 526 = 204 then some (1 : Int32) else some 0) _ = some S2
        by_cases q : t.1 526 = 204
        · have g1 : gv = 1 := if_pos q
          have l1 : lv = 0 := if_pos q
          rw [g1] at px8 x9 px9
          rw [l1] at px9
          simp only [if_pos q, Option.bind_some, show ¬ (1 : Int32) = 0 by decide, if_false, Sum.elim_inl, a3, k4, if_true, p1, toN, p93, x8, px8, x9, px9]
        · have q4 : tl t k 0 23 = 4 := Classical.byContradiction (fun z => keep ⟨q, z⟩)
          have g1 : gv = 0 := if_neg q
          have l1 : lv = 1 := if_neg q
          rw [g1] at px8 x9 px9
          rw [l1] at px9
          rw [hn1] at *
          simp only [if_neg q, Option.bind_some, if_true, a3, k4, adFirst_r f2 (show 0 < n + 1 by omega), toN, k93, b2, if_pos q4, Sum.elim_inl, p1, p93, x8, px8, x9, px9]
      · show Option.bind (if t.1 526 = 204 then some (1 : Int32) else some 0) _ = some t4
        have sh' : wh (S := TS × Int32) (X := TS) (fun p69 => Option.bind (α := Int32) (rdI p69.1 146 8 (Int32.ofNat k)) (fun x10 => (if p69.2 < ((144 * Int32.ofNat k) + (24 * x10)) then Option.bind (α := Int32) (rdI p69.1 147 1152 (p69.2 + 24)) (fun x11 => Option.bind (α := TS) (stI p69.1 147 1152 p69.2 x11) (fun s12 => some (.inl (s12, p69.2 + 1)))) else some (.inr p69.1)))) (T3, 144 * Int32.ofNat k) = some t4 := by
          rw [show (144 : Int32) * Int32.ofNat k = Int32.ofNat (144 * k) from i_mulL 144 k]
          exact sh
        have w52 : rdI (wrI t 149 k (-1)) 152 8 (Int32.ofNat k) = some (t.2.2.1 152 k) := by rw [rdI_n hk m8, wr_ne (by omega)]
        have w53 : rdI (wrI (wrI t 149 k (-1)) 152 k (t.2.2.1 152 k + gv)) 153 8 (Int32.ofNat k) = some (t.2.2.1 153 k) := by rw [rdI_n hk m8, wr_ne (by omega), wr_ne (by omega)]
        have w46 : rdI (wrI (wrI (wrI t 149 k (-1)) 152 k (t.2.2.1 152 k + gv)) 153 k (t.2.2.1 153 k + lv)) 146 8 (Int32.ofNat k) = some (Int32.ofNat (n + 1)) := by rw [rdI_n hk m8, wr_ne (by omega), wr_ne (by omega), wr_ne (by omega), s3', hn1]
        have w46' : Int32.ofNat (n + 1) - 1 = Int32.ofNat n := i_subL (a := 1) (by show 1 ≤ n + 1; omega)
        by_cases q : t.1 526 = 204
        · have g1 : gv = 1 := if_pos q
          have l1 : lv = 0 := if_pos q
          simp only [T3] at sh'
          rw [g1] at w53 w46 sh'
          rw [l1] at w46 sh'
          simp only [if_pos q, Option.bind_some, show ¬ (1 : Int32) = 0 by decide, if_false, Sum.elim_inl, w52, stI_n hk m8, w53, w46, w46', sh']
        · have q4 : tl t k 0 23 = 4 := Classical.byContradiction (fun z => keep ⟨q, z⟩)
          have g1 : gv = 0 := if_neg q
          have l1 : lv = 1 := if_neg q
          simp only [T3] at sh'
          rw [g1] at w53 w46 sh'
          rw [l1] at w46 sh'
          simp only [if_neg q, Option.bind_some, if_true, r23, if_pos q4, Sum.elim_inl, w52, stI_n hk m8, w53, w46, w46', sh']
  · exact ⟨s, t, by rw [if_neg e], by rw [if_neg e], r, BS.rf hw, rfl⟩
