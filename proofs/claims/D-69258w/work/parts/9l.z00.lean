/-! the house: the tick asks for an order only when it has none -/
/-- the program has no order now -/
noncomputable def st5 (s : CS) : Nat := if xR s [(100, 2)] 115 = some none then 1 else 0
theorem st5_le (s : CS) : st5 s ≤ 1 := by unfold st5; split <;> omega
theorem st5_o {s : CS} {a b : Value} {r : List Value} {oid : Nat} (h : s.1 115 = some (true, false, 100, a :: b :: .ref oid :: r)) : st5 s = 0 := by
  unfold st5
  rw [xR_o h rfl rfl, if_neg (fun z => by cases z)]
theorem st5_eq {s S : CS} (h : S.1 115 = s.1 115) : st5 S = st5 s := by
  have : xR S [(100, 2)] 115 = xR s [(100, 2)] 115 := by unfold xR xV; rw [h]
  unfold st5; rw [this]
/-- the program, its order known -/
def R5n (h : lHeap) (t : TS) : Prop := ∃ n B oid od nw, R5x h t n B (.ref oid) od nw
theorem R5n_5 {h : lHeap} {t : TS} (r : R5n h t) : R5 h t := by obtain ⟨n, B, oid, od, nw, r⟩ := r; exact ⟨n, B, _, od, nw, r⟩
theorem R5n_st {s : CS} {own : Nat → Nat} {t : TS} (r : R5n (rs s.1 own 5) t) : st5 s = 0 := by
  obtain ⟨n, B, oid, od, nw, r⟩ := r
  unfold st5
  rw [xR_o (rs_in r.1.1).1 rfl rfl, if_neg (fun z => by cases z)]
theorem c_sortS {s : CS} {t : TS} {own : Nat → Nat} {n : Nat} {B : Nat → Nat → Nat} {o : Value} {od nw : Int32} (hw : wfS s) (hK : RK s.1) (r : R5x (rs s.1 own 5) t n B o od nw) (hs : 179 ≤ s.2.1) :
    Tr (c_1098 115 s) (fun s' => ∃ own' oid, R5x (rs s'.1 own' 5) t n B (.ref oid) (Int32.ofNat (ordC t n)) nw ∧ Frm (fun X => X = 5) own own' s s' ∧ s'.2.2.1 ≤ s.2.2.1 + 500 * st5 s ∧ s'.2.2.2 ≤ s.2.2.2 + 30000 * st5 s) := by
  have r0 := r
  obtain ⟨⟨p1, p2, ⟨mc, p3⟩, p4, p5, p6, p7, p8, p9⟩, f, ij, b, q⟩ := r
  have h1 := rs_in p1
  rcases q with rfl | ⟨oid, mco, rfl, q1, q2, q3, q4⟩
  · have e : st5 s = 1 := by unfold st5; rw [xR_z h1.1 rfl rfl, if_pos rfl]
    rw [e]
    exact c_sort hw hK r0 hs
  · unfold c_1098
    rw [xR_o h1.1 rfl rfl, Option.bind_some, if_neg (by simp)]
    exact ⟨s, rfl, own, oid, ⟨⟨by rw [← q4]; exact p1, p2, ⟨mc, p3⟩, p4, p5, p6, p7, p8, p9⟩, f, ij, b, Or.inr ⟨oid, mco, rfl, q1, q2, q3, rfl⟩⟩, Frm.refl hw, by omega, by omega⟩
theorem pr_tickS {own : Nat → Nat} {s : CS} {t : TS} (hw : wfS s) (hK : RK s.1) (hs : 179 ≤ s.2.1) (hR : ∀ a, a < 100 → own a ≠ 5) (r10 : R10 (rs s.1 own 10) t) (r : R5 (rs s.1 own 5) t) :
    ∃ s' t' own', c_1103 115 (t.1 414) s = some s' ∧ t_811 t = some t' ∧ R5n (rs s'.1 own' 5) t' ∧ R10 (rs s'.1 own' 10) t' ∧ Frm (fun X => X = 5) own own' s s' ∧ s'.2.2.1 ≤ s.2.2.1 + 500 * st5 s ∧ s'.2.2.2 ≤ s.2.2.2 + 30000 * st5 s ∧ (∀ c, c ≠ 418 → t'.1 c = t.1 c) ∧ ∀ Z, Z ≠ 5 → rt t' Z = rt t Z := by
  obtain ⟨n, B, o, od, nw, r⟩ := r
  have hn := r.1.2.2.2.2.2.1
  have h1 := rs_in r.1.1
  obtain ⟨s1, c1, own1, oid, r1, f1, k1, k2⟩ := c_sortS hw hK r hs
  obtain ⟨⟨x, t1⟩, d1, d2, d3, d4⟩ := t_sort (R5x_ok r)
  dsimp only at d2 d3 d4
  have hw1 := f1.2.2.2.2
  have r2 := R5x_alk r1 d3
  have h2 := rs_in r2.1.1
  have e1 : t1.1 = t.1 := d3.1
  have hR1 : ∀ a, a < 100 → own1 a ≠ 5 := fun a ha => by rw [f1.2.1 a (by omega)]; exact hR a ha
  have o115 : own1 115 = 5 := h2.2
  unfold c_1103 t_811
  rw [if_pos (isK_t h1.1 rfl), c1, Option.bind_some, xP_c (fs' := [.ref 116, .ref 117, .ref oid, .int (Int32.ofNat (ordC t n)), .ref 118, .ref 119, .int (t.1 414), .int (t1.1 1)]) h2.1 rfl (by simp) rfl, Option.bind_some, d1, Option.bind_some]
  dsimp only
  generalize hS2 : cup s1 115 _ = s2
  have f2 : Frm (fun X => X = 5) own1 own1 s1 s2 := by rw [← hS2]; exact frm_cup hw1 (wf_lt hw1 h2.1) o115
  have hw2 := f2.2.2.2.2
  have r3 : R5x (rs s2.1 own1 5) t1 n B (.ref oid) (Int32.ofNat (ordC t n)) (t.1 414) := by
    rw [← hS2]
    show R5x (rs (lUpd s1.1 115 _) own1 5) _ _ _ _ _ _
    rw [rs_upd o115]
    exact R5_now _ r2
  have hq : s2.2 = s1.2 := by rw [← hS2]; rfl
  have hrt1 : ∀ Z, Z ≠ 5 → rt t1 Z = rt t Z := fun Z h5 => d3.rtt h5
  have r10' : R10 (rs s2.1 own1 10) t1 := by
    unfold R10 at r10 ⊢
    rw [frm_rs hw1 f2 (by omega), frm_rs hw f1 (by omega), r10]
    congr 4
    exact rowC_congr (fun k _ => by rw [d3.2.2.2 136 k (by omega) (by omega)])
  have g3 := rs_in r3.1.1
  obtain ⟨mc, p3⟩ := r3.1.2.2.1
  have g7 := rs_in p3
  have g9 := rs_in r3.1.2.2.2.1
  have stop : ∀ A C, (A : Option CS) = some s2 → (C : Option TS) = some t1 → ∃ s' t' own', A = some s' ∧ C = some t' ∧ R5n (rs s'.1 own' 5) t' ∧ R10 (rs s'.1 own' 10) t' ∧ Frm (fun X => X = 5) own own' s s' ∧ s'.2.2.1 ≤ s.2.2.1 + 500 * st5 s ∧ s'.2.2.2 ≤ s.2.2.2 + 30000 * st5 s ∧ (∀ c, c ≠ 418 → t'.1 c = t.1 c) ∧ ∀ Z, Z ≠ 5 → rt t' Z = rt t Z := fun A C hA hC => ⟨s2, t1, own1, hA, hC, ⟨n, B, _, _, _, r3⟩, r10', f1.trans f2, by rw [hq]; exact k1, by rw [hq]; exact k2, fun c _ => by rw [e1], hrt1⟩
  have hoc : ordC t n ≤ n := by
    unfold ordC
    exact nd_len n _ (gre_on t n).1.1 (gre_on t n).1.2.1
  rw [xI_o g3.1 rfl rfl, Option.bind_some, xN_o g3.1 rfl rfl, Option.bind_some, if_pos (isK_t g7.1 rfl), alSize_r g7.1, Option.bind_some, e1, r.1.2.2.2.2.1, d2]
  by_cases ho : ordC t n < n
  · have := (i_lt (show ordC t n < 2147483648 by omega) (show n < 2147483648 by omega)).mpr ho
    exact stop _ _ (if_pos this) (if_pos this)
  · have hno : ¬ Int32.ofNat (ordC t n) < Int32.ofNat n := fun z => ho ((i_lt (by omega) (by omega)).mp z)
    rw [if_neg hno, if_neg hno, xN_o g3.1 rfl rfl, Option.bind_some]
    have e140 : t1.2.2.1 140 0 = t.2.2.1 140 0 := d3.2.2.2 140 0 (by omega) (by omega)
    have eI : aI s2 [0, 12] 119 0 = some (t1.2.2.1 140 0) := aI_r (k := 0) g9.1 (by omega) rfl (by omega) (by omega) rfl
    rw [eI, Option.bind_some]
    have p7 := r.1.2.2.2.2.2.2.1
    by_cases hf : t.2.2.1 140 0 < 20000
    · have h418 : t.1 418 = 0 := by rw [p7, if_pos hf]
      rw [if_pos (by rw [e140]; exact hf), if_pos h418]
      have tk0 : Tk s2 own1 t1 n B (.ref oid) (Int32.ofNat (ordC t n)) := ⟨hw2, RK_frm hw1 (RK_frm hw hK f1 (fun a ha => hR a ha)) f2 (fun a ha => hR1 a ha), r10', R5x_q (by rw [e1]; exact r3)⟩
      have cell : ∀ S T, Tk S own1 T n B (.ref oid) (Int32.ofNat (ordC t n)) → Sm t1 T → S.1 115 = some (true, false, 100, [.ref 116, .ref 117, .ref oid, .int (Int32.ofNat (ordC t n)), .ref 118, .ref 119, .int (T.1 414), .int (T.1 1)]) ∧ (∃ m, S.1 oid = some (true, false, 1013, .int m :: (ordL t1 n).map (fun b => .ref (B b 0)))) ∧ (∃ m, S.1 117 = some (true, false, 1013, .int m :: rowC (fun k => .ref (B k 0)) n)) ∧ T.1 400 = Int32.ofNat n := by
        intro S T hT hSm
        obtain ⟨⟨q1, q2, ⟨m7, q3⟩, q4, q5, q6⟩, _, _, _, qo⟩ := hT.2.2.2
        refine ⟨(rs_in q1).1, ?_, ⟨m7, (rs_in q3).1⟩, hT.ok.2.1⟩
        rcases qo with z | ⟨oid', m, z0, z1, z2, z3, z4⟩
        · cases z
        · cases z0
          refine ⟨m, ?_⟩
          have := (rs_in z3).1
          rw [show ordL (ptI T 418 (rst T)) n = ordL t1 n from (ord_cg (t := T) (t' := ptI T 418 (rst T)) (n := n) (fun _ => rfl) (fun _ => rfl)).1.trans (ordS hSm)] at this
          exact this
      have hol := ordL_len t1 n
      have hoi : ∀ i, i < n → ((ordL t1 n).map (fun b => (.ref (B b 0) : Value)))[i]? = some (.ref (B ((ordL t1 n).getD i 0) 0)) ∧ (ordL t1 n).getD i 0 < n := by
        intro k hk
        rw [List.getElem?_map, List.getD_eq_getElem?_getD, List.getElem?_eq_getElem (by omega)]
        exact ⟨rfl, hol.2.2 _ (List.getElem_mem _)⟩
      have ordA : ordL t1 n = ordL t n := (ord_cg (fun j => d3.2.2.2 125 j (by omega) (by omega)) (fun j => d3.2.2.2 129 j (by omega) (by omega))).1
      refine Exists.elim (wh_two (Q := fun (S : CS) (T : TS) => Tk S own1 T n B (.ref oid) (Int32.ofNat (ordC t n)) ∧ Tc own1 s2 S t1 T ∧ Sm t1 T ∧ ∀ j, j < n → inH T j) n (fun i (a : CS × Int32) (b : TS × Int32) => a.2 = Int32.ofNat i ∧ b.2 = Int32.ofNat i ∧ Tk a.1 own1 b.1 n B (.ref oid) (Int32.ofNat (ordC t n)) ∧ Tc own1 s2 a.1 t1 b.1 ∧ Sm t1 b.1 ∧ ∀ i', i' < i → inH b.1 ((ordL t1 n).getD i' 0))
        (f := fun p20 : CS × Int32 => Option.bind (α := Nat) (xN p20.1 [(100, 2)] 115) (fun a8 => (if isK p20.1 [13] a8 = true then Option.bind (α := Int32) (alSize p20.1 a8) (fun x9 => (if p20.2 < x9 then Option.bind (α := Nat) (xN p20.1 [(100, 2)] 115) (fun a10 => (if isK p20.1 [13] a10 = true then Option.bind (α := Value) (alGet p20.1 a10 p20.2) (fun e11 => Option.bind (α := Nat) (toN p20.1 [94] e11) (fun a12 => (if isK p20.1 [100] 115 = true then Option.bind (α := CS) (c_1104 115 a12 0 p20.1) (fun x13 => some (.inl (x13, p20.2 + 1))) else none))) else none)) else some (.inr p20.1))) else none)))
        (g := fun p11 : TS × Int32 => (if p11.2 < (p11.1.1 400) then Option.bind (α := Int32) (rdI p11.1 138 40 p11.2) (fun x2 => Option.bind (α := TS) (t_812 x2 p11.1) (fun x3 => some (.inl (x3, p11.2 + 1)))) else some (.inr p11.1))) (a := (s2, 0)) (b := (t1, 0)) ?_ ?_ ⟨rfl, rfl, tk0, Tc.rf hw2, Sm.rf t1, fun i hi => by omega⟩) ?_
      · rintro i ⟨S, p⟩ ⟨T, q⟩ hi ⟨hp, hq', hT, hTc, hSm, hH⟩
        dsimp only at hp hq' hT hTc hSm hH ⊢
        subst hp hq'
        obtain ⟨q1, ⟨m, q2⟩, _, q4⟩ := cell S T hT hSm
        obtain ⟨v1, v2⟩ := hoi i hi
        obtain ⟨S', e, y1, y2, y3, y4⟩ := rec_two' hT v2 hR1
        have hBk := (hT.bx v2).2.2.1 _ v2
        refine Or.inr ⟨(S', Int32.ofNat (i + 1)), (app T ((ordL t1 n).getD i 0) e, Int32.ofNat (i + 1)), ?_, ?_, rfl, rfl, y3, hTc.tr y4, hSm.tr (app_sm ..), ?_⟩
        · rw [xN_o q1 rfl rfl, Option.bind_some, if_pos (isK_t q2 rfl), alSize_l q2, Option.bind_some, List.length_map, hol.1, if_pos ((i_lt (by omega) (by omega)).mpr hi), Option.bind_some, if_pos (isK_t q2 rfl), alGet_l q2 v1 (by omega), Option.bind_some, toN_o hBk.1 rfl, Option.bind_some, if_pos (isK_t q1 rfl), y1, Option.bind_some, i_suc]
        · rw [q4, if_pos ((i_lt (by omega) (by omega)).mpr hi), rdI_n (by omega) (by omega), Option.bind_some, hSm.2 138 i (by omega) (by omega) (by omega) (by omega), d4 i hi, ← ordA, y2, Option.bind_some, i_suc]
        · intro i' hi'
          by_cases ej : (ordL t1 n).getD i' 0 = (ordL t1 n).getD i 0
          · rw [ej]; exact (app_H ..).1
          · refine (app_H ..).2 _ ej ?_
            have : i' ≠ i := fun z => ej (by rw [z])
            exact hH i' (by omega)
      · rintro ⟨S, p⟩ ⟨T, q⟩ ⟨hp, hq', hT, hTc, hSm, hH⟩
        dsimp only at hp hq' hT hTc hSm hH ⊢
        subst hp hq'
        obtain ⟨q1, ⟨m, q2⟩, _, q4⟩ := cell S T hT hSm
        have hlt : ¬ Int32.ofNat n < Int32.ofNat n := Int32.lt_irrefl
        refine ⟨S, T, ?_, ?_, hT, hTc, hSm, fun j hj => ?_⟩
        · rw [xN_o q1 rfl rfl, Option.bind_some, if_pos (isK_t q2 rfl), alSize_l q2, Option.bind_some, List.length_map, hol.1, if_neg hlt]
        · rw [q4, if_neg hlt]
        · obtain ⟨i, z1, z2, _⟩ := ord_idx (t := t1) hj
          rw [← z2]; exact hH i z1
      rintro S3 ⟨T3, w1, w2, w3, w4, w5, w6⟩
      rw [w1, w2, Option.bind_some, Option.bind_some]
      refine Exists.elim (wh_two (Q := fun (S : CS) (T : TS) => Tk S own1 T n B (.ref oid) (Int32.ofNat (ordC t n)) ∧ Tc own1 s2 S t1 T ∧ Sm t1 T) n (fun i (a : CS × Int32) (b : TS × Int32) => a.2 = Int32.ofNat i ∧ b.2 = Int32.ofNat i ∧ Tk a.1 own1 b.1 n B (.ref oid) (Int32.ofNat (ordC t n)) ∧ Tc own1 s2 a.1 t1 b.1 ∧ Sm t1 b.1 ∧ ∀ j, j < n → inH b.1 j)
        (f := fun p37 : CS × Int32 => Option.bind (α := Nat) (xN p37.1 [(100, 1)] 115) (fun a14 => (if isK p37.1 [13] a14 = true then Option.bind (α := Int32) (alSize p37.1 a14) (fun x15 => (if p37.2 < x15 then Option.bind (α := Nat) (xN p37.1 [(100, 1)] 115) (fun a16 => (if isK p37.1 [13] a16 = true then Option.bind (α := Value) (alGet p37.1 a16 p37.2) (fun e17 => Option.bind (α := Nat) (toN p37.1 [94] e17) (fun a18 => (if isK p37.1 [100] 115 = true then Option.bind (α := CS) (c_1104 115 a18 1 p37.1) (fun x19 => some (.inl (x19, p37.2 + 1))) else none))) else none)) else some (.inr p37.1))) else none)))
        (g := fun p25 : TS × Int32 => (if p25.2 < (p25.1.1 400) then Option.bind (α := Int32) (rdI p25.1 125 40 p25.2) (fun x4 => Option.bind (α := TS) (Option.bind (α := Sum (Unit) (TS)) ((if x4 = 16 then Option.bind (α := Int32) (rdI p25.1 129 120 (3 * p25.2)) (fun x5 => (if x5 < 0 then Option.bind (α := TS) (t_815 p25.2 3 p25.1) (fun x6 => Option.bind (α := Int32) (rdI x6 134 40 p25.2) (fun x7 => Option.bind (α := Int32) ((if x7 = 0 then Option.bind (α := Int32) (rdI x6 131 40 p25.2) (fun x8 => some x8) else Option.bind (α := Int32) (rdI x6 135 40 p25.2) (fun x9 => some x9))) (fun v63 => Option.bind (α := TS) (stI x6 131 40 p25.2 v63) (fun s10 => some (.inr s10))))) else some (.inl ()))) else some (.inl ()))) (Sum.elim (fun v65 => Option.bind (α := Int32) (rdI p25.1 125 40 p25.2) (fun x11 => (if x11 = 16 then Option.bind (α := Int32) (t_814 p25.2 0 p25.1) (fun x12 => Option.bind (α := TS) (stI p25.1 132 40 p25.2 x12) (fun s13 => some s13)) else some p25.1))) (fun z => some z))) (fun v79 => some (.inl (v79, p25.2 + 1)))) else some (.inr p25.1))) (a := (S3, 0)) (b := (T3, 0)) ?_ ?_ ⟨rfl, rfl, w3, w4, w5, w6⟩) ?_
      · rintro i ⟨S, p⟩ ⟨T, q⟩ hi ⟨hp, hq', hT, hTc, hSm, hH⟩
        dsimp only at hp hq' hT hTc hSm hH ⊢
        subst hp hq'
        obtain ⟨q1, _, ⟨m, q3⟩, q4⟩ := cell S T hT hSm
        obtain ⟨S', T', y1, y2, y3, y4, y5, y6⟩ := end_two hT hi hR1 (hH i hi)
        have hBk := (hT.bx hi).2.2.1 _ hi
        refine Or.inr ⟨(S', Int32.ofNat (i + 1)), (T', Int32.ofNat (i + 1)), ?_, ?_, rfl, rfl, y3, hTc.tr y4, hSm.tr y5, fun j hj => y6 j (hH j hj)⟩
        · rw [xN_o q1 rfl rfl, Option.bind_some, if_pos (isK_t q3 rfl), alSize_r q3, Option.bind_some, if_pos ((i_lt (by omega) (by omega)).mpr hi), Option.bind_some, if_pos (isK_t q3 rfl), alGet_r q3 hi (by omega), Option.bind_some, toN_o hBk.1 rfl, Option.bind_some, if_pos (isK_t q1 rfl), y1, Option.bind_some, i_suc]
        · rw [q4, if_pos ((i_lt (by omega) (by omega)).mpr hi)]
          exact y2
      · rintro ⟨S, p⟩ ⟨T, q⟩ ⟨hp, hq', hT, hTc, hSm, hH⟩
        dsimp only at hp hq' hT hTc hSm hH ⊢
        subst hp hq'
        obtain ⟨q1, _, ⟨m, q3⟩, q4⟩ := cell S T hT hSm
        have hlt : ¬ Int32.ofNat n < Int32.ofNat n := Int32.lt_irrefl
        refine ⟨S, T, ?_, ?_, hT, hTc, hSm⟩
        · rw [xN_o q1 rfl rfl, Option.bind_some, if_pos (isK_t q3 rfl), alSize_r q3, Option.bind_some, if_neg hlt]
        · rw [q4, if_neg hlt]
      rintro S4 ⟨T4, u1, u2, u3, u4, u5⟩
      rw [u1, u2, Option.bind_some, Option.bind_some, rdI_0 (a := 0) (by decide) (by decide), Option.bind_some]
      have e3 : (if T4.2.2.1 140 0 < 20000 then some (0 : Int32) else some 1) = some (rst T4) := iteS _ _
      have e4 : rst T4 = 0 ∨ rst T4 = 1 := by unfold rst; split <;> simp
      rw [e3, Option.bind_some, if_pos e4]
      refine ⟨S4, ptI T4 418 (rst T4), own1, rfl, rfl, ⟨n, B, _, _, _, u3.2.2.2⟩, u3.2.2.1, (f1.trans f2).trans u4.1, by rw [u4.2.1, hq]; exact k1, by rw [u4.2.1, hq]; exact k2, fun c hc => by rw [pt_1, if_neg hc, u4.2.2.1, e1], fun Z h5 => ?_⟩
      refine (rt_of (fun c hc => ?_) ?_ (fun c j hc => ?_) ?_).trans (hrt1 Z h5)
      · rw [pt_1, if_neg (fun z => h5 (by rw [← hc, z]; rfl)), u4.2.2.1]
      · exact u4.2.2.2.1
      · exact u4.2.2.2.2.2 c j (fun z => h5 (by rw [← hc, z]))
      · exact u4.2.2.2.2.1
    · have h418 : ¬ t.1 418 = 0 := by rw [p7, if_neg hf]; decide
      exact stop _ _ (if_neg (by rw [e140]; exact hf)) (if_neg h418)
