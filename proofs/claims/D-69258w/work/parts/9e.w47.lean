/-! the warden: matrix, the operation -/
section
variable {own : Nat → Nat} {s : CS} {t : TS}
/-- cells from b0 on are the warden's -/
def owB (own : Nat → Nat) (b0 : Nat) : Nat → Nat := fun q => if b0 ≤ q then 7 else own q
theorem wa_matrix (hw : wfS s) (hs : 179 ≤ s.2.1) (k7 : K7 (rs s.1 own 11)) (r : R7 (rs s.1 own 7) t) (hcnt : s.2.2.1 < 3900000000) : Rg thr1 (fun X => X = 7) 7 (fun H t => R7 (H 7) t) own s t 4100 34600 (c_491 151 s) (t_622 t) := by
  obtain ⟨np, sz, mx0, zm0, am0, rl0, nr0, na0, ec, P, Z0, ZP0, A0, RW0, od0, r⟩ := r
  have q := R7_raw r
  obtain ⟨q0, ⟨⟨mp, q1⟩, q12, q13, q14, _⟩, ⟨q2, q22, q23, q24, _⟩, q3, _⟩ := q
  obtain ⟨_, _, _, _, _, _, _, _, _, ⟨mo, q161⟩, na20, _⟩ := q3
  have h151 := q0.1
  have k7' := k7_of k7
  have l151 := wf_lt hw h151
  unfold c_491 t_622
  rw [xI_o (x := t.1 1) h151 rfl rfl, Option.bind_some, may_eq, stays_eq t q0.2.2.1, Option.bind_some]
  by_cases hb : t.1 1 = 0
  · rw [if_pos hb, if_pos hb, if_pos hb]
    refine Or.inr ⟨0, 12, 1, s, own, ⟨rfl, rfl⟩, by simp [exs, isK, kdo, lUpd_at], rfl, Frm.refl hw, ⟨np, sz, mx0, zm0, am0, rl0, nr0, na0, ec, P, Z0, ZP0, A0, RW0, od0, r⟩, Nat.le_add_right _ _, Nat.le_add_right _ _⟩
  · rw [if_neg hb, if_neg hb, if_neg hb]; repeat (first | rw [Option.bind_some] | rw [Sum.elim_inl] | rw [Sum.elim_inr])
    dsimp only
    have hnp : 0 < np := by
      rcases Nat.eq_zero_or_pos np with z | z
      · exact absurd (q14.mpr z) hb
      · exact z
    -- the component's start
    obtain ⟨S1, e1, a1, a2, a3, a4, a5, a6⟩ := nw_o (s := s) 48 [.null, .null, .null] hw
    rw [e1]; repeat (first | rw [Option.bind_some] | rw [Sum.elim_inl] | rw [Sum.elim_inr])
    dsimp only
    rw [if_pos (isK_t a1 rfl)]
    obtain ⟨S2, e2, b1, b2, b3, b4, b5, b6, b7, b8, b9⟩ := c_newM a4 a1
    rw [e2]; repeat (first | rw [Option.bind_some] | rw [Sum.elim_inl] | rw [Sum.elim_inr])
    obtain ⟨S3, e3, c1, c2, c3, c4, c5, c6⟩ := nw_o (s := S2) 87 [.null, .int 0, .int 0, .int 0] b1
    rw [e3]; repeat (first | rw [Option.bind_some] | rw [Sum.elim_inl] | rw [Sum.elim_inr])
    dsimp only
    have x151 : S3.1 151 = _ := (c2 151 (by omega)).trans ((b7 151 (by omega) (by omega)).trans ((a2 151 (by omega)).trans h151))
    rw [xN_o (b := 153) x151 rfl rfl]; repeat (first | rw [Option.bind_some] | rw [Sum.elim_inl] | rw [Sum.elim_inr])
    rw [if_pos (isK_t c1 rfl)]
    unfold c_1008
    rw [xP_c (fs' := [.null, .int 0, .int 0, .int (-1)]) c1 rfl (by simp) rfl]; repeat (first | rw [Option.bind_some] | rw [Sum.elim_inl] | rw [Sum.elim_inr])
    rw [xP_c (fs' := [.ref 153, .int 0, .int 0, .int (-1)]) (cup_eq ..) rfl (by simp) rfl, cupU]; repeat (first | rw [Option.bind_some] | rw [Sum.elim_inl] | rw [Sum.elim_inr])
    rw [if_pos (isK_t (cup_eq S3 S2.2.1 (true, false, 87, [.ref 153, .int 0, .int 0, .int (-1)])) rfl)]
    -- the twin's start
    obtain ⟨T1, f1, f2, f3, f4, f5, wc, bg, en, f6, f7, f8, f9⟩ := t_list (t := ptI t 0 0) q22 q23
    have f9 : Wds (fun i => csO (t.2.2.1 102 i)) sz wc bg en := f9
    unfold t_773
    rw [f1]; repeat (first | rw [Option.bind_some] | rw [Sum.elim_inl] | rw [Sum.elim_inr])
    rw [t_clr]; repeat (first | rw [Option.bind_some] | rw [Sum.elim_inl] | rw [Sum.elim_inr])
    have x153 : (cup S3 S2.2.1 (true, false, 87, [.ref 153, .int 0, .int 0, .int (-1)])).1 153 = some (true, false, 1035, rowC (fun i => .int (t.2.2.1 102 i)) sz) := (cup_ne (by omega)).trans ((c2 153 (by omega)).trans ((b7 153 (by omega) (by omega)).trans ((a2 153 (by omega)).trans q2)))
    have hnx := c_nxtP (r := S2.2.1) (w := 0) x153 q23 f9 (Nat.zero_le _) (fr := 0) (x := -1) (cup_eq ..) (by decide)
    rw [hnx, cupU]; repeat (first | rw [Option.bind_some] | rw [Sum.elim_inl] | rw [Sum.elim_inr])
    have hw3 : wfS (cup S3 S2.2.1 (rdW bg en sz wc 0)) := wf_cup c4 (by omega)
    have hrc := cup_eq S3 S2.2.1 (rdW bg en sz wc 0)
    have hlow : ∀ q, q < s.2.1 → (cup S3 S2.2.1 (rdW bg en sz wc 0)).1 q = s.1 q := fun q hq => (cup_ne (by omega)).trans ((c2 q (by omega)).trans ((b7 q (by omega) (by omega)).trans (a2 q (by omega))))
    have hhi : ∀ q, q ≠ S2.2.1 → (cup S3 S2.2.1 (rdW bg en sz wc 0)).1 q = S2.1 q := fun q hq => (cup_ne hq).trans (c2 q hq)
    have hc3 : (cup S3 S2.2.1 (rdW bg en sz wc 0)).2 = (s.2.1 + 5, S3.2.2.1, S3.2.2.2) := Prod.ext (by show S3.2.1 = _; omega) rfl
    have hl3 : [Value.null, .null, .null].length = 3 := rfl
    have hl4 : [Value.null, .int 0, .int 0, .int 0].length = 4 := rfl
    have hk1 : S3.2.2.1 ≤ s.2.2.1 + 12 := by omega
    have hk2 : S3.2.2.2 ≤ s.2.2.2 + 107 := by omega
    have hrb : S2.2.1 = s.2.1 + 4 := by omega
    rw [hrb] at hrc hw3 hlow hhi hc3 ⊢
    generalize cup S3 (s.2.1 + 4) (rdW bg en sz wc 0) = s0 at hrc hw3 hlow hhi hc3 ⊢
    have g1 : s0.1 s.2.1 = _ := (hhi _ (by omega)).trans b3
    have g2 : s0.1 S1.2.1 = _ := (hhi _ (by omega)).trans b4
    have g3 : s0.1 (S1.2.1 + 1) = _ := (hhi _ (by omega)).trans b5
    have g4 : s0.1 (S1.2.1 + 2) = _ := (hhi _ (by omega)).trans b6
    have n0 : s0.2.1 = s.2.1 + 5 := by rw [hc3]
    have n1 : s0.2.2.1 = S3.2.2.1 := by rw [hc3]
    have n2 : s0.2.2.2 = S3.2.2.2 := by rw [hc3]
    have hU : ∃ U0 : TS, U0 = mkR (ptI (ptI (ptI T1 310 0) 311 (-1)) 322 0) (clV (ptI (ptI (ptI T1 310 0) 311 (-1)) 322 0).2.2.1 20) := ⟨_, rfl⟩
    obtain ⟨U0, hU⟩ := hU
    rw [← hU]
    have u1 : ∀ c, c ≠ 0 → c ≠ 307 → c ≠ 310 → c ≠ 311 → c ≠ 322 → U0.1 c = t.1 c := fun c z0 z1 z2 z3 z4 => by
      rw [hU]
      show (if c = 322 then (0 : Int32) else if c = 311 then -1 else if c = 310 then 0 else T1.1 c) = _
      rw [if_neg z4, if_neg z3, if_neg z2, f2 c z1, pt_1, if_neg z0]
    have u2 : ∀ c j, U0.2.2.1 c j = if (c = 105 ∨ c = 109) ∧ 20 ≤ j ∧ j < 20 + 20 then 0 else T1.2.2.1 c j := fun c j => by rw [hU]; rfl
    have u3 : ∀ c, c ≠ 103 → c ≠ 104 → T1.2.2.1 c = t.2.2.1 c := fun c z1 z2 => (f4 c z1 z2).trans rfl
    have u0 : U0.1 0 = 0 := by rw [hU]; exact (f2 0 (by omega)).trans rfl
    have u310 : U0.1 310 = Int32.ofNat 0 := by rw [hU]; rfl
    have u311 : U0.1 311 = -1 := by rw [hU]; rfl
    have u322 : U0.1 322 = 0 := by rw [hU]; rfl
    have u307 : U0.1 307 = Int32.ofNat wc := by rw [hU]; exact f7
    have u102 : U0.2.2.1 102 = t.2.2.1 102 := funext (fun j => by rw [u2, if_neg (by omega), u3 102 (by omega) (by omega)])
    have uL : U0.2.1 = t.2.1 := by rw [hU]; exact f3
    have uL2 : U0.2.2.2 = t.2.2.2 := by rw [hU]; exact f5
    have hTW : TWd U0 sz wc 0 bg en := by
      refine ⟨u307, u310, Nat.zero_le _, f6, q23, fun w hwc => ?_, by rw [u102]; exact q24, by rw [u102]; exact f9⟩
      rw [u2, u2, if_neg (by omega), if_neg (by omega)]
      exact f8 w hwc
    have hBs : Bse s0 s.2.1 sz np (U0.2.2.1 102) := by
      refine ⟨hs, ⟨_, (hlow 151 (by omega)).trans h151⟩, ⟨mp, _, (hlow 152 (by omega)).trans q1⟩, by rw [u102]; exact (hlow 153 (by omega)).trans q2, fun p hp => ?_, hnp, q13⟩
      have : p.1 < 60 := by
        have : ∀ p ∈ sTab7, p.1 < 60 := by decide
        exact this p hp
      exact (hlow _ (by omega)).trans (k7'.2.2.2.1 p hp)
    have hRM : RM s0.1 (vwT U0) np s.2.1 s.2.1 S1.2.1 (S1.2.1 + 1) (S1.2.1 + 2) 0 id id id id := by
      refine RM_new g1 ⟨by omega, by omega, by omega, by omega, by omega⟩ g2 g3 g4 u322 (fun z hz => ?_)
      show U0.2.2.1 105 (20 + z) = 0 ∧ U0.2.2.1 109 (20 + z) = 0
      rw [u2, u2, if_pos (by omega), if_pos (by omega)]
      exact ⟨rfl, rfl⟩
    have hRd : Rd s0 U0 s.2.1 (s.2.1 + 4) s.2.1 S1.2.1 (S1.2.1 + 1) (S1.2.1 + 2) sz wc np bg en 0 s0 U0 0 id id id id :=
      ⟨⟨hTW, by rw [u311]; decide, FrU.refl _, fun _ _ => rfl, hw3, Nat.le_refl _, by omega, hrc⟩, hRM, by omega, by omega⟩
    have hB : ec + dnC t (-1) ≤ 40 * bN (t.1 301) := r.2.2.2.2.2.2.2.2.2
    -- what holds of the old matrix while the twin's lower halves stay
    have hpw : ∀ (S : CS) (T : TS), (∀ q, q < s.2.1 → S.1 q = s.1 q) → FrU U0 T → R7b (rs S.1 (owB own s.2.1) 7) T np sz mx0 zm0 am0 rl0 nr0 na0 ec P Z0 ZP0 A0 RW0 od0 (40 * bN (t.1 301)) := by
      intro S T hS hT
      refine R7b_pw r (fun q c h => ?_) (fun c hc => ?_) (fun c j z1 z2 z3 => ?_)
      · obtain ⟨o1, o2⟩ := rs_in h
        have := wf_lt hw o1
        exact rs_some.mpr ⟨by unfold owB; rw [if_neg (by omega)]; exact o2, by rw [hS q this]; exact o1⟩
      · rw [hT.1 c (by omega) (by omega) (by omega)]
        exact u1 c (by omega) (by omega) (by omega) (by omega) (by omega)
      · rw [hT.2.2.1 c j z3, u2, if_neg (fun z => z3 (by unfold upE; omega)), u3 c z1 z2]
    have hrt : ∀ (T : TS), FrU U0 T → ∀ Z, Z ≠ 7 → Z ≠ 99 → rt T Z = rt t Z := by
      intro T hT Z h7 h9
      exact rt_w (fun c z0 z1 => by rw [hT.1 c (by omega) (by omega) (by omega)]; exact u1 c z0 (by omega) (by omega) (by omega) (by omega)) (by rw [hT.2.1, uL]) (fun c j z => by rw [hT.2.2.1 c j (by unfold upE; omega), u2, if_neg (by omega), u3 c (by omega) (by omega)]) (by rw [hT.2.2.2, uL2]) h7 h9
    have hfr : ∀ S : CS, (∀ q, q < s.2.1 → q ≠ 151 → q ≠ 161 → S.1 q = s.1 q) → s.2.1 ≤ S.2.1 → wfS S → Frm (fun X => X = 7) own (owB own s.2.1) s S := by
      intro S hS hn hwS
      have o151 := (rs_in r.1.1).2
      obtain ⟨_, _, _, _, _, _, _, _, _, ⟨mo', w14⟩, _⟩ := r.2.2.2.1
      have o161 := (rs_in w14).2
      refine ⟨hn, fun a ha => by unfold owB; rw [if_neg (by omega)], fun a ha hx => hS a ha (fun z => hx (by rw [z]; exact o151)) (fun z => hx (by rw [z]; exact o161)), fun a h1 h2 => by unfold owB; rw [if_pos h1], hwS⟩
    rcases rd_loop hBs (by omega) (by rw [u1 300 (by omega) (by omega) (by omega) (by omega) (by omega)]; exact q12) _ 0 s0 U0 0 id id id id rfl hRd with ⟨s', U', nr, Z, ZP, A, RW, l1, l2, l3⟩ | ⟨e, s', U', l1, l2, l3⟩
    · rw [show wh (mtF (s.2.1 + 4) s.2.1) s0 = _ from l1, show wh mtG U0 = _ from l2]; repeat (first | rw [Option.bind_some] | rw [Sum.elim_inl] | rw [Sum.elim_inr])
      obtain ⟨M, rm, kc1, kc2⟩ := l3
      have hlow' : ∀ q, q < s.2.1 → s'.1 q = s.1 q := fun q hq => (M.2.2.2.1 q hq).trans (hlow q hq)
      have hw' := M.2.2.2.2.1
      have hn' := M.2.2.2.2.2.1
      have y151 : s'.1 151 = _ := (hlow' 151 l151).trans h151
      have rm' := rm
      obtain ⟨m1, m2, _, _, ⟨mrl, m9⟩, m10, m11, m12, _, m14, _⟩ := rm'
      have m10 : U'.1 322 = Int32.ofNat nr := m10
      rw [if_pos M.2.1, adv_out (fun z hz => ⟨(m12 z hz).1, (m12 z hz).2.1⟩) m10 m11]; repeat (first | rw [Option.bind_some] | rw [Sum.elim_inl] | rw [Sum.elim_inr])
      rw [xP_c (fs' := [.ref 152, .ref 153, .ref s.2.1, .ref 158, .ref 159, .ref 160, .int (Int32.ofNat ec), .ref 161, .int (t.1 301), .int (t.1 1), .ref 115, .ref 120]) y151 rfl (by simp) rfl]; repeat (first | rw [Option.bind_some] | rw [Sum.elim_inl] | rw [Sum.elim_inr])
      have z151 := cup_eq s' 151 (true, false, 47, [.ref 152, .ref 153, .ref s.2.1, .ref 158, .ref 159, .ref 160, .int (Int32.ofNat ec), .ref 161, .int (t.1 301), .int (t.1 1), .ref 115, .ref 120])
      have l161 := wf_lt hw q161
      have z161 : (cup s' 151 (true, false, 47, [.ref 152, .ref 153, .ref s.2.1, .ref 158, .ref 159, .ref 160, .int (Int32.ofNat ec), .ref 161, .int (t.1 301), .int (t.1 1), .ref 115, .ref 120])).1 161 = _ := (cup_ne (by omega)).trans ((hlow' 161 l161).trans q161)
      rw [xN_o (b := 161) z151 rfl rfl]; repeat (first | rw [Option.bind_some] | rw [Sum.elim_inl] | rw [Sum.elim_inr])
      rw [if_pos (isK_t z161 rfl), alClear_r z161]; repeat (first | rw [Option.bind_some] | rw [Sum.elim_inl] | rw [Sum.elim_inr])
      have hSb : ∃ Sb, Sb = cput (cup s' 151 (true, false, 47, [.ref 152, .ref 153, .ref s.2.1, .ref 158, .ref 159, .ref 160, .int (Int32.ofNat ec), .ref 161, .int (t.1 301), .int (t.1 1), .ref 115, .ref 120])) 1013 161 0 0 [.int (mo + 1)] := ⟨_, rfl⟩
      obtain ⟨Sb, hSb⟩ := hSb
      rw [← hSb]
      have v1 : ∀ q, q ≠ 151 → q ≠ 161 → Sb.1 q = s'.1 q := fun q z1 z2 => by rw [hSb, cput_ne z2, cup_ne z1]
      have v2 : Sb.1 151 = some (true, false, 47, [.ref 152, .ref 153, .ref s.2.1, .ref 158, .ref 159, .ref 160, .int (Int32.ofNat ec), .ref 161, .int (t.1 301), .int (t.1 1), .ref 115, .ref 120]) := by rw [hSb]; exact (cput_ne (by omega)).trans z151
      have v3 : Sb.1 161 = some (true, false, 1013, [.int (mo + 1)]) := by rw [hSb]; exact cput_eq ..
      have v4 : Sb.2 = s'.2 := by rw [hSb]; rfl
      have v5 : wfS Sb := by rw [hSb]; exact wf_cup (wf_cup hw' (by omega)) (by show 161 < s'.2.1; omega)
      have v6 : Sb.2.1 = s'.2.1 := by rw [v4]
      have v7 : Sb.2.2.1 = s'.2.2.1 := by rw [v4]
      have v8 : Sb.2.2.2 = s'.2.2.2 := by rw [v4]
      have rb : RM Sb.1 (vwT U') np s.2.1 s.2.1 S1.2.1 (S1.2.1 + 1) (S1.2.1 + 2) nr Z ZP A RW := RM_cgB rm (fun q c h1 h2 => by rw [v1 q (by omega) (by omega)]; exact h2)
      obtain ⟨S, mc, es, r1, r2, r3, r4, r5, r6, r7, r8, r9⟩ := c_rank v5 rb (by have := f6; omega)
      rw [if_pos (isK_t rb.1 rfl), r1]; repeat (first | rw [Option.bind_some] | rw [Sum.elim_inl] | rw [Sum.elim_inr])
      dsimp only
      rw [if_pos (isK_t r5 rfl), tmVw_l r5]; repeat (first | rw [Option.bind_some] | rw [Sum.elim_inl] | rw [Sum.elim_inr])
      rw [tmMc_l (s := chg S 1 1) r5]; repeat (first | rw [Option.bind_some] | rw [Sum.elim_inl] | rw [Sum.elim_inr])
      dsimp only
      obtain ⟨od, o1, o2, o3⟩ := od_of r6 (fun a ha hta => (rb.2.2.2.2.2.2.2.2.2.1 a ha hta).1)
      have hl20 : es.length ≤ 20 := by
        rw [r7]; unfold tolL
        exact Nat.le_trans (List.length_filter_le _ _) (by simp)
      have w151 : S.1 151 = _ := (r4 151 (by omega)).trans v2
      have w161 : S.1 161 = _ := (r4 161 (by omega)).trans v3
      obtain ⟨S', mo', p1, p2⟩ := c_fill (S := chg (chg S 1 1) 1 4) (k := Sb.2.1) w151 rfl w161 r5 (by omega) hl20 (by show S.2.2.1 + 1 + 1 < _; have := f6; omega) (fun i => A (od i)) (fun i hi => by
        obtain ⟨y1, y2, y3⟩ := o2 i hi
        have hA := rb.2.2.2.2.2.2.2.2.2.1 _ y1 y2
        exact ⟨o1 i hi, by omega, _, (r4 _ (wf_lt v5 hA.1)).trans hA.1⟩)
      have p1 := p1
      rw [p1]; repeat (first | rw [Option.bind_some] | rw [Sum.elim_inl] | rw [Sum.elim_inr])
      have x1 : S'.1 s.2.1 = some (true, false, 48, [.ref S1.2.1, .ref (S1.2.1 + 1), .ref (S1.2.1 + 2)]) := by rw [p2, cput_ne (by omega)]; exact (r4 _ (by omega)).trans rb.1
      have x2 : S'.1 (S1.2.1 + 2) = some (true, false, 1013, .int mrl :: rowC (fun r => .ref (RW r)) nr) := by rw [p2, cput_ne (by omega)]; exact (r4 _ (by omega)).trans ((v1 _ (by omega) (by omega)).trans m9)
      rw [xN_o (b := S1.2.1 + 2) x1 rfl rfl]; repeat (first | rw [Option.bind_some] | rw [Sum.elim_inl] | rw [Sum.elim_inr])
      rw [if_pos (isK_t x2 rfl), alSize_r x2]; repeat (first | rw [Option.bind_some] | rw [Sum.elim_inl] | rw [Sum.elim_inr])
      have hq : ∀ q, q ≠ 151 → q ≠ 161 → q < s'.2.1 → S'.1 q = s'.1 q := fun q z1 z2 z3 => by
        rw [p2, cput_ne z2]; exact (r4 q (by omega)).trans (v1 q z1 z2)
      have hS'2 : S'.2.1 = s'.2.1 + 1 := by rw [p2]; show S.2.1 = _; omega
      have hS'3 : S'.2.2.1 = S.2.2.1 + 2 + es.length := by rw [p2]; rfl
      have hS'4 : S'.2.2.2 = S.2.2.2 + 5 + 16 * es.length := by rw [p2]; rfl
      have hwS' : wfS S' := by rw [p2]; exact wf_cup r2 (by show 161 < S.2.1; omega)
      have h161 : S'.1 161 = some (true, false, 1013, .int mo' :: rowC (fun i => .ref (A (od i))) es.length) := by rw [p2, cput_eq]
      have h151' : S'.1 151 = some (true, false, 47, [.ref 152, .ref 153, .ref s.2.1, .ref 158, .ref 159, .ref 160, .int (Int32.ofNat ec), .ref 161, .int (t.1 301), .int (t.1 1), .ref 115, .ref 120]) := by rw [p2, cput_ne (by omega)]; exact w151
      clear p1 p2
      have hT : ∃ T : TS, T = mkR (ptI U' 321 (Int32.ofNat nr)) (fun c j => if 114 ≤ c ∧ c ≤ 116 ∧ j < nr then U'.2.2.1 c (50 + j) else adV U'.2.2.1 20 c j) := ⟨_, rfl⟩
      obtain ⟨T, hT⟩ := hT
      rw [← hT]
      have t1 : ∀ c, c ≠ 321 → T.1 c = U'.1 c := fun c z => by rw [hT]; exact if_neg z
      have t2 : T.1 321 = Int32.ofNat nr := by rw [hT]; rfl
      have t3 : ∀ c j, T.2.2.1 c j = if 114 ≤ c ∧ c ≤ 116 ∧ j < nr then U'.2.2.1 c (50 + j) else adV U'.2.2.1 20 c j := fun c j => by rw [hT]; rfl
      have t4 : T.2.1 = U'.2.1 ∧ T.2.2.2 = U'.2.2.2 := by rw [hT]; exact ⟨rfl, rfl⟩
      clear hT
      have t5 : ∀ c j, (c < 105 ∨ 120 < c) → T.2.2.1 c j = U'.2.2.1 c j := fun c j z => by
        rw [t3, if_neg (by omega)]
        unfold adV
        rw [if_neg (by omega), if_neg (by omega), if_neg (by omega)]
      have t6 : ∀ c, c ≠ 103 → c ≠ 104 → (c < 105 ∨ 120 < c) → T.2.2.1 c = t.2.2.1 c := fun c z1 z2 z => funext (fun j => by
        rw [t5 c j z, M.2.2.1.row (by omega), u2, if_neg (by omega), u3 c z1 z2])
      have t7 : ∀ c, c ≠ 0 → c ≠ 307 → c ≠ 310 → c ≠ 311 → c ≠ 322 → c ≠ 321 → T.1 c = t.1 c := fun c z0 z1 z2 z3 z4 z5 => by
        rw [t1 c z5, M.2.2.1.1 c z2 z3 z4]; exact u1 c z0 z1 z2 z3 z4
      have tw : ∀ c j, (c ≠ 108 ∧ c ≠ 113) → (105 ≤ c ∧ c ≤ 113) ∨ (117 ≤ c ∧ c ≤ 120) → j < 20 → T.2.2.1 c j = (vwT U').2.2.1 c j := by
        intro c j z1 z2 z3
        rw [t3, if_neg (by omega)]
        unfold adV vwT
        dsimp only
        rw [if_neg z1.1, if_neg z1.1]
        by_cases y : 105 ≤ c ∧ c ≤ 113
        · rw [if_pos y, if_pos z3, if_neg z1.2, if_pos y]
        · rw [if_neg y, if_neg y, if_pos (show 117 ≤ c ∧ c ≤ 120 by omega), if_pos z3, if_neg (show ¬ (114 ≤ c ∧ c ≤ 116) by omega), if_pos (show 117 ≤ c ∧ c ≤ 120 by omega)]
      have o161' : owB own s.2.1 161 = 7 := by
        obtain ⟨_, _, _, _, _, _, _, _, _, ⟨mo2, w14⟩, _⟩ := r.2.2.2.1
        unfold owB
        rw [if_neg (by omega)]
        exact (rs_in w14).2
      obtain ⟨fW3, fW4⟩ := RM_W (h' := rs S'.1 (owB own s.2.1) 7) (T := T) rm hs (fun q c h1 h2 => rs_some.mpr ⟨by unfold owB; rw [if_pos h1], by rw [hq q (by omega) (by omega) (wf_lt hw' h2)]; exact h2⟩) t2 (fun j hj hta => by
          have := (m14 j hj hta).2.2.2.2.2.1
          have e113 : (vwT U').2.2.1 113 j = U'.2.2.1 113 (20 + j) := rfl
          rw [t3, if_neg (by omega), e113]
          unfold adV
          rw [if_neg (by omega), if_pos (by omega), if_pos hj, if_pos rfl]
          rw [e113] at this
          rcases this with z | z <;> rw [z] <;> rfl) tw (fun j hj => by
          rw [t3, if_neg (by omega)]
          unfold adV
          rw [if_pos rfl, if_pos (by omega)]; rfl) (fun c j z1 z2 z3 => by
          rw [t3, if_pos ⟨z1, z2, z3⟩]
          unfold vwT
          dsimp only
          rw [if_neg (by omega), if_neg (by omega), if_pos (by omega)]) ⟨mo', rs_some.mpr ⟨o161', h161⟩⟩ hl20 (fun i hi => o2 i hi) o3
      · have o151 := (rs_in r.1.1).2
        have own161 : own 161 = 7 := by
          obtain ⟨_, _, _, _, _, _, _, _, _, ⟨mo2, w14⟩, _⟩ := r.2.2.2.1
          exact (rs_in w14).2
        have hdn : dnC T (-1) = 0 := by
          unfold dnC
          rw [List.length_eq_zero_iff, List.filter_eq_nil_iff]
          intro a ha
          have ha := List.mem_range.mp ha
          unfold dnB
          rw [tw 117 a (by omega) (by omega) ha, show (vwT U').2.2.1 117 a = 0 from rfl]
          simp
        have hF : ∀ q c, rs s.1 own 7 q = some c → q ≠ 151 → q ≠ 161 → rs S'.1 (owB own s.2.1) 7 q = some c := by
          intro q c h z1 z2
          obtain ⟨y1, y2⟩ := rs_in h
          have := wf_lt hw y1
          exact rs_some.mpr ⟨by unfold owB; rw [if_neg (by omega)]; exact y2, by rw [hq q z1 z2 (by omega), hlow' q this]; exact y1⟩
        obtain ⟨⟨_, d2, d3, _⟩, ⟨⟨mp', d5⟩, d6, d7, d8, d9, d10, d11⟩, ⟨d12, d13, d14, d15, d16⟩, _, _, ⟨⟨g1, x5, x6⟩, ⟨g2, x7, x8⟩, ⟨g3, x9, x10⟩, x11, x12⟩⟩ := r
        refine Or.inl ⟨_, S', T, owB own s.2.1, rfl, by rw [t2], ?_, fun Y hY h9 => ?_, hfr S' (fun q z1 z2 z3 => (hq q z2 z3 (by omega)).trans (hlow' q z1)) (by omega) hwS', ⟨np, sz, s.2.1, S1.2.1, S1.2.1 + 1, S1.2.1 + 2, nr, es.length, ec, P, Z, ZP, A, RW, od, ⟨rs_some.mpr ⟨by unfold owB; rw [if_neg (by omega)]; exact o151, ?_⟩, ?_, ?_, fun z => absurd ?_ hb⟩, ⟨⟨mp', hF _ _ d5 (by omega) (by omega)⟩, ?_, d7, ?_, fun k hk => ?_, d10, ?_⟩, ⟨?_, ?_, d14, ?_, ?_⟩, fW3, fW4, ⟨g1, hF _ _ x5 (by omega) (by omega), ?_⟩, ⟨g2, hF _ _ x7 (by omega) (by omega), ?_⟩, ⟨g3, hF _ _ x9 (by omega) (by omega), ?_⟩, ?_, ?_⟩, ?_, ?_⟩
        · rw [t1 0 (by omega), M.2.2.1.1 0 (by omega) (by omega) (by omega)]; exact u0
        · exact rt_w (fun c z0 z1 => t7 c z0 (by omega) (by omega) (by omega) (by omega) (by omega)) (by rw [t4.1, M.2.2.1.2.1, uL]) (fun c j z => by rw [t6 c (by omega) (by omega) (by omega)]) (by rw [t4.2, M.2.2.1.2.2.2, uL2]) hY h9
        · rw [h151', t7 301 (by omega) (by omega) (by omega) (by omega) (by omega) (by omega), t7 1 (by omega) (by omega) (by omega) (by omega) (by omega) (by omega)]
        · rw [t7 301 (by omega) (by omega) (by omega) (by omega) (by omega) (by omega)]; exact d2
        · rw [t7 1 (by omega) (by omega) (by omega) (by omega) (by omega) (by omega)]; exact d3
        · rw [← t7 1 (by omega) (by omega) (by omega) (by omega) (by omega) (by omega)]; exact z
        · rw [t7 300 (by omega) (by omega) (by omega) (by omega) (by omega) (by omega)]; exact d6
        · rw [t7 1 (by omega) (by omega) (by omega) (by omega) (by omega) (by omega)]; exact d8
        · have hp := d9 k hk
          unfold ptC at *
          rw [t6 99 (by omega) (by omega) (by omega), t6 100 (by omega) (by omega) (by omega), t6 101 (by omega) (by omega) (by omega)]
          exact ⟨hF _ _ hp.1 (by omega) (by omega), hp.2⟩
        · rw [t6 99 (by omega) (by omega) (by omega), t6 100 (by omega) (by omega) (by omega), t6 101 (by omega) (by omega) (by omega)]; exact d11
        · rw [t6 102 (by omega) (by omega) (by omega)]; exact hF _ _ d12 (by omega) (by omega)
        · rw [t7 306 (by omega) (by omega) (by omega) (by omega) (by omega) (by omega)]; exact d13
        · rw [t6 102 (by omega) (by omega) (by omega)]; exact d15
        · rw [t7 1 (by omega) (by omega) (by omega) (by omega) (by omega) (by omega)]; exact d16
        · rw [t6 121 (by omega) (by omega) (by omega)]; exact x6
        · rw [t6 122 (by omega) (by omega) (by omega)]; exact x8
        · rw [t6 123 (by omega) (by omega) (by omega)]; exact x10
        · rw [t7 330 (by omega) (by omega) (by omega) (by omega) (by omega) (by omega)]; exact x11
        · rw [hdn, t7 301 (by omega) (by omega) (by omega) (by omega) (by omega) (by omega)]; omega
        · omega
        · omega
    · rw [show wh (mtF (s.2.1 + 4) s.2.1) s0 = _ from l1, show wh mtG U0 = _ from l2]; repeat (first | rw [Option.bind_some] | rw [Sum.elim_inl] | rw [Sum.elim_inr])
      obtain ⟨k1, ⟨n, hn, hn2, a, b, c, d, e', f, he⟩, k3, k4, k5, k6, k8⟩ := l3
      have hlow' : ∀ q, q < s.2.1 → s'.1 q = s.1 q := fun q hq => (k3 q hq).trans (hlow q hq)
      rw [if_neg (show ¬ U'.1 311 < 0 by rw [hn2]; exact i_nlt0 (by omega)), xI_o (x := Int32.ofNat n) he rfl rfl]; repeat (first | rw [Option.bind_some] | rw [Sum.elim_inl] | rw [Sum.elim_inr])
      refine Or.inl ⟨_, s', U', owB own s.2.1, rfl, by rw [hn2], ?_, fun Z hZ h9 => hrt U' k1 Z hZ h9, hfr s' (fun q hq _ _ => hlow' q hq) (by omega) k4, ⟨np, sz, mx0, zm0, am0, rl0, nr0, na0, ec, P, Z0, ZP0, A0, RW0, od0, ?_⟩, by omega, by omega⟩
      · rw [k1.1 0 (by omega) (by omega) (by omega)]; exact u0
      · show R7b _ _ _ _ _ _ _ _ _ _ _ _ _ _ _ _ _ (40 * bN (U'.1 301))
        rw [k1.1 301 (by omega) (by omega) (by omega), u1 301 (by omega) (by omega) (by omega) (by omega) (by omega)]
        exact hpw s' U' hlow' k1
end
