/-! the warden: a new row -/
theorem RM_row {h h' : lHeap} {V V' : TS} {np b0 mx zm am rl nr n y1 a : Nat} {i2 mc' : Int32} {Z ZP A RW : Nat → Nat} (r : RM h V np b0 mx zm am rl nr Z ZP A RW) (hnr : nr < 50) (k : ∀ q c, q ≠ rl → c.2.2.1 ≠ 87 → h q = some c → h' q = some c) (hb : b0 ≤ n) (h1 : V'.1 321 = Int32.ofNat (nr + 1)) (h2 : ∀ c j, V'.2.2.1 c j = if c = 116 ∧ j = nr then Int32.ofNat a else if c = 115 ∧ j = nr then i2 else if c = 114 ∧ j = nr then Int32.ofNat y1 else V.2.2.1 c j) (hy : y1 < 20 ∧ V.2.2.1 105 y1 = 1) (hi : i2 = -1 ∨ ∃ y2, y2 < 20 ∧ i2 = Int32.ofNat y2 ∧ V.2.2.1 105 y2 = 1) (ha : a < 20 ∧ V.2.2.1 109 a = 1) (h5 : h' n = some (true, false, 92, [.ref (Z y1), if i2 = -1 then .null else .ref (Z (bN i2)), .ref (A a)])) (h6 : h' rl = some (true, false, 1013, .int mc' :: rowC (fun j => if j = nr then .ref n else .ref (RW j)) (nr + 1))) : RM h' V' np b0 mx zm am rl (nr + 1) Z ZP A (fun j => if j = nr then n else RW j) := by
  obtain ⟨m1, m2, ⟨mz, ez, m3, m4, m5⟩, ⟨ma, ea, m6, m7, m8⟩, ⟨mr, m9⟩, m10, m11, m12, m13, m14, m15⟩ := r
  have e : ∀ c, ¬ (114 ≤ c ∧ c ≤ 116) → V'.2.2.1 c = V.2.2.1 c := fun c hc => funext (fun j => by rw [h2, if_neg (by omega), if_neg (by omega), if_neg (by omega)])
  have K : ∀ q c, c.2.2.1 ≠ 1013 → c.2.2.1 ≠ 87 → h q = some c → h' q = some c := fun q c z1 z2 z3 => k q c (fun z => z1 (by rw [z, m9] at z3; rw [← Option.some.inj z3])) z2 z3
  have bn : ∀ j, j < 20 → bN (Int32.ofNat j) = j := fun j hj => bN_of (by omega)
  unfold RM W3z zonC actC okAct
  rw [e 105 (by omega), e 106 (by omega), e 107 (by omega), e 108 (by omega), e 109 (by omega), e 110 (by omega), e 111 (by omega), e 112 (by omega), e 113 (by omega), e 117 (by omega), e 118 (by omega), e 119 (by omega), e 120 (by omega)]
  refine ⟨K _ _ (by simp) (by simp) m1, m2, ⟨mz, ez, K _ _ (by simp) (by simp) m3, m4, m5⟩, ⟨ma, ea, K _ _ (by simp) (by simp) m6, m7, m8⟩, ⟨mc', ?_⟩, h1, hnr, fun z hz => ?_, fun q hq => ?_, fun b hb y => ?_, m15⟩
  · rw [h6]
    refine congrArg (fun l => some (true, false, 1013, Value.int mc' :: l)) (rowC_congr (fun j hj => ?_))
    dsimp only
    by_cases x : j = nr
    · rw [if_pos x, if_pos x]
    · rw [if_neg x, if_neg x]
  · obtain ⟨a1, a2, a3⟩ := m12 z hz
    refine ⟨a1, a2, fun y => ?_⟩
    obtain ⟨⟨b1, b2, b3, b4, n, b5, b6, ⟨mc, b7⟩, b8⟩, b9⟩ := a3 y
    exact ⟨⟨K _ _ (by show (90 : Nat) ≠ 1013; decide) (by show (90 : Nat) ≠ 87; decide) b1, b2, b3, b4, n, b5, b6, ⟨mc, k _ _ b9.2.2 (by simp) b7⟩, b8⟩, b9⟩
  · dsimp only
    by_cases x : q = nr
    · have e4 : V'.2.2.1 114 q = Int32.ofNat y1 := by rw [h2, if_neg (by omega), if_neg (by omega), if_pos ⟨rfl, x⟩]
      have e5 : V'.2.2.1 115 q = i2 := by rw [h2, if_neg (by omega), if_pos ⟨rfl, x⟩]
      have e6 : V'.2.2.1 116 q = Int32.ofNat a := by rw [h2, if_pos ⟨rfl, x⟩]
      unfold rowK
      rw [if_pos x, e4, e5, e6, bn _ hy.1, bn _ ha.1]
      refine ⟨h5, hb, ⟨⟨y1, hy.1, rfl⟩, hy.2⟩, ?_, ⟨a, ha.1, rfl⟩, ha.2⟩
      rcases hi with z | ⟨y2, z1, z2, z3⟩
      · exact Or.inl z
      · exact Or.inr ⟨⟨y2, z1, z2⟩, by rw [z2, bn _ z1]; exact z3⟩
    · have e4 : V'.2.2.1 114 q = V.2.2.1 114 q := by rw [h2, if_neg (by omega), if_neg (by omega), if_neg (by omega)]
      have e5 : V'.2.2.1 115 q = V.2.2.1 115 q := by rw [h2, if_neg (by omega), if_neg (by omega), if_neg (by omega)]
      have e6 : V'.2.2.1 116 q = V.2.2.1 116 q := by rw [h2, if_neg (by omega), if_neg (by omega), if_neg (by omega)]
      obtain ⟨a1, a2⟩ := m13 q (by omega)
      unfold rowK at a1 ⊢
      rw [if_neg x, e4, e5, e6]
      exact ⟨K _ _ (by simp) (by simp) a1, a2⟩
  · obtain ⟨a1, a2⟩ := m14 b hb y
    exact ⟨K _ _ (by show (91 : Nat) ≠ 1013; decide) (by show (91 : Nat) ≠ 87; decide) a1, a2⟩
section
variable {s0 s : CS} {U0 U : TS} {b0 r mx zm am rl sz wc w np nr x : Nat} {bg en Z ZP A RW : Nat → Nat}
/-- from `does` on -/
theorem rd_row2 (B : Bse s0 b0 sz np (U0.2.2.1 102)) (hb0 : b0 ≤ s0.2.1) (R : Rd s0 U0 b0 r mx zm am rl sz wc np bg en x s U nr Z ZP A RW) (hx : w ≤ x) (hnr : nr < 50) {y1 : Nat} (hy : y1 < 20 ∧ U.2.2.1 105 (20 + y1) = 1) {o2 : Option Nat} {i2 : Int32} (h2 : (o2 = none ∧ i2 = -1) ∨ ∃ y2, y2 < 20 ∧ U.2.2.1 105 (20 + y2) = 1 ∧ o2 = some (Z y2) ∧ i2 = Int32.ofNat y2) :
    OutR s0 U0 b0 r mx zm am rl sz wc np bg en w (if isK s [87] r = true then Option.bind (c_1017 r 58 s) (Sum.elim (fun x7 => Option.bind (c_497 r mx x7) (Sum.elim (fun x9 => (if isK x9.2 [87] r = true then Option.bind (c_1009 r x9.2) (fun x11 => (if isK x11 [87] r = true then Option.bind (c_1017 r 51 x11) (Sum.elim (fun x12 => Option.bind (xN x12 [(48, 2)] mx) (fun a14 => Option.bind (some (nw x12 92 [.null, .null, .null])) (fun n15 => Option.bind (some (Z y1)) (fun a16 => Option.bind (x9.1) (fun a17 => (if isK n15.2 [92] n15.1 = true then Option.bind (c_1061 n15.1 a16 o2 a17 n15.2) (fun x18 => (if isK x18 [13] a14 = true then Option.bind (alAdd x18 a14 (.ref n15.1)) (fun s19 => some (.inl s19)) else none)) else none)))))) (fun q13 => some (.inr (q13.1, q13.2)))) else none)) else none)) (fun q10 => some (.inr (q10.1, q10.2))))) (fun q8 => some (.inr (q8.1, q8.2)))) else none)
    (Option.bind (t_781 628196 U) (fun x5 => Option.bind ((if (x5.1 311) < 0 then Option.bind (t_779 0 19 x5) (fun x6 => some (x6.2, x6.1)) else some (x5, -1))) (fun v35 => Option.bind ((if (v35.1.1 311) < 0 then Option.bind (rdI v35.1 109 40 (20 + v35.2)) (fun x7 => Option.bind (t_780 x7 v35.1) (fun x8 => (if x8.1 = 0 then some x8.2 else Option.bind (some (ptI x8.2 310 ((x8.2.1 310) + 1))) (fun s9 => some s9)))) else some v35.1)) (fun v54 => Option.bind (t_786 v54) (fun x10 => (if (x10.1 311) < 0 then Option.bind (stI x10 114 100 (50 + (x10.1 322)) (Int32.ofNat y1)) (fun s11 => Option.bind (stI s11 115 100 (50 + (s11.1 322)) i2) (fun s12 => Option.bind (stI s12 116 100 (50 + (s12.1 322)) v35.2) (fun s13 => Option.bind (some (ptI s13 322 ((s13.1 322) + 1))) (fun s14 => some s14)))) else some x10)))))) := by
  obtain ⟨M, rm, k1, k2⟩ := R
  have hwc := M.1.2.2.1
  have hws := M.1.2.2.2.1
  have hsz := M.1.2.2.2.2.1
  have hr := M.2.2.2.2.2.2.2
  have hs0 := M.2.2.2.2.2.1
  rw [if_pos (isK_t hr rfl)]
  rcases md_tak B M (q := 58) (l := [100, 111, 101, 115]) (k := 628196) (by decide) (by decide) (by decide) (by decide) (by decide) with ⟨q3, e7, e8⟩ | ⟨e7, e8⟩
  · rw [e7, e8]; repeat (first | rw [Option.bind_some] | rw [Sum.elim_inl] | rw [Sum.elim_inr])
    have M1 := Md_nx M q3
    have r1 := RM_cg (V' := vwT (ptI U 310 (Int32.ofNat (x + 1)))) rm (hK_nx M) rfl rfl
    have q1 : (nxC r sz wc bg en x s).2 = s.2 := rfl
    have hy1 : y1 < 20 ∧ (ptI U 310 (Int32.ofNat (x + 1))).2.2.1 105 (20 + y1) = 1 := hy
    have h21 : (o2 = none ∧ i2 = -1) ∨ ∃ y2, y2 < 20 ∧ (ptI U 310 (Int32.ofNat (x + 1))).2.2.1 105 (20 + y2) = 1 ∧ o2 = some (Z y2) ∧ i2 = Int32.ofNat y2 := h2
    generalize nxC r sz wc bg en x s = s1 at M1 r1 q1 ⊢
    generalize ptI U 310 (Int32.ofNat (x + 1)) = U1 at M1 r1 hy1 h21 ⊢
    clear e7 e8 h2 hy
    have hx1 := Md_tx B M1
    have hr1 := M1.2.2.2.2.2.2.2
    obtain ⟨f1, f2⟩ := c_acA M1.2.2.2.2.1 M1.1 hx1 hr1 r1
    rw [if_pos M1.2.1]
    rcases md_pk B M1 19 (by omega) with ⟨q4, v, hv, e3, e4, e5, e6⟩ | ⟨e3, e4, e6⟩
    · have e4 : t_779 0 19 U1 = some (Int32.ofNat v, U1) := e4
      obtain ⟨g1, g2⟩ := f2 v (by omega) e6 e5
      have d1 : (20 : Int32) + Int32.ofNat v = Int32.ofNat (20 + v) := i_add 20 v
      have h109 := (r1.2.2.2.2.2.2.2.1 v (by omega)).2.1
      have h109 : v01 (U1.2.2.1 109 (20 + v)) := h109
      have M2 := Md_chg M1 1 1
      have hr2 : (chg s1 1 1).1 r = _ := hr1
      rw [e4]; repeat (first | rw [Option.bind_some] | rw [Sum.elim_inl] | rw [Sum.elim_inr])
      dsimp only
      rw [if_pos M1.2.1, d1, rdI_n (by omega) (by omega)]; repeat (first | rw [Option.bind_some] | rw [Sum.elim_inl] | rw [Sum.elim_inr])
      by_cases y2 : U1.2.2.1 109 (20 + v) = 1
      · rw [g1 y2, y2, tw_ok M1.2.1]; repeat (first | rw [Option.bind_some] | rw [Sum.elim_inl] | rw [Sum.elim_inr])
        dsimp only
        rw [if_pos (isK_t hr2 rfl), c_nxM B M2 q4, if_neg (show ¬ (1 : Int32) = 0 by decide), M1.1.2.1, i_suc]; repeat (first | rw [Option.bind_some] | rw [Sum.elim_inl] | rw [Sum.elim_inr])
        have M3 := Md_nx M2 q4
        have r3 := RM_cg (V' := vwT (ptI U1 310 (Int32.ofNat (x + 1 + 1)))) (show RM (chg s1 1 1).1 _ _ _ _ _ _ _ _ _ _ _ _ from r1) (hK_nx M2) rfl rfl
        have q5 : (nxC r sz wc bg en (x + 1) (chg s1 1 1)).2 = (s.2.1, s.2.2.1 + 1, s.2.2.2 + 1) := by rw [← q1]; rfl
        have hy3 : y1 < 20 ∧ (ptI U1 310 (Int32.ofNat (x + 1 + 1))).2.2.1 105 (20 + y1) = 1 := hy1
        have h23 : (o2 = none ∧ i2 = -1) ∨ ∃ y2, y2 < 20 ∧ (ptI U1 310 (Int32.ofNat (x + 1 + 1))).2.2.1 105 (20 + y2) = 1 ∧ o2 = some (Z y2) ∧ i2 = Int32.ofNat y2 := h21
        have y23 : (ptI U1 310 (Int32.ofNat (x + 1 + 1))).2.2.1 109 (20 + v) = 1 := y2
        generalize nxC r sz wc bg en (x + 1) (chg s1 1 1) = s3 at M3 r3 q5 ⊢
        generalize ptI U1 310 (Int32.ofNat (x + 1 + 1)) = U3 at M3 r3 hy3 h23 y23 ⊢
        clear h21 hy1 y2
        have hr3 := M3.2.2.2.2.2.2.2
        rw [if_pos (isK_t hr3 rfl)]
        rcases md_stp B M3 with ⟨q6, e7, e8⟩ | ⟨e7, e8⟩
        · have M4 := Md_nx M3 q6
          have r4 := RM_cg (V' := vwT (ptI U3 310 (Int32.ofNat (x + 1 + 1 + 1)))) r3 (hK_nx M3) rfl rfl
          have q7 : (nxC r sz wc bg en (x + 1 + 1) s3).2 = (s.2.1, s.2.2.1 + 1, s.2.2.2 + 1) := q5
          have hy4 : y1 < 20 ∧ (ptI U3 310 (Int32.ofNat (x + 1 + 1 + 1))).2.2.1 105 (20 + y1) = 1 := hy3
          have h24 : (o2 = none ∧ i2 = -1) ∨ ∃ y2, y2 < 20 ∧ (ptI U3 310 (Int32.ofNat (x + 1 + 1 + 1))).2.2.1 105 (20 + y2) = 1 ∧ o2 = some (Z y2) ∧ i2 = Int32.ofNat y2 := h23
          have y24 : (ptI U3 310 (Int32.ofNat (x + 1 + 1 + 1))).2.2.1 109 (20 + v) = 1 := y23
          rw [e7, e8]; repeat (first | rw [Option.bind_some] | rw [Sum.elim_inl] | rw [Sum.elim_inr])
          generalize nxC r sz wc bg en (x + 1 + 1) s3 = s4 at M4 r4 q7 ⊢
          generalize ptI U3 310 (Int32.ofNat (x + 1 + 1 + 1)) = U4 at M4 r4 hy4 h24 y24 ⊢
          clear e7 e8 h23 hy3 y23
          have r4' := r4
          obtain ⟨m1, m2, _, _, ⟨mr, m9⟩, m10, _⟩ := r4'
          have m10 : U4.1 322 = Int32.ofNat nr := m10
          have hw4 := M4.2.2.2.2.1
          obtain ⟨S, eS, g1, g2, g3, g4, g5, g6⟩ := nw_o (s := s4) 92 [.null, .null, .null] hw4
          have hMS := Md_nw B hb0 M4 ⟨g1, g2, g3, g4, g5, g6⟩
          have n4 : s4.2.1 = s.2.1 := by rw [q7]
          rw [if_pos M4.2.1, xN_o (b := rl) m1 rfl rfl, eS]; repeat (first | rw [Option.bind_some] | rw [Sum.elim_inl] | rw [Sum.elim_inr])
          dsimp only
          rw [if_pos (isK_t g1 rfl)]
          unfold c_1061
          rw [if_pos (isK_t g1 rfl), xP_c (fs' := [.ref (Z y1), .null, .null]) g1 rfl (by simp) rfl]; repeat (first | rw [Option.bind_some] | rw [Sum.elim_inl] | rw [Sum.elim_inr])
          rw [xP_c (fs' := [.ref (Z y1), vR o2, .null]) (cup_eq ..) rfl (by simp) rfl, cupU]; repeat (first | rw [Option.bind_some] | rw [Sum.elim_inl] | rw [Sum.elim_inr])
          rw [xP_c (fs' := [.ref (Z y1), vR o2, .ref (A v)]) (cup_eq ..) rfl (by simp) rfl, cupU]; repeat (first | rw [Option.bind_some] | rw [Sum.elim_inl] | rw [Sum.elim_inr])
          have lrl := wf_lt hw4 m9
          have x9 : (cup S s4.2.1 (true, false, 92, [.ref (Z y1), vR o2, .ref (A v)])).1 rl = _ := (cup_ne (by omega)).trans ((g2 rl (by omega)).trans m9)
          have c1 : (50 : Int32) + Int32.ofNat nr = Int32.ofNat (50 + nr) := i_add 50 nr
          rw [if_pos (isK_t x9 rfl), alAdd_r x9 (by omega) (elO_o (cup_eq ..)), m10, c1, stI_n (by omega) (by omega)]; repeat (first | rw [Option.bind_some] | rw [Sum.elim_inl] | rw [Sum.elim_inr])
          rw [show (wrI U4 114 (50 + nr) (Int32.ofNat y1)).1 322 = Int32.ofNat nr from m10, c1, stI_n (by omega) (by omega)]; repeat (first | rw [Option.bind_some] | rw [Sum.elim_inl] | rw [Sum.elim_inr])
          rw [show (wrI (wrI U4 114 (50 + nr) (Int32.ofNat y1)) 115 (50 + nr) i2).1 322 = Int32.ofNat nr from m10, c1, stI_n (by omega) (by omega)]; repeat (first | rw [Option.bind_some] | rw [Sum.elim_inl] | rw [Sum.elim_inr])
          rw [show (wrI (wrI (wrI U4 114 (50 + nr) (Int32.ofNat y1)) 115 (50 + nr) i2) 116 (50 + nr) (Int32.ofNat v)).1 322 = Int32.ofNat nr from m10, i_suc]
          have hi2 : vR o2 = (if i2 = -1 then Value.null else .ref (Z (bN i2))) := by
            rcases h24 with ⟨z1, z2⟩ | ⟨y2, z1, z2, z3, z4⟩
            · rw [z1, z2]; rfl
            · rw [z3, z4, if_neg (i_ne1 (by omega)), bN_of (by omega)]; rfl
          have nrl : rl ≠ r := apart m9 M4.2.2.2.2.2.2.2 (by show (1013 : Nat) ≠ 87; decide)
          have hMd := Md_cup (Md_cup hMS (a := s4.2.1) (true, false, 92, [.ref (Z y1), vR o2, .ref (A v)]) (by omega) (by omega) (by have := Md_r B M4; omega)) (a := rl) (true, false, 1013, .int (mr + 1) :: rowC (fun j => if j = nr then .ref s4.2.1 else .ref (RW j)) (nr + 1)) m2.2.2.2.1 (by show rl < S.2.1; omega) nrl
          have hMw := Md_wr (Md_wr (Md_wr hMd (c := 114) (k := 50 + nr) (by unfold upE; omega) (Int32.ofNat y1)) (c := 115) (k := 50 + nr) (by unfold upE; omega) i2) (c := 116) (k := 50 + nr) (by unfold upE; omega) (Int32.ofNat v)
          refine Or.inl ⟨_, _, x + 1 + 1 + 1, nr + 1, Z, ZP, A, fun j => if j = nr then s4.2.1 else RW j, rfl, rfl, by omega, ?_, ?_, ?_, ?_⟩
          · obtain ⟨z1, z2, z3, z4⟩ := hMw
            exact ⟨TWd_cg z1 rfl z1.2.1 z1.2.2.1 rfl rfl rfl, z2, z3.pt (Or.inr (Or.inr rfl)) _, z4⟩
          · refine RM_row (y1 := y1) (a := v) (i2 := i2) (mc' := mr + 1) r4 hnr (fun q c z1 z2 z3 => ?_) (by omega) rfl (fun c j => ?_) hy4 ?_ ⟨by omega, y24⟩ ?_ (cput_eq ..)
            · rw [cput_ne z1, cup_ne (by have := wf_lt hw4 z3; omega), g2 q (by have := wf_lt hw4 z3; omega)]; exact z3
            · rw [show ∀ (V : TS) y, (vwT (ptI V 322 y)).2.2.1 = (vwT V).2.2.1 from fun _ _ => rfl, vw_wrR (by omega), vw_wrR (by omega), vw_wrR (by omega)]
            · rcases h24 with ⟨z1, z2⟩ | ⟨y2, z1, z2, z3, z4⟩
              · exact Or.inl z2
              · exact Or.inr ⟨y2, z1, z4, z2⟩
            · rw [cput_ne (by omega), cup_eq, hi2]
          · show S.2.2.1 + 1 ≤ _
            rw [g5, q7]; dsimp only; omega
          · show S.2.2.2 + 16 ≤ _
            rw [g6, q7]; show s.2.2.2 + 1 + 3 + 16 ≤ _; omega
        · exact OutR.bd hb0 M3 (by rw [e7]; rfl) (by
            have z := bd_0 (TWe_mk M3).1
            rw [e8]; repeat (first | rw [Option.bind_some] | rw [Sum.elim_inl] | rw [Sum.elim_inr])
            repeat (first | exact Tr.ok (by assumption) | refine Tr.bd (bd_tak (by assumption) _) ?_ | refine Tr.bd (bd_stp (by assumption)) ?_ | refine Tr.bd (bd_num (by assumption) _ _) ?_ | refine Tr.bd (bd_st (by assumption) _ (by decide) (by omega) (by omega) (by unfold upE; omega)) ?_ | refine Tr.ifn (bd_neg (by assumption)) ?_ | (rintro ⟨_, _⟩ ⟨rfl, _⟩; dsimp only) | intro _ _ | dsimp only)) (by rw [q5]; dsimp only; omega) (by rw [q5]; dsimp only; omega)
      · have y2' : U1.2.2.1 109 (20 + v) = 0 := by rcases h109 with z | z; exact z; exact absurd z y2
        rw [g2 y2, y2', tw_no M1.2.1 M1.1.2.1 (by omega)]; repeat (first | rw [Option.bind_some] | rw [Sum.elim_inl] | rw [Sum.elim_inr])
        exact OutR.bd hb0 (Md_chg M1 1 1) rfl (by
          have z := bd_0 (TWe_mk M1).1
          dsimp only
          rw [if_pos rfl]; repeat (first | rw [Option.bind_some] | rw [Sum.elim_inl] | rw [Sum.elim_inr])
          repeat (first | exact Tr.ok (by assumption) | refine Tr.bd (bd_tak (by assumption) _) ?_ | refine Tr.bd (bd_stp (by assumption)) ?_ | refine Tr.bd (bd_num (by assumption) _ _) ?_ | refine Tr.bd (bd_st (by assumption) _ (by decide) (by omega) (by omega) (by unfold upE; omega)) ?_ | refine Tr.ifn (bd_neg (by assumption)) ?_ | (rintro ⟨_, _⟩ ⟨rfl, _⟩; dsimp only) | intro _ _ | dsimp only)) (by show s1.2.2.1 + 1 ≤ _; rw [q1]; omega) (by show s1.2.2.2 + 1 ≤ _; rw [q1]; omega)
    · rw [f1 e6, show t_779 0 19 U1 = _ from e4]; repeat (first | rw [Option.bind_some] | rw [Sum.elim_inl] | rw [Sum.elim_inr])
      exact OutR.bd hb0 M1 rfl (by
        have z := bd_0 (TWe_mk M1).1
        dsimp only
        rw [if_neg (bd_neg z)]; repeat (first | rw [Option.bind_some] | rw [Sum.elim_inl] | rw [Sum.elim_inr])
        repeat (first | exact Tr.ok (by assumption) | refine Tr.bd (bd_tak (by assumption) _) ?_ | refine Tr.bd (bd_stp (by assumption)) ?_ | refine Tr.bd (bd_num (by assumption) _ _) ?_ | refine Tr.bd (bd_st (by assumption) _ (by decide) (by omega) (by omega) (by unfold upE; omega)) ?_ | refine Tr.ifn (bd_neg (by assumption)) ?_ | (rintro ⟨_, _⟩ ⟨rfl, _⟩; dsimp only) | intro _ _ | dsimp only)) (by rw [q1]; omega) (by rw [q1]; omega)
  · exact OutR.bd hb0 M (by rw [e7]; rfl) (by
      have z := bd_0 (TWe_mk M).1
      rw [e8]; repeat (first | rw [Option.bind_some] | rw [Sum.elim_inl] | rw [Sum.elim_inr])
      rw [if_neg (bd_neg z)]; repeat (first | rw [Option.bind_some] | rw [Sum.elim_inl] | rw [Sum.elim_inr])
      dsimp only
      rw [if_neg (bd_neg z)]; repeat (first | rw [Option.bind_some] | rw [Sum.elim_inl] | rw [Sum.elim_inr])
      repeat (first | exact Tr.ok (by assumption) | refine Tr.bd (bd_tak (by assumption) _) ?_ | refine Tr.bd (bd_stp (by assumption)) ?_ | refine Tr.bd (bd_num (by assumption) _ _) ?_ | refine Tr.bd (bd_st (by assumption) _ (by decide) (by omega) (by omega) (by unfold upE; omega)) ?_ | refine Tr.ifn (bd_neg (by assumption)) ?_ | (rintro ⟨_, _⟩ ⟨rfl, _⟩; dsimp only) | intro _ _ | dsimp only)) (by omega) (by omega)
end
