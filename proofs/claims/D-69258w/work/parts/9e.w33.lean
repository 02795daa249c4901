/-! the warden: the matrix being read as cells and rows change -/
theorem RM_cg {h h' : lHeap} {V V' : TS} {np b0 mx zm am rl nr : Nat} {Z ZP A RW : Nat → Nat} (r : RM h V np b0 mx zm am rl nr Z ZP A RW) (k : hK (fun k => k ≠ 87) h h') (h1 : V'.1 321 = V.1 321) (h3 : V'.2.2.1 = V.2.2.1) : RM h' V' np b0 mx zm am rl nr Z ZP A RW := by
  obtain ⟨m1, m2, ⟨mz, ez, m3, m4, m5⟩, ⟨ma, ea, m6, m7, m8⟩, ⟨mr, m9⟩, m10, m11, m12, m13, m14, m15⟩ := r
  have K : ∀ q c, c.2.2.1 ≠ 87 → h q = some c → h' q = some c := k
  unfold RM W3z zonC rowK actC okAct
  rw [h1, h3]
  refine ⟨K _ _ (by simp) m1, m2, ⟨mz, ez, K _ _ (by simp) m3, m4, m5⟩, ⟨ma, ea, K _ _ (by simp) m6, m7, m8⟩, ⟨mr, K _ _ (by simp) m9⟩, m10, m11, fun z hz => ?_, fun q hq => ?_, fun a ha y => ?_, m15⟩
  · obtain ⟨a1, a2, a3⟩ := m12 z hz
    refine ⟨a1, a2, fun y => ?_⟩
    obtain ⟨⟨b1, b2, b3, b4, n, b5, b6, ⟨mc, b7⟩, b8⟩, b9⟩ := a3 y
    exact ⟨⟨K _ _ (by show (90 : Nat) ≠ 87; decide) b1, b2, b3, b4, n, b5, b6, ⟨mc, K _ _ (by simp) b7⟩, b8⟩, b9⟩
  · obtain ⟨a1, a2⟩ := m13 q hq
    exact ⟨K _ _ (by show (92 : Nat) ≠ 87; decide) a1, a2⟩
  · obtain ⟨a1, a2⟩ := m14 a ha y
    exact ⟨K _ _ (by show (91 : Nat) ≠ 87; decide) a1, a2⟩
/-- an act latches -/
theorem RM_latch {h h' : lHeap} {V V' : TS} {np b0 mx zm am rl nr a : Nat} {Z ZP A RW : Nat → Nat} (r : RM h V np b0 mx zm am rl nr Z ZP A RW) (ha : a < 20) (hA : V.2.2.1 109 a = 1) (k : ∀ q c, q ≠ A a → c.2.2.1 ≠ 87 → h q = some c → h' q = some c) (h1 : V'.1 321 = V.1 321) (h3 : ∀ c j, V'.2.2.1 c j = if c = 113 ∧ j = a then 1 else V.2.2.1 c j) (h4 : h' (A a) = some (actC V' a)) : RM h' V' np b0 mx zm am rl nr Z ZP A RW := by
  obtain ⟨m1, m2, ⟨mz, ez, m3, m4, m5⟩, ⟨ma, ea, m6, m7, m8⟩, ⟨mr, m9⟩, m10, m11, m12, m13, m14, m15⟩ := r
  have e : ∀ c, c ≠ 113 → V'.2.2.1 c = V.2.2.1 c := fun c hc => funext (fun j => by rw [h3, if_neg (fun z => hc z.1)])
  obtain ⟨a1, a2, a3⟩ := m14 a ha hA
  have K : ∀ q c, c.2.2.1 ≠ 91 → c.2.2.1 ≠ 87 → h q = some c → h' q = some c := fun q c z1 z2 z3 => k q c (fun z => z1 (by rw [z, a1] at z3; rw [← Option.some.inj z3]; rfl)) z2 z3
  unfold RM W3z zonC rowK
  rw [h1, e 105 (by omega), e 106 (by omega), e 107 (by omega), e 108 (by omega), e 109 (by omega), e 114 (by omega), e 115 (by omega), e 116 (by omega)]
  refine ⟨K _ _ (by simp) (by simp) m1, m2, ⟨mz, ez, K _ _ (by simp) (by simp) m3, m4, m5⟩, ⟨ma, ea, K _ _ (by simp) (by simp) m6, m7, m8⟩, ⟨mr, K _ _ (by simp) (by simp) m9⟩, m10, m11, fun z hz => ?_, fun q hq => ?_, fun b hb y => ?_, m15⟩
  · obtain ⟨a1, a2, a3⟩ := m12 z hz
    refine ⟨a1, a2, fun y => ?_⟩
    obtain ⟨⟨b1, b2, b3, b4, n, b5, b6, ⟨mc, b7⟩, b8⟩, b9⟩ := a3 y
    exact ⟨⟨K _ _ (by show (90 : Nat) ≠ 91; decide) (by show (90 : Nat) ≠ 87; decide) b1, b2, b3, b4, n, b5, b6, ⟨mc, K _ _ (by simp) (by simp) b7⟩, b8⟩, b9⟩
  · obtain ⟨a1, a2⟩ := m13 q hq
    exact ⟨K _ _ (by show (92 : Nat) ≠ 91; decide) (by show (92 : Nat) ≠ 87; decide) a1, a2⟩
  · by_cases x : b = a
    · subst x
      refine ⟨h4, a2, ?_⟩
      unfold okAct at a3 ⊢
      rw [e 110 (by omega), e 111 (by omega), e 112 (by omega), e 117 (by omega), e 118 (by omega), e 119 (by omega), e 120 (by omega), h3 113, if_pos ⟨rfl, rfl⟩]
      exact ⟨a3.1, a3.2.1, a3.2.2.1, Or.inr rfl, a3.2.2.2.2⟩
    · obtain ⟨b1, b2, b3⟩ := m14 b hb y
      have ne : A b ≠ A a := fun z => x (m15 b a hb ha y hA z)
      have e113 : V'.2.2.1 113 b = V.2.2.1 113 b := by rw [h3, if_neg (fun z => x z.2)]
      unfold actC okAct at *
      rw [e 110 (by omega), e 111 (by omega), e 112 (by omega), e 117 (by omega), e 118 (by omega), e 119 (by omega), e 120 (by omega), e113]
      exact ⟨k _ _ ne (by show (91 : Nat) ≠ 87; decide) b1, b2, b3⟩
/-- the reading between sentences -/
def Rd (s0 : CS) (U0 : TS) (b0 r mx zm am rl sz wc np : Nat) (bg en : Nat → Nat) (w : Nat) (s : CS) (U : TS) (nr : Nat) (Z ZP A RW : Nat → Nat) : Prop := Md s0 U0 b0 r sz wc bg en w s U ∧ RM s.1 (vwT U) np b0 mx zm am rl nr Z ZP A RW ∧ s.2.2.1 ≤ s0.2.2.1 + 2 * w ∧ s.2.2.2 ≤ s0.2.2.2 + 17 * w
def OutR (s0 : CS) (U0 : TS) (b0 r mx zm am rl sz wc np : Nat) (bg en : Nat → Nat) (w : Nat) (oc : Option (Sum CS (Nat × CS))) (ot : Option TS) : Prop :=
  (∃ s' U' w' nr Z ZP A RW, oc = some (.inl s') ∧ ot = some U' ∧ w < w' ∧ Rd s0 U0 b0 r mx zm am rl sz wc np bg en w' s' U' nr Z ZP A RW) ∨ ∃ e s' U', oc = some (.inr (e, s')) ∧ ot = some U' ∧ Er s0 U0 b0 wc e s' U'
section
variable {s0 s : CS} {U0 U : TS} {b0 r mx zm am rl sz wc w np nr : Nat} {bg en Z ZP A RW : Nat → Nat}
/-- an exception at a word -/
theorem OutR.er {oc : Option (Sum CS (Nat × CS))} {ot : Option TS} {x : Nat} {s1 : CS} {U1 T : TS} (hb0 : b0 ≤ s0.2.1) (M : Md s0 U0 b0 r sz wc bg en x s1 U1) (hc : oc = some (.inr (s1.2.1, wwC s1 (Int32.ofNat x)))) (ht : ot = some T) (hT : FrU (ptI U1 311 (Int32.ofNat x)) T) (hT2 : T.1 311 = Int32.ofNat x) (c1 : s1.2.2.1 ≤ s0.2.2.1 + 2 * wc + 9) (c2 : s1.2.2.2 ≤ s0.2.2.2 + 17 * wc + 93) : OutR s0 U0 b0 r mx zm am rl sz wc np bg en w oc ot :=
  Or.inr ⟨s1.2.1, wwC s1 (Int32.ofNat x), T, hc, ht, er_mk M.2.2.2.1 M.2.2.2.2.1 M.2.2.2.2.2.1 hb0 ((M.2.2.1.pt (Or.inr (Or.inl rfl)) _).trans hT) hT2 M.1.2.2.1 c1 c2⟩
theorem hK_nx (M : Md s0 U0 b0 r sz wc bg en w s U) : hK (fun k => k ≠ 87) s.1 (nxC r sz wc bg en w s).1 := hK_upd (c := rdW bg en sz wc w) M.2.2.2.2.2.2.2
theorem Md_chg (M : Md s0 U0 b0 r sz wc bg en w s U) (a b : Nat) : Md s0 U0 b0 r sz wc bg en w (chg s a b) U := M
theorem vw_wr {V : TS} {c0 k c j : Nat} {x : Int32} (hc : 105 ≤ c0 ∧ c0 ≤ 113 ∧ c0 ≠ 108) : (vwT (wrI V c0 (20 + k) x)).2.2.1 c j = if c = c0 ∧ j = k then x else (vwT V).2.2.1 c j := by
  unfold vwT
  simp only [wr_at]
  grind
theorem vw_wr8 {V : TS} {k c j : Nat} {x : Int32} : (vwT (wrI V 108 (240 + k) x)).2.2.1 c j = if c = 108 ∧ j = k then x else (vwT V).2.2.1 c j := by
  unfold vwT
  simp only [wr_at]
  grind
theorem vw_wrR {V : TS} {c0 k c j : Nat} {x : Int32} (hc : 114 ≤ c0 ∧ c0 ≤ 116) : (vwT (wrI V c0 (50 + k) x)).2.2.1 c j = if c = c0 ∧ j = k then x else (vwT V).2.2.1 c j := by
  unfold vwT
  simp only [wr_at]
  grind
/-- hold -/
theorem rd_hold (B : Bse s0 b0 sz np (U0.2.2.1 102)) (hb0 : b0 ≤ s0.2.1) (R : Rd s0 U0 b0 r mx zm am rl sz wc np bg en w s U nr Z ZP A RW) : OutR s0 U0 b0 r mx zm am rl sz wc np bg en w
    (Option.bind (c_1017 r 50 s) (Sum.elim (fun x4 => Option.bind (c_497 r mx x4) (Sum.elim (fun x6 => Option.bind (x6.1) (fun a8 => Option.bind (xI x6.2 [(91, 4)] a8) (fun x9 => Option.bind ((if x9 = 0 then some 1 else some 0)) (fun v57 => (if isK x6.2 [87] r = true then Option.bind (c_1016 r v57 x6.2) (Sum.elim (fun x10 => (if isK x10 [87] r = true then Option.bind (c_1009 r x10) (fun x12 => (if isK x12 [87] r = true then Option.bind (c_1017 r 51 x12) (Sum.elim (fun x13 => Option.bind (xP x13 [(91, 4)] a8 (.int 1)) (fun s15 => some (.inl s15))) (fun q14 => some (.inr (q14.1, q14.2)))) else none)) else none)) (fun q11 => some (.inr (q11.1, q11.2)))) else none))))) (fun q7 => some (.inr (q7.1, q7.2))))) (fun q5 => some (.inr (q5.1, q5.2)))))
    (Option.bind (t_781 143848 U) (fun x2 => (if (x2.1 311) < 0 then Option.bind (t_789 x2) (fun x3 => some x3) else some x2))) := by
  obtain ⟨M, rm, k1, k2⟩ := R
  have hwc := M.1.2.2.1
  rcases md_tak B M (q := 50) (l := [104, 111, 108, 100]) (k := 143848) (by decide) (by decide) (by decide) (by decide) (by decide) with ⟨y, e1, e2⟩ | ⟨e1, e2⟩
  · have M1 := Md_nx M y
    have r1 := RM_cg (V' := vwT (ptI U 310 (Int32.ofNat (w + 1)))) rm (hK_nx M) rfl rfl
    have q1 : (nxC r sz wc bg en w s).2 = s.2 := rfl
    have q1' : s.2.1 ≤ (nxC r sz wc bg en w s).2.1 := Nat.le_refl _
    rw [e1, e2, Option.bind_some, Option.bind_some, Sum.elim_inl]
    try dsimp only
    rw [if_pos M1.2.1]
    generalize nxC r sz wc bg en w s = s1 at M1 r1 q1 q1' ⊢
    generalize ptI U 310 (Int32.ofNat (w + 1)) = U1 at M1 r1 ⊢
    have hx1 := Md_tx B M1
    have hwc1 := M1.1.2.2.1
    have hws := M1.1.2.2.2.1
    have hsz := M1.1.2.2.2.2.1
    obtain ⟨f1, f2⟩ := c_acA M1.2.2.2.2.1 M1.1 hx1 M1.2.2.2.2.2.2.2 r1
    unfold t_789
    rcases md_pk B M1 19 (by omega) with ⟨y1, v, hv, e3, e4, e5, e6⟩ | ⟨e3, e4, e6⟩
    · have e4 : t_779 0 19 U1 = some (Int32.ofNat v, U1) := e4
      obtain ⟨g1, g2⟩ := f2 v (by omega) e6 e5
      have d1 : (20 : Int32) + Int32.ofNat v = Int32.ofNat (20 + v) := i_add 20 v
      rw [e4, Option.bind_some]
      try dsimp only
      rw [if_pos M1.2.1, d1, rdI_n (by omega) (by omega), Option.bind_some]
      have h109 := (r1.2.2.2.2.2.2.2.1 v (by omega)).2.1
      have h109 : v01 (U1.2.2.1 109 (20 + v)) := h109
      by_cases y2 : U1.2.2.1 109 (20 + v) = 1
      · rw [g1 y2, Option.bind_some, Sum.elim_inl]
        obtain ⟨a1, a2, a3⟩ := r1.2.2.2.2.2.2.2.2.2.1 v (by omega) y2
        have a1 : (chg s1 1 1).1 (A v) = some (actC (vwT U1) v) := a1
        have hr2 : (chg s1 1 1).1 r = _ := M1.2.2.2.2.2.2.2
        have h113 : (vwT U1).2.2.1 113 v = U1.2.2.1 113 (20 + v) := rfl
        have M2 := Md_chg M1 1 1
        try dsimp only
        rw [Option.bind_some, xI_o (x := U1.2.2.1 113 (20 + v)) a1 rfl rfl, Option.bind_some, y2, if_neg (show ¬ (1 : Int32) = 0 by decide), rdI_n (by omega) (by omega), Option.bind_some]
        by_cases y3 : U1.2.2.1 113 (20 + v) = 0
        · rw [if_pos y3, Option.bind_some, if_pos (isK_t hr2 rfl), c_wok (by decide), Option.bind_some, Option.bind_some, Sum.elim_inl, if_pos (isK_t hr2 rfl), c_nxM B M2 y1, Option.bind_some, tw_ok M1.2.1, Option.bind_some]
          try dsimp only
          rw [if_neg (show ¬ (1 : Int32) = 0 by decide), M1.1.2.1, i_suc]; repeat (first | rw [Option.bind_some] | rw [Sum.elim_inl] | rw [Sum.elim_inr])
          have M3 := Md_nx M2 y1
          have r3 := RM_cg (V' := vwT (ptI U1 310 (Int32.ofNat (w + 1 + 1)))) (show RM (chg s1 1 1).1 _ _ _ _ _ _ _ _ _ _ _ _ from r1) (hK_nx M2) rfl rfl
          have q3 : (nxC r sz wc bg en (w + 1) (chg s1 1 1)).2 = (chg s1 1 1).2 := rfl
          have y33 : (ptI U1 310 (Int32.ofNat (w + 1 + 1))).2.2.1 109 (20 + v) = 1 := y2
          generalize nxC r sz wc bg en (w + 1) (chg s1 1 1) = s3 at M3 r3 q3 ⊢
          generalize ptI U1 310 (Int32.ofNat (w + 1 + 1)) = U3 at M3 r3 y33 ⊢
          have hr3 := M3.2.2.2.2.2.2.2
          have cc1 : s3.2.2.1 = s.2.2.1 + 1 := by rw [q3, show (chg s1 1 1).2.2.1 = s1.2.2.1 + 1 from rfl, q1]
          have cc2 : s3.2.2.2 = s.2.2.2 + 1 := by rw [q3, show (chg s1 1 1).2.2.2 = s1.2.2.2 + 1 from rfl, q1]
          rw [if_pos (isK_t hr3 rfl)]
          rcases md_stp B M3 with ⟨y4, e7, e8⟩ | ⟨e7, e8⟩
          · have M4 := Md_nx M3 y4
            have r4 := RM_cg (V' := vwT (ptI U3 310 (Int32.ofNat (w + 1 + 1 + 1)))) r3 (hK_nx M3) rfl rfl
            have q4 : (nxC r sz wc bg en (w + 1 + 1) s3).2 = s3.2 := rfl
            have y34 : (ptI U3 310 (Int32.ofNat (w + 1 + 1 + 1))).2.2.1 109 (20 + v) = 1 := y33
            rw [e7, e8, Option.bind_some, Option.bind_some, Sum.elim_inl]
            generalize nxC r sz wc bg en (w + 1 + 1) s3 = s4 at M4 r4 q4 ⊢
            generalize ptI U3 310 (Int32.ofNat (w + 1 + 1 + 1)) = U4 at M4 r4 y34 ⊢
            obtain ⟨b1, b2, b3⟩ := r4.2.2.2.2.2.2.2.2.2.1 v (by omega) y34
            rw [if_pos M4.2.1, stI_n (by omega) (by omega), Option.bind_some, Option.bind_some, show (1 : Int32) &&& 1 = 1 from rfl, xP_c b1 rfl (by simp) rfl, Option.bind_some]
            have hAr : A v ≠ r := apart b1 M4.2.2.2.2.2.2.2 (by show (91 : Nat) ≠ 87; decide)
            refine Or.inl ⟨_, _, w + 1 + 1 + 1, nr, Z, ZP, A, RW, rfl, rfl, by omega, ⟨?_, ?_, ?_, fun q hq => ?_, wf_cup M4.2.2.2.2.1 (wf_lt M4.2.2.2.2.1 b1), M4.2.2.2.2.2.1, M4.2.2.2.2.2.2.1, by rw [cup_ne hAr.symm]; exact M4.2.2.2.2.2.2.2⟩, ?_, ?_, ?_⟩
            · exact (TWd_cg M4.1 rfl M4.1.2.1 M4.1.2.2.1 rfl rfl rfl)
            · exact M4.2.1
            · exact M4.2.2.1.wr (by unfold upE; omega) _
            · rw [cup_ne (by omega)]; exact M4.2.2.2.1 q hq
            · refine RM_latch r4 (a := v) (by omega) y34 (fun q c z1 z2 z3 => by rw [cup_ne z1]; exact z3) rfl (fun c j => ?_) ?_
              · exact vw_wr (by omega)
              · rw [cup_eq]
                simp [actC, vw_wr]
            · show s4.2.2.1 ≤ _
              rw [q4]; omega
            · show s4.2.2.2 ≤ _
              rw [q4]; omega
          · obtain ⟨z1, z2, z3⟩ := TWe_mk M3
            rw [e7, e8, Option.bind_some, Option.bind_some, if_neg z1.2]
            exact OutR.er hb0 M3 rfl rfl (FrU.refl _) z3 (by have := M3.1.2.2.1; omega) (by have := M3.1.2.2.1; omega)
        · rw [if_neg y3]; repeat (first | rw [Option.bind_some] | rw [Sum.elim_inl] | rw [Sum.elim_inr])
          rw [if_pos (isK_t hr2 rfl), c_ww (s := chg s1 1 1) M1.2.2.2.2.1 hr2, tw_no M1.2.1 M1.1.2.1 (by omega)]; repeat (first | rw [Option.bind_some] | rw [Sum.elim_inl] | rw [Sum.elim_inr])
          obtain ⟨z1, z2, z3⟩ := TWe_mk M1
          rw [if_pos rfl]; repeat (first | rw [Option.bind_some] | rw [Sum.elim_inl] | rw [Sum.elim_inr])
          rw [te_stp z1.1 z1.2]; repeat (first | rw [Option.bind_some] | rw [Sum.elim_inl] | rw [Sum.elim_inr])
          rw [if_neg z1.2]; repeat (first | rw [Option.bind_some] | rw [Sum.elim_inl] | rw [Sum.elim_inr])
          exact OutR.er hb0 M2 rfl rfl (FrU.refl _) z3 (by show s1.2.2.1 + 1 ≤ _; rw [q1]; omega) (by show s1.2.2.2 + 1 ≤ _; rw [q1]; omega)
      · have y2' : U1.2.2.1 109 (20 + v) = 0 := by rcases h109 with z | z; exact z; exact absurd z y2
        rw [g2 y2, y2', if_pos rfl]; repeat (first | rw [Option.bind_some] | rw [Sum.elim_inl] | rw [Sum.elim_inr])
        rw [tw_no M1.2.1 M1.1.2.1 (by omega)]; repeat (first | rw [Option.bind_some] | rw [Sum.elim_inl] | rw [Sum.elim_inr])
        obtain ⟨z1, z2, z3⟩ := TWe_mk M1
        rw [if_pos rfl]; repeat (first | rw [Option.bind_some] | rw [Sum.elim_inl] | rw [Sum.elim_inr])
        rw [te_stp z1.1 z1.2]; repeat (first | rw [Option.bind_some] | rw [Sum.elim_inl] | rw [Sum.elim_inr])
        rw [if_neg z1.2]; repeat (first | rw [Option.bind_some] | rw [Sum.elim_inl] | rw [Sum.elim_inr])
        exact OutR.er hb0 (Md_chg M1 1 1) rfl rfl (FrU.refl _) z3 (by show s1.2.2.1 + 1 ≤ _; rw [q1]; omega) (by show s1.2.2.2 + 1 ≤ _; rw [q1]; omega)
    · have e4 : t_779 0 19 U1 = some (-1, ptI U1 311 (Int32.ofNat (w + 1))) := e4
      obtain ⟨z1, z2, z3⟩ := TWe_mk M1
      rw [f1 e6, e4]; repeat (first | rw [Option.bind_some] | rw [Sum.elim_inl] | rw [Sum.elim_inr])
      rw [if_neg z1.2]; repeat (first | rw [Option.bind_some] | rw [Sum.elim_inl] | rw [Sum.elim_inr])
      rw [te_stp z1.1 z1.2]; repeat (first | rw [Option.bind_some] | rw [Sum.elim_inl] | rw [Sum.elim_inr])
      rw [if_neg z1.2]; repeat (first | rw [Option.bind_some] | rw [Sum.elim_inl] | rw [Sum.elim_inr])
      exact OutR.er hb0 M1 rfl rfl (FrU.refl _) z3 (by rw [q1]; omega) (by rw [q1]; omega)
  · obtain ⟨z1, z2, z3⟩ := TWe_mk M
    rw [e1, e2, Option.bind_some, Option.bind_some, if_neg z1.2]
    exact OutR.er hb0 M rfl rfl (FrU.refl _) z3 (by omega) (by omega)
end
