/-! the warden: an act is read -/
def Ac (r n : Nat) (s sk : CS) (c : lCell) (a b : Nat) : Prop := r < n ∧ sk.1 n = some c ∧ (∀ q, q < n → q ≠ r → sk.1 q = s.1 q) ∧ sk.2.1 = n + 1 ∧ sk.2.2.1 = s.2.2.1 + a ∧ sk.2.2.2 = s.2.2.2 + b
section
variable {s0 s sk : CS} {U0 U : TS} {b0 r mx zm am rl sz wc w np nr n a b : Nat} {bg en Z ZP A RW : Nat → Nat} {c c' : lCell}
theorem Ac_nx (h : Ac r n s sk c a b) (x : Nat) : Ac r n s (nxC r sz wc bg en x sk) c a b := by
  obtain ⟨h1, h2, h3, h4, h5, h6⟩ := h
  exact ⟨h1, by unfold nxC; rw [cup_ne (by omega)]; exact h2, fun q hq hr => by unfold nxC; rw [cup_ne hr]; exact h3 q hq hr, h4, h5, h6⟩
theorem Ac_cup (h : Ac r n s sk c a b) (c' : lCell) : Ac r n s (cup sk n c') c' a b := by
  obtain ⟨h1, h2, h3, h4, h5, h6⟩ := h
  exact ⟨h1, cup_eq .., fun q hq hr => by rw [cup_ne (by omega)]; exact h3 q hq hr, h4, h5, h6⟩
theorem MdAc (hb : b0 ≤ n) (M : Md s0 U0 b0 r sz wc bg en w sk U) (h : Ac r n s sk c a b) (c' : lCell) : Md s0 U0 b0 r sz wc bg en w (cup sk n c') U := Md_cup M c' hb (by rw [h.2.2.2.1]; omega) (by have := h.1; omega)
theorem rd_act (B : Bse s0 b0 sz np (U0.2.2.1 102)) (hb0 : b0 ≤ s0.2.1) (R : Rd s0 U0 b0 r mx zm am rl sz wc np bg en w s U nr Z ZP A RW) : OutR s0 U0 b0 r mx zm am rl sz wc np bg en w (c_494 151 r mx s) (t_785 U) := by
  obtain ⟨M, rm, k1, k2⟩ := R
  have hwc := M.1.2.2.1
  have hws := M.1.2.2.2.1
  have hsz := M.1.2.2.2.2.1
  have hr := M.2.2.2.2.2.2.2
  have hw := M.2.2.2.2.1
  have lr := Md_r B M
  have hs0 := M.2.2.2.2.2.1
  have rm' := rm
  obtain ⟨m1, m2, _, ⟨ma, ea, m6, m7, m8⟩, _, _, _, m12, _, m14, _⟩ := rm'
  unfold c_494 t_785
  rw [if_pos (isK_t hr rfl)]
  rcases md_pk B M 19 (by omega) with ⟨y1, v, hv, e3, e4, e5, e6⟩ | ⟨e3, e4, e6⟩
  · have e3 : c_1015 r 0 19 s = some (.inl (Int32.ofNat v, s)) := e3
    have e4 : t_779 0 19 U = some (Int32.ofNat v, U) := e4
    have d1 : Int32.ofNat v + 20 = Int32.ofNat (20 + v) := by rw [show (20 : Int32) = Int32.ofNat 20 from rfl, i_add, Nat.add_comm]
    have hr1 : (chg s 1 1).1 r = _ := hr
    rw [e3, e4]; repeat (first | rw [Option.bind_some] | rw [Sum.elim_inl] | rw [Sum.elim_inr])
    dsimp only
    rw [if_pos M.2.1, d1, rdI_n (by omega) (by omega), xN_o (b := am) m1 rfl rfl]; repeat (first | rw [Option.bind_some] | rw [Sum.elim_inl] | rw [Sum.elim_inr])
    rw [if_pos (isK_t (s := chg s 1 1) m6 rfl), tol_has (s := chg s 1 1) (V := vwT U) (c := 109) (k := v) (by omega) m6 m7 m8]; repeat (first | rw [Option.bind_some] | rw [Sum.elim_inl] | rw [Sum.elim_inr])
    have h109 := (m12 v (by omega)).2.1
    have h109 : v01 (U.2.2.1 109 (20 + v)) := h109
    have vw9 : (vwT U).2.2.1 109 v = U.2.2.1 109 (20 + v) := rfl
    rw [vw9]
    rcases h109 with y2 | y2
    · have M0 := Md_chg M 1 1
      have w0 : wfS (chg s 1 1) := hw
      rw [y2, if_neg (show ¬ (0 : Int32) = 1 by decide), if_pos rfl]; repeat (first | rw [Option.bind_some] | rw [Sum.elim_inl] | rw [Sum.elim_inr])
      rw [tw_ok M.2.1]; repeat (first | rw [Option.bind_some] | rw [Sum.elim_inl] | rw [Sum.elim_inr])
      rw [if_pos (isK_t hr1 rfl), c_wok (by decide)]; repeat (first | rw [Option.bind_some] | rw [Sum.elim_inl] | rw [Sum.elim_inr])
      rw [if_pos (isK_t hr1 rfl), c_nxM B M0 y1]; repeat (first | rw [Option.bind_some] | rw [Sum.elim_inl] | rw [Sum.elim_inr])
      dsimp only
      rw [if_neg (show ¬ (1 : Int32) = 0 by decide), M.1.2.1, i_suc]; repeat (first | rw [Option.bind_some] | rw [Sum.elim_inl] | rw [Sum.elim_inr])
      have M1 := Md_nx M0 y1
      have A1 : ∀ q, q < s.2.1 → q ≠ r → (nxC r sz wc bg en w (chg s 1 1)).1 q = s.1 q := fun q _ hq => by unfold nxC; rw [cup_ne hq]; rfl
      have A2 : (nxC r sz wc bg en w (chg s 1 1)).2 = (s.2.1, s.2.2.1 + 1, s.2.2.2 + 1) := rfl
      generalize nxC r sz wc bg en w (chg s 1 1) = s1 at M1 A1 A2 ⊢
      obtain ⟨S, eS, g1, g2, g3, g4, g5, g6⟩ := nw_o (s := s1) 91 [.int 0, .int 0, .int 0, .int 0, .int 0, .null, .int 0, .int 0, .int 0] M1.2.2.2.2.1
      have M2 := Md_nw B hb0 M1 ⟨g1, g2, g3, g4, g5, g6⟩
      have n1 : s1.2.1 = s.2.1 := by rw [A2]
      rw [n1] at g1 g2 g3
      have hb : b0 ≤ s.2.1 := by omega
      have P2 : Ac r s.2.1 s S _ 2 10 := ⟨lr, g1, fun q hq hq2 => by rw [g2 q (by omega)]; exact A1 q hq hq2, g3, by rw [g5, A2], by rw [g6, A2]; rfl⟩
      rw [eS]; repeat (first | rw [Option.bind_some] | rw [Sum.elim_inl] | rw [Sum.elim_inr])
      dsimp only
      rw [n1, if_pos (isK_t g1 rfl)]
      unfold c_1057
      rw [xP_c (fs' := [.int 0, .int 0, .int 0, .int 0, .int 0, .ref 60, .int 0, .int 0, .int 0]) g1 rfl (by simp) rfl]; repeat (first | rw [Option.bind_some] | rw [Sum.elim_inl] | rw [Sum.elim_inr])
      rw [xP_c (fs' := [.int 0, .int 0, .int 0, .int 0, .int 0, .ref 60, .int (-1), .int 0, .int 0]) (cup_eq ..) rfl (by simp) rfl, cupU]; repeat (first | rw [Option.bind_some] | rw [Sum.elim_inl] | rw [Sum.elim_inr])
      rw [xP_c (fs' := [.int (Int32.ofNat v), .int 0, .int 0, .int 0, .int 0, .ref 60, .int (-1), .int 0, .int 0]) (cup_eq ..) rfl (by simp) rfl, cupU]; repeat (first | rw [Option.bind_some] | rw [Sum.elim_inl] | rw [Sum.elim_inr])
      have P3 := Ac_cup P2 (true, false, 91, [.int (Int32.ofNat v), .int 0, .int 0, .int 0, .int 0, .ref 60, .int (-1), .int 0, .int 0])
      have M3 := MdAc hb M2 P2 (true, false, 91, [.int (Int32.ofNat v), .int 0, .int 0, .int 0, .int 0, .ref 60, .int (-1), .int 0, .int 0])
      generalize cup S s.2.1 (true, false, 91, [.int (Int32.ofNat v), .int 0, .int 0, .int 0, .int 0, .ref 60, .int (-1), .int 0, .int 0]) = s3 at P3 M3 ⊢
      rw [if_pos (isK_t M3.2.2.2.2.2.2.2 rfl)]
      rcases md_tak B M3 (q := 54) (l := [107, 105, 110, 100]) (k := 145707) (by decide) (by decide) (by decide) (by decide) (by decide) with ⟨y3, e7, e8⟩ | ⟨e7, e8⟩
      · rw [e7, e8]; repeat (first | rw [Option.bind_some] | rw [Sum.elim_inl] | rw [Sum.elim_inr])
        have P4 := Ac_nx (sz := sz) (wc := wc) (bg := bg) (en := en) P3 (w + 1)
        have M4 := Md_nx M3 y3
        generalize nxC r sz wc bg en (w + 1) s3 = s4 at P4 M4 ⊢
        rw [if_pos (isK_t M4.2.2.2.2.2.2.2 rfl)]
        rcases md_num B M4 0 5 (by omega) (by omega) with ⟨y4, kd, _, hkd, e7, e8⟩ | ⟨e7, e8⟩
        · rw [show c_1018 r 0 5 s4 = _ from e7, show t_782 0 5 _ = _ from e8]; repeat (first | rw [Option.bind_some] | rw [Sum.elim_inl] | rw [Sum.elim_inr])
          dsimp only
          have P5 := Ac_nx (sz := sz) (wc := wc) (bg := bg) (en := en) P4 (w + 1 + 1)
          have M5 := Md_nx M4 y4
          generalize nxC r sz wc bg en (w + 1 + 1) s4 = s5 at P5 M5 ⊢
          rw [xP_c (fs' := [.int (Int32.ofNat v), .int (Int32.ofNat kd), .int 0, .int 0, .int 0, .ref 60, .int (-1), .int 0, .int 0]) P5.2.1 rfl (by simp) rfl, stI_n (by omega) (by omega)]; repeat (first | rw [Option.bind_some] | rw [Sum.elim_inl] | rw [Sum.elim_inr])
          have P6 := Ac_cup P5 (true, false, 91, [.int (Int32.ofNat v), .int (Int32.ofNat kd), .int 0, .int 0, .int 0, .ref 60, .int (-1), .int 0, .int 0])
          have M6 := Md_wr (MdAc hb M5 P5 (true, false, 91, [.int (Int32.ofNat v), .int (Int32.ofNat kd), .int 0, .int 0, .int 0, .ref 60, .int (-1), .int 0, .int 0])) (c := 110) (k := 20 + v) (by unfold upE; omega) (Int32.ofNat kd)
          generalize cup s5 s.2.1 _ = s6 at P6 M6 ⊢
          rw [if_pos (isK_t M6.2.2.2.2.2.2.2 rfl)]
          rcases md_tak B M6 (q := 55) (l := [114, 97, 110, 107]) (k := 374834) (by decide) (by decide) (by decide) (by decide) (by decide) with ⟨y5, e7, e8⟩ | ⟨e7, e8⟩
          · rw [e7, e8]; repeat (first | rw [Option.bind_some] | rw [Sum.elim_inl] | rw [Sum.elim_inr])
            have P7 := Ac_nx (sz := sz) (wc := wc) (bg := bg) (en := en) P6 (w + 1 + 1 + 1)
            have M7 := Md_nx M6 y5
            generalize nxC r sz wc bg en (w + 1 + 1 + 1) s6 = s7 at P7 M7 ⊢
            rw [if_pos (isK_t M7.2.2.2.2.2.2.2 rfl)]
            rcases md_num B M7 0 99 (by omega) (by omega) with ⟨y6, rk, _, hrk, e7, e8⟩ | ⟨e7, e8⟩
            · rw [show c_1018 r 0 99 s7 = _ from e7, show t_782 0 99 _ = _ from e8]; repeat (first | rw [Option.bind_some] | rw [Sum.elim_inl] | rw [Sum.elim_inr])
              dsimp only
              have P8 := Ac_nx (sz := sz) (wc := wc) (bg := bg) (en := en) P7 (w + 1 + 1 + 1 + 1)
              have M8 := Md_nx M7 y6
              generalize nxC r sz wc bg en (w + 1 + 1 + 1 + 1) s7 = s8 at P8 M8 ⊢
              rw [xP_c (fs' := [.int (Int32.ofNat v), .int (Int32.ofNat kd), .int (Int32.ofNat rk), .int 0, .int 0, .ref 60, .int (-1), .int 0, .int 0]) P8.2.1 rfl (by simp) rfl, stI_n (by omega) (by omega)]; repeat (first | rw [Option.bind_some] | rw [Sum.elim_inl] | rw [Sum.elim_inr])
              have P9 := Ac_cup P8 (true, false, 91, [.int (Int32.ofNat v), .int (Int32.ofNat kd), .int (Int32.ofNat rk), .int 0, .int 0, .ref 60, .int (-1), .int 0, .int 0])
              have M9 := Md_wr (MdAc hb M8 P8 (true, false, 91, [.int (Int32.ofNat v), .int (Int32.ofNat kd), .int (Int32.ofNat rk), .int 0, .int 0, .ref 60, .int (-1), .int 0, .int 0])) (c := 111) (k := 20 + v) (by unfold upE; omega) (Int32.ofNat rk)
              generalize cup s8 s.2.1 _ = s9 at P9 M9 ⊢
              rw [if_pos (isK_t M9.2.2.2.2.2.2.2 rfl)]
              rcases md_tak B M9 (q := 56) (l := [100, 101, 108, 97, 121]) (k := 26259620) (by decide) (by decide) (by decide) (by decide) (by decide) with ⟨y7, e7, e8⟩ | ⟨e7, e8⟩
              · rw [e7, e8]; repeat (first | rw [Option.bind_some] | rw [Sum.elim_inl] | rw [Sum.elim_inr])
                have Pa := Ac_nx (sz := sz) (wc := wc) (bg := bg) (en := en) P9 (w + 1 + 1 + 1 + 1 + 1)
                have Ma := Md_nx M9 y7
                generalize nxC r sz wc bg en (w + 1 + 1 + 1 + 1 + 1) s9 = sa at Pa Ma ⊢
                rw [if_pos (isK_t Ma.2.2.2.2.2.2.2 rfl)]
                rcases md_num B Ma 0 600 (by omega) (by omega) with ⟨y8, dl, _, hdl, e7, e8⟩ | ⟨e7, e8⟩
                · rw [show c_1018 r 0 600 sa = _ from e7, show t_782 0 600 _ = _ from e8]; repeat (first | rw [Option.bind_some] | rw [Sum.elim_inl] | rw [Sum.elim_inr])
                  dsimp only
                  have Pb := Ac_nx (sz := sz) (wc := wc) (bg := bg) (en := en) Pa (w + 1 + 1 + 1 + 1 + 1 + 1)
                  have Mb := Md_nx Ma y8
                  generalize nxC r sz wc bg en (w + 1 + 1 + 1 + 1 + 1 + 1) sa = sb at Pb Mb ⊢
                  rw [xP_c (fs' := [.int (Int32.ofNat v), .int (Int32.ofNat kd), .int (Int32.ofNat rk), .int (Int32.ofNat dl), .int 0, .ref 60, .int (-1), .int 0, .int 0]) Pb.2.1 rfl (by simp) rfl, stI_n (by omega) (by omega)]; repeat (first | rw [Option.bind_some] | rw [Sum.elim_inl] | rw [Sum.elim_inr])
                  have Pc := Ac_cup Pb (true, false, 91, [.int (Int32.ofNat v), .int (Int32.ofNat kd), .int (Int32.ofNat rk), .int (Int32.ofNat dl), .int 0, .ref 60, .int (-1), .int 0, .int 0])
                  have Mc := Md_wr (MdAc hb Mb Pb (true, false, 91, [.int (Int32.ofNat v), .int (Int32.ofNat kd), .int (Int32.ofNat rk), .int (Int32.ofNat dl), .int 0, .ref 60, .int (-1), .int 0, .int 0])) (c := 112) (k := 20 + v) (by unfold upE; omega) (Int32.ofNat dl)
                  generalize cup sb s.2.1 _ = sc at Pc Mc ⊢
                  rw [if_pos (isK_t Mc.2.2.2.2.2.2.2 rfl)]
                  rcases md_stp B Mc with ⟨y9, e7, e8⟩ | ⟨e7, e8⟩
                  · rw [e7, e8]; repeat (first | rw [Option.bind_some] | rw [Sum.elim_inl] | rw [Sum.elim_inr])
                    have Pd := Ac_nx (sz := sz) (wc := wc) (bg := bg) (en := en) Pc (w + 1 + 1 + 1 + 1 + 1 + 1 + 1)
                    have Md' := Md_wr (Md_wr (Md_nx Mc y9) (c := 109) (k := 20 + v) (by unfold upE; omega) 1) (c := 113) (k := 20 + v) (by unfold upE; omega) 0
                    generalize nxC r sz wc bg en (w + 1 + 1 + 1 + 1 + 1 + 1 + 1) sc = sd at Pd Md' ⊢
                    have lam := wf_lt hw m6
                    have lmx := wf_lt hw m1
                    have nmx : mx ≠ r := apart m1 hr (by show (48 : Nat) ≠ 87; decide)
                    have nam : am ≠ r := apart m6 hr (by show (1042 : Nat) ≠ 87; decide)
                    have x1 : sd.1 mx = some (true, false, 48, [.ref zm, .ref am, .ref rl]) := (Pd.2.2.1 mx lmx nmx).trans m1
                    have x2 : (chg sd 1 1).1 am = some (true, false, 1042, .int ma :: fl ea) := (Pd.2.2.1 am lam nam).trans m6
                    rw [stI_n (by omega) (by omega), xN_o (b := am) x1 rfl rfl]; repeat (first | rw [Option.bind_some] | rw [Sum.elim_inl] | rw [Sum.elim_inr])
                    rw [stI_n (by omega) (by omega), if_pos (isK_t x2 rfl), show (1 : Int32) &&& 1 = 1 from rfl, show (0 : Int32) &&& 1 = 0 from rfl]; repeat (first | rw [Option.bind_some] | rw [Sum.elim_inl] | rw [Sum.elim_inr])
                    generalize hT : wrI (wrI _ 109 (20 + v) 1) 113 (20 + v) 0 = T at Md' ⊢
                    have hrow : ∀ c j, (vwT T).2.2.1 c j = if c = 113 ∧ j = v then 0 else if c = 109 ∧ j = v then 1 else if c = 112 ∧ j = v then Int32.ofNat dl else if c = 111 ∧ j = v then Int32.ofNat rk else if c = 110 ∧ j = v then Int32.ofNat kd else (vwT U).2.2.1 c j := by
                      intro c j
                      rw [← hT, vw_wr (by omega), vw_wr (by omega), show ∀ (V : TS) x, (vwT (ptI V 310 x)).2.2.1 = (vwT V).2.2.1 from fun _ _ => rfl, vw_wr (by omega), show ∀ (V : TS) x, (vwT (ptI V 310 x)).2.2.1 = (vwT V).2.2.1 from fun _ _ => rfl, show ∀ (V : TS) x, (vwT (ptI V 310 x)).2.2.1 = (vwT V).2.2.1 from fun _ _ => rfl, vw_wr (by omega), show ∀ (V : TS) x, (vwT (ptI V 310 x)).2.2.1 = (vwT V).2.2.1 from fun _ _ => rfl, show ∀ (V : TS) x, (vwT (ptI V 310 x)).2.2.1 = (vwT V).2.2.1 from fun _ _ => rfl, vw_wr (by omega)]; rfl
                    have h321 : (vwT T).1 321 = (vwT U).1 321 := by rw [← hT]; rfl
                    clear hT
                    obtain ⟨o, es', mc', cx, cy, p1, p2, p3, p4, p5⟩ := tol_put (V' := vwT T) (n := s.2.1) (k := v) (by omega) x2 m7 m8 (by rw [hrow]; simp) (fun j hj => by rw [hrow]; simp [hj])
                    rw [p1]; repeat (first | rw [Option.bind_some] | rw [Sum.elim_inl] | rw [Sum.elim_inr])
                    have hmd : Md s0 U0 b0 r sz wc bg en (w + 1 + 1 + 1 + 1 + 1 + 1 + 1 + 1) (cput (chg sd 1 1) 1042 am cx cy (.int mc' :: fl es')) T := Md_cup Md' _ m2.2.2.1 (by rw [Pd.2.2.2.1]; omega) nam
                    refine Or.inl ⟨_, _, w + 1 + 1 + 1 + 1 + 1 + 1 + 1 + 1, nr, Z, ZP, fun j => if j = v then s.2.1 else A j, RW, rfl, rfl, by omega, hmd, ?_, ?_, ?_⟩
                    · refine RM_act rm (a := v) (by omega) (by rw [vw9, y2]; decide) (fun q c z1 z2 z3 => ?_) (hw _ (Nat.le_refl _)) hb h321 (fun c j hc => ?_) (by rw [hrow]; simp) ?_ ?_ ⟨_, _, cput_eq .., p4, p5⟩
                      · rw [cput_ne z1]
                        exact (Pd.2.2.1 q (wf_lt hw z3) (fun z => z2 (by rw [z, hr] at z3; rw [← Option.some.inj z3]; rfl))).trans z3
                      · rw [hrow, if_neg (by omega), if_neg (by omega), if_neg (by omega), if_neg (by omega), if_neg (by omega)]
                      · unfold okAct
                        simp only [hrow]
                        refine ⟨⟨kd, by omega, by simp⟩, ⟨rk, by omega, by simp⟩, ⟨dl, by omega, by simp⟩, by simp [v01], ⟨0, by omega, by simp [vwT]⟩, Or.inl (by simp [vwT]), by simp [vwT, v01], by simp [vwT, v01]⟩
                      · rw [cput_ne (by omega)]
                        refine Pd.2.1.trans ?_
                        unfold actC
                        simp only [hrow]
                        simp [show (vwT U).2.2.1 117 v = 0 from rfl, show (vwT U).2.2.1 118 v = -1 from rfl, show (vwT U).2.2.1 119 v = 0 from rfl, show (vwT U).2.2.1 120 v = 0 from rfl, stR]
                    · show sd.2.2.1 + 1 + cx ≤ _
                      rw [Pd.2.2.2.2.1]; omega
                    · show sd.2.2.2 + 1 + cy ≤ _
                      rw [Pd.2.2.2.2.2]; omega
                  · exact OutR.bd hb0 Mc (by rw [e7]; rfl) (by
                      have z := bd_0 (TWe_mk Mc).1
                      rw [e8]; repeat (first | rw [Option.bind_some] | rw [Sum.elim_inl] | rw [Sum.elim_inr])
                      repeat (first | exact Tr.ok (by assumption) | refine Tr.bd (bd_tak (by assumption) _) ?_ | refine Tr.bd (bd_stp (by assumption)) ?_ | refine Tr.bd (bd_num (by assumption) _ _) ?_ | refine Tr.bd (bd_st (by assumption) _ (by decide) (by omega) (by omega) (by unfold upE; omega)) ?_ | refine Tr.ifn (bd_neg (by assumption)) ?_ | (rintro ⟨_, _⟩ ⟨rfl, _⟩; dsimp only) | intro _ _ | dsimp only)) (by have := Mc.1.2.2.1; rw [Pc.2.2.2.2.1]; omega) (by have := Mc.1.2.2.1; rw [Pc.2.2.2.2.2]; omega)
                · exact OutR.bd hb0 Ma (by rw [show c_1018 r 0 600 sa = _ from e7]; rfl) (by
                    have z := bd_n (bd_0 (TWe_mk Ma).1)
                    rw [show t_782 0 600 _ = _ from e8]; repeat (first | rw [Option.bind_some] | rw [Sum.elim_inl] | rw [Sum.elim_inr])
                    try dsimp only
                    repeat (first | exact Tr.ok (by assumption) | refine Tr.bd (bd_tak (by assumption) _) ?_ | refine Tr.bd (bd_stp (by assumption)) ?_ | refine Tr.bd (bd_num (by assumption) _ _) ?_ | refine Tr.bd (bd_st (by assumption) _ (by decide) (by omega) (by omega) (by unfold upE; omega)) ?_ | refine Tr.ifn (bd_neg (by assumption)) ?_ | (rintro ⟨_, _⟩ ⟨rfl, _⟩; dsimp only) | intro _ _ | dsimp only)) (by have := Ma.1.2.2.1; rw [Pa.2.2.2.2.1]; omega) (by have := Ma.1.2.2.1; rw [Pa.2.2.2.2.2]; omega)
              · exact OutR.bd hb0 M9 (by rw [e7]; rfl) (by
                  have z := bd_0 (TWe_mk M9).1
                  rw [e8]; repeat (first | rw [Option.bind_some] | rw [Sum.elim_inl] | rw [Sum.elim_inr])
                  repeat (first | exact Tr.ok (by assumption) | refine Tr.bd (bd_tak (by assumption) _) ?_ | refine Tr.bd (bd_stp (by assumption)) ?_ | refine Tr.bd (bd_num (by assumption) _ _) ?_ | refine Tr.bd (bd_st (by assumption) _ (by decide) (by omega) (by omega) (by unfold upE; omega)) ?_ | refine Tr.ifn (bd_neg (by assumption)) ?_ | (rintro ⟨_, _⟩ ⟨rfl, _⟩; dsimp only) | intro _ _ | dsimp only)) (by have := M9.1.2.2.1; rw [P9.2.2.2.2.1]; omega) (by have := M9.1.2.2.1; rw [P9.2.2.2.2.2]; omega)
            · exact OutR.bd hb0 M7 (by rw [show c_1018 r 0 99 s7 = _ from e7]; rfl) (by
                have z := bd_n (bd_0 (TWe_mk M7).1)
                rw [show t_782 0 99 _ = _ from e8]; repeat (first | rw [Option.bind_some] | rw [Sum.elim_inl] | rw [Sum.elim_inr])
                try dsimp only
                repeat (first | exact Tr.ok (by assumption) | refine Tr.bd (bd_tak (by assumption) _) ?_ | refine Tr.bd (bd_stp (by assumption)) ?_ | refine Tr.bd (bd_num (by assumption) _ _) ?_ | refine Tr.bd (bd_st (by assumption) _ (by decide) (by omega) (by omega) (by unfold upE; omega)) ?_ | refine Tr.ifn (bd_neg (by assumption)) ?_ | (rintro ⟨_, _⟩ ⟨rfl, _⟩; dsimp only) | intro _ _ | dsimp only)) (by have := M7.1.2.2.1; rw [P7.2.2.2.2.1]; omega) (by have := M7.1.2.2.1; rw [P7.2.2.2.2.2]; omega)
          · exact OutR.bd hb0 M6 (by rw [e7]; rfl) (by
              have z := bd_0 (TWe_mk M6).1
              rw [e8]; repeat (first | rw [Option.bind_some] | rw [Sum.elim_inl] | rw [Sum.elim_inr])
              repeat (first | exact Tr.ok (by assumption) | refine Tr.bd (bd_tak (by assumption) _) ?_ | refine Tr.bd (bd_stp (by assumption)) ?_ | refine Tr.bd (bd_num (by assumption) _ _) ?_ | refine Tr.bd (bd_st (by assumption) _ (by decide) (by omega) (by omega) (by unfold upE; omega)) ?_ | refine Tr.ifn (bd_neg (by assumption)) ?_ | (rintro ⟨_, _⟩ ⟨rfl, _⟩; dsimp only) | intro _ _ | dsimp only)) (by have := M6.1.2.2.1; rw [P6.2.2.2.2.1]; omega) (by have := M6.1.2.2.1; rw [P6.2.2.2.2.2]; omega)
        · exact OutR.bd hb0 M4 (by rw [show c_1018 r 0 5 s4 = _ from e7]; rfl) (by
            have z := bd_n (bd_0 (TWe_mk M4).1)
            rw [show t_782 0 5 _ = _ from e8]; repeat (first | rw [Option.bind_some] | rw [Sum.elim_inl] | rw [Sum.elim_inr])
            try dsimp only
            repeat (first | exact Tr.ok (by assumption) | refine Tr.bd (bd_tak (by assumption) _) ?_ | refine Tr.bd (bd_stp (by assumption)) ?_ | refine Tr.bd (bd_num (by assumption) _ _) ?_ | refine Tr.bd (bd_st (by assumption) _ (by decide) (by omega) (by omega) (by unfold upE; omega)) ?_ | refine Tr.ifn (bd_neg (by assumption)) ?_ | (rintro ⟨_, _⟩ ⟨rfl, _⟩; dsimp only) | intro _ _ | dsimp only)) (by have := M4.1.2.2.1; rw [P4.2.2.2.2.1]; omega) (by have := M4.1.2.2.1; rw [P4.2.2.2.2.2]; omega)
      · exact OutR.bd hb0 M3 (by rw [e7]; rfl) (by
          have z := bd_0 (TWe_mk M3).1
          rw [e8]; repeat (first | rw [Option.bind_some] | rw [Sum.elim_inl] | rw [Sum.elim_inr])
          repeat (first | exact Tr.ok (by assumption) | refine Tr.bd (bd_tak (by assumption) _) ?_ | refine Tr.bd (bd_stp (by assumption)) ?_ | refine Tr.bd (bd_num (by assumption) _ _) ?_ | refine Tr.bd (bd_st (by assumption) _ (by decide) (by omega) (by omega) (by unfold upE; omega)) ?_ | refine Tr.ifn (bd_neg (by assumption)) ?_ | (rintro ⟨_, _⟩ ⟨rfl, _⟩; dsimp only) | intro _ _ | dsimp only)) (by have := M3.1.2.2.1; rw [P3.2.2.2.2.1]; omega) (by have := M3.1.2.2.1; rw [P3.2.2.2.2.2]; omega)
    · rw [y2, if_pos rfl, if_neg (show ¬ (1 : Int32) = 0 by decide)]; repeat (first | rw [Option.bind_some] | rw [Sum.elim_inl] | rw [Sum.elim_inr])
      rw [if_pos (isK_t hr1 rfl), c_ww (s := chg s 1 1) hw hr, tw_no M.2.1 M.1.2.1 (by omega)]; repeat (first | rw [Option.bind_some] | rw [Sum.elim_inl] | rw [Sum.elim_inr])
      try dsimp only
      rw [if_pos rfl]
      exact OutR.bd hb0 (Md_chg M 1 1) rfl (Tr.ok (bd_0 (TWe_mk M).1)) (by show s.2.2.1 + 1 ≤ _; omega) (by show s.2.2.2 + 1 ≤ _; omega)
  · have z := TWe_mk M
    rw [show c_1015 r 0 19 s = _ from e3, show t_779 0 19 U = _ from e4]; repeat (first | rw [Option.bind_some] | rw [Sum.elim_inl] | rw [Sum.elim_inr])
    try dsimp only
    rw [if_neg z.1.2]
    exact OutR.bd hb0 M rfl (Tr.ok (bd_0 z.1)) (by omega) (by omega)
end
