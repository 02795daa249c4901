/-! the warden: a zone is read -/
theorem bd_zo {sz wc w : Nat} {bg en : Nat → Nat} {T0 T : TS} {z : Int32} (h : Bd sz wc w bg en T0 T) : Tr (wh (zoG z) (T, 1)) (Bd sz wc w bg en T0) := by
  refine ⟨T, wh_inr ?_, h⟩
  unfold zoG
  dsimp only
  rw [if_neg (show ¬ (1 : Int32) = 0 by decide), if_neg h.1.2]
section
variable {s0 s : CS} {U0 U : TS} {b0 r mx zm am rl sz wc w np nr : Nat} {bg en Z ZP A RW : Nat → Nat}
theorem rd_zone (B : Bse s0 b0 sz np (U0.2.2.1 102)) (hb0 : b0 ≤ s0.2.1) (h300 : U0.1 300 = Int32.ofNat np) (R : Rd s0 U0 b0 r mx zm am rl sz wc np bg en w s U nr Z ZP A RW) : OutR s0 U0 b0 r mx zm am rl sz wc np bg en w (c_493 151 r mx s) (t_778 U) := by
  obtain ⟨M, rm, k1, k2⟩ := R
  have hwc := M.1.2.2.1
  have hws := M.1.2.2.2.1
  have hsz := M.1.2.2.2.2.1
  have hr := M.2.2.2.2.2.2.2
  have hw := M.2.2.2.2.1
  have lr := Md_r B M
  have hs0 := M.2.2.2.2.2.1
  have rm' := rm
  obtain ⟨m1, m2, ⟨ma, ea, m6, m7, m8⟩, _, _, _, _, m12, _, m14, _⟩ := rm'
  unfold c_493 t_778
  rw [if_pos (isK_t hr rfl)]
  rcases md_pk B M 19 (by omega) with ⟨y1, v, hv, e3, e4, e5, e6⟩ | ⟨e3, e4, e6⟩
  · have e3 : c_1015 r 0 19 s = some (.inl (Int32.ofNat v, s)) := e3
    have e4 : t_779 0 19 U = some (Int32.ofNat v, U) := e4
    have d1 : Int32.ofNat v + 20 = Int32.ofNat (20 + v) := by rw [show (20 : Int32) = Int32.ofNat 20 from rfl, i_add, Nat.add_comm]
    have hr1 : (chg s 1 1).1 r = _ := hr
    rw [e3, e4]; repeat (first | rw [Option.bind_some] | rw [Sum.elim_inl] | rw [Sum.elim_inr])
    dsimp only
    rw [if_pos M.2.1, d1, rdI_n (by omega) (by omega), xN_o (b := zm) m1 rfl rfl]; repeat (first | rw [Option.bind_some] | rw [Sum.elim_inl] | rw [Sum.elim_inr])
    rw [if_pos (isK_t (s := chg s 1 1) m6 rfl), tol_has (s := chg s 1 1) (V := vwT U) (c := 105) (k := v) (by omega) m6 m7 m8]; repeat (first | rw [Option.bind_some] | rw [Sum.elim_inl] | rw [Sum.elim_inr])
    have h109 := (m12 v (by omega)).1
    have h109 : v01 (U.2.2.1 105 (20 + v)) := h109
    have vw9 : (vwT U).2.2.1 105 v = U.2.2.1 105 (20 + v) := rfl
    rw [vw9]
    rcases h109 with y2 | y2
    · have M0 := Md_chg M 1 1
      have w0 : wfS (chg s 1 1) := hw
      rw [y2, if_neg (show ¬ (0 : Int32) = 1 by decide), if_pos rfl]; repeat (first | rw [Option.bind_some] | rw [Sum.elim_inl] | rw [Sum.elim_inr])
      rw [tw_ok M.2.1]; repeat (first | rw [Option.bind_some] | rw [Sum.elim_inl] | rw [Sum.elim_inr])
      rw [if_pos (isK_t hr1 rfl), c_wok (by decide)]; repeat (first | rw [Option.bind_some] | rw [Sum.elim_inl] | rw [Sum.elim_inr])
      rw [if_pos (isK_t hr1 rfl), c_nxM B M0 y1]; repeat (first | rw [Option.bind_some] | rw [Sum.elim_inl] | rw [Sum.elim_inr])
      dsimp only
      rw [if_neg (show ¬ (1 : Int32) = 0 by decide), M.1.2.1, i_suc]; repeat (first | rw [Option.bind_some] | rw [Sum.elim_inl] | rw [Sum.elim_inr])
      have M1 := Md_nx M0 y1
      have A1 : ∀ q, q < s.2.1 → q ≠ r → (nxC r sz wc bg en w (chg s 1 1)).1 q = s.1 q := fun q _ hq => by unfold nxC; rw [cup_ne hq]; rfl
      have A2 : (nxC r sz wc bg en w (chg s 1 1)).2 = (s.2.1, s.2.2.1 + 1, s.2.2.2 + 1) := rfl
      generalize nxC r sz wc bg en w (chg s 1 1) = s1 at M1 A1 A2 ⊢
      obtain ⟨S, eS, g1, g2, g3, g4, g5, g6⟩ := nw_o (s := s1) 90 [.int 0, .int 0, .null] M1.2.2.2.2.1
      have M2 := Md_nw B hb0 M1 ⟨g1, g2, g3, g4, g5, g6⟩
      have n1 : s1.2.1 = s.2.1 := by rw [A2]
      rw [n1] at g1 g2 g3
      have hb : b0 ≤ s.2.1 := by omega
      rw [eS]; repeat (first | rw [Option.bind_some] | rw [Sum.elim_inl] | rw [Sum.elim_inr])
      dsimp only
      rw [n1, if_pos (isK_t g1 rfl)]
      obtain ⟨S2, eS2, l1, l2, l3, l4, l5, l6⟩ := nw_o (s := S) 13 [.int 0, .null, .int 0] g4
      have M3 := Md_nw B hb0 M2 ⟨l1, l2, l3, l4, l5, l6⟩
      unfold c_1053
      rw [eS2]; repeat (first | rw [Option.bind_some] | rw [Sum.elim_inl] | rw [Sum.elim_inr])
      dsimp only
      rw [if_pos (isK_t l1 rfl), alInit_o l1]; repeat (first | rw [Option.bind_some] | rw [Sum.elim_inl] | rw [Sum.elim_inr])
      have z1 : (cup S2 S.2.1 (true, false, 1013, [.int 0])).1 s.2.1 = some (true, false, 90, [.int 0, .int 0, .null]) := by rw [cup_ne (by omega), l2 _ (by omega)]; exact g1
      rw [xP_c (fs' := [.int 0, .int 0, .ref S.2.1]) z1 rfl (by simp) rfl]; repeat (first | rw [Option.bind_some] | rw [Sum.elim_inl] | rw [Sum.elim_inr])
      rw [xP_c (fs' := [.int (Int32.ofNat v), .int 0, .ref S.2.1]) (cup_eq ..) rfl (by simp) rfl, cupU]; repeat (first | rw [Option.bind_some] | rw [Sum.elim_inl] | rw [Sum.elim_inr])
      have M4 := Md_cup (Md_cup M3 (a := S.2.1) (true, false, 1013, [.int 0]) (by omega) (by omega) (by omega)) (a := s.2.1) (true, false, 90, [.int (Int32.ofNat v), .int 0, .ref S.2.1]) hb (by show s.2.1 < S2.2.1; omega) (by omega)
      have P1 : (cup (cup S2 S.2.1 (true, false, 1013, [.int 0])) s.2.1 (true, false, 90, [.int (Int32.ofNat v), .int 0, .ref S.2.1])).1 s.2.1 = some (true, false, 90, [.int (Int32.ofNat v), .int 0, .ref (s.2.1 + 1)]) := by rw [cup_eq, g3]
      have P2 : (cup (cup S2 S.2.1 (true, false, 1013, [.int 0])) s.2.1 (true, false, 90, [.int (Int32.ofNat v), .int 0, .ref S.2.1])).1 (s.2.1 + 1) = some (true, false, 1013, [.int 0]) := by rw [cup_ne (by omega), ← g3, cup_eq]
      have P3 : ∀ q, q < s.2.1 → q ≠ r → (cup (cup S2 S.2.1 (true, false, 1013, [.int 0])) s.2.1 (true, false, 90, [.int (Int32.ofNat v), .int 0, .ref S.2.1])).1 q = s.1 q := fun q hq hq2 => by rw [cup_ne (by omega), cup_ne (by omega), l2 q (by omega), g2 q (by omega)]; exact A1 q hq hq2
      have P4 : (cup (cup S2 S.2.1 (true, false, 1013, [.int 0])) s.2.1 (true, false, 90, [.int (Int32.ofNat v), .int 0, .ref S.2.1])).2 = (s.2.1 + 2, s.2.2.1 + 3, s.2.2.2 + 7) := by
        show S2.2 = _
        have z5 : S2.2.2.1 = s.2.2.1 + 3 := by rw [l5, g5, A2]
        have z6 : S2.2.2.2 = s.2.2.2 + 7 := by rw [l6, g6, A2]; rfl
        exact Prod.ext (by rw [l3, g3]) (Prod.ext z5 z6)
      generalize cup (cup S2 S.2.1 (true, false, 1013, [.int 0])) s.2.1 (true, false, 90, [.int (Int32.ofNat v), .int 0, .ref S.2.1]) = s4 at M4 P1 P2 P3 P4 ⊢
      have q4 : s4.2.1 = s.2.1 + 2 := by rw [P4]
      have q5 : s4.2.2.1 = s.2.2.1 + 3 := by rw [P4]
      have q6 : s4.2.2.2 = s.2.2.2 + 7 := by rw [P4]
      clear l1 l2 l3 l4 l5 l6 g1 g2 g3 g4 g5 g6 z1 eS eS2 M3 M2
      rw [if_pos (isK_t M4.2.2.2.2.2.2.2 rfl)]
      rcases md_tak B M4 (q := 52) (l := [110, 101, 101, 100, 115]) (k := 20059310) (by decide) (by decide) (by decide) (by decide) (by decide) with ⟨y3, e7, e8⟩ | ⟨e7, e8⟩
      · rw [e7, e8]; repeat (first | rw [Option.bind_some] | rw [Sum.elim_inl] | rw [Sum.elim_inr])
        have M5 := Md_nx M4 y3
        have hr5 := M5.2.2.2.2.2.2.2
        rw [xI_o (x := Int32.ofNat (w + 1 + 1)) hr5 rfl rfl]; repeat (first | rw [Option.bind_some] | rw [Sum.elim_inl] | rw [Sum.elim_inr])
        rw [if_pos (isK_t hr5 rfl)]; repeat (first | rw [Option.bind_some] | rw [Sum.elim_inl] | rw [Sum.elim_inr])
        rcases md_num B M5 1 12 (by omega) (by omega) with ⟨y4, nd, hd1, hd2, e7, e8⟩ | ⟨e7, e8⟩
        · rw [show c_1018 r 1 12 _ = _ from e7, show t_782 1 12 _ = _ from e8]; repeat (first | rw [Option.bind_some] | rw [Sum.elim_inl] | rw [Sum.elim_inr])
          dsimp only
          have M6 := Md_nx M5 y4
          have N1 : ∀ x1 x2 q, q ≠ r → (nxC r sz wc bg en x1 (nxC r sz wc bg en x2 s4)).1 q = s4.1 q := fun x1 x2 q hq => by unfold nxC; rw [cup_ne hq, cup_ne hq]
          have N2 : (nxC r sz wc bg en (w + 1 + 1) (nxC r sz wc bg en (w + 1) s4)).2 = s4.2 := rfl
          have o1 := (N1 (w + 1 + 1) (w + 1) s.2.1 (by omega)).trans P1
          have o2 := (N1 (w + 1 + 1) (w + 1) (s.2.1 + 1) (by omega)).trans P2
          have o3 : ∀ q, q < s.2.1 → q ≠ r → (nxC r sz wc bg en (w + 1 + 1) (nxC r sz wc bg en (w + 1) s4)).1 q = s.1 q := fun q h1 h2 => (N1 _ _ q h2).trans (P3 q h1 h2)
          generalize nxC r sz wc bg en (w + 1 + 1) (nxC r sz wc bg en (w + 1) s4) = s6 at M6 N2 o1 o2 o3 ⊢
          rw [xP_c (fs' := [.int (Int32.ofNat v), .int (Int32.ofNat nd), .ref (s.2.1 + 1)]) o1 rfl (by simp) rfl]; repeat (first | rw [Option.bind_some] | rw [Sum.elim_inl] | rw [Sum.elim_inr])
          have M7 := Md_cup M6 (a := s.2.1) (true, false, 90, [.int (Int32.ofNat v), .int (Int32.ofNat nd), .ref (s.2.1 + 1)]) hb (by rw [N2]; omega) (by omega)
          have o4 : (cup s6 s.2.1 (true, false, 90, [.int (Int32.ofNat v), .int (Int32.ofNat nd), .ref (s.2.1 + 1)])).1 (s.2.1 + 1) = _ := (cup_ne (by omega)).trans o2
          have o5 : ∀ q, q < s.2.1 → q ≠ r → (cup s6 s.2.1 (true, false, 90, [.int (Int32.ofNat v), .int (Int32.ofNat nd), .ref (s.2.1 + 1)])).1 q = s.1 q := fun q h1 h2 => (cup_ne (by omega)).trans (o3 q h1 h2)
          have o6 : (cup s6 s.2.1 (true, false, 90, [.int (Int32.ofNat v), .int (Int32.ofNat nd), .ref (s.2.1 + 1)])).1 s.2.1 = _ := cup_eq ..
          have N3 : (cup s6 s.2.1 (true, false, 90, [.int (Int32.ofNat v), .int (Int32.ofNat nd), .ref (s.2.1 + 1)])).2 = s4.2 := N2
          generalize cup s6 s.2.1 (true, false, 90, [.int (Int32.ofNat v), .int (Int32.ofNat nd), .ref (s.2.1 + 1)]) = s7 at M7 o4 o5 o6 N3 ⊢
          rw [if_pos (isK_t M7.2.2.2.2.2.2.2 rfl)]
          rcases md_tak B M7 (q := 53) (l := [111, 102]) (k := 207) (by decide) (by decide) (by decide) (by decide) (by decide) with ⟨y5, e7, e8⟩ | ⟨e7, e8⟩
          · rw [e7, e8]; repeat (first | rw [Option.bind_some] | rw [Sum.elim_inl] | rw [Sum.elim_inr])
            have M8 := Md_nx M7 y5
            have N4 : (nxC r sz wc bg en (w + 1 + 1 + 1) s7).2 = s4.2 := N3
            have M9 := Md_wr M8 (c := 107) (k := 20 + v) (by unfold upE; omega) 0
            rw [stI_n (by omega) (by omega)]; repeat (first | rw [Option.bind_some] | rw [Sum.elim_inl] | rw [Sum.elim_inr])
            have C9 : Zc r s.2.1 v np (Int32.ofNat nd) s (nxC r sz wc bg en (w + 1 + 1 + 1) s7) U (wrI (ptI (ptI (ptI (ptI U 310 (Int32.ofNat (w + 1))) 310 (Int32.ofNat (w + 1 + 1))) 310 (Int32.ofNat (w + 1 + 1 + 1))) 310 (Int32.ofNat (w + 1 + 1 + 1 + 1))) 107 (20 + v) 0) 0 := by
              refine ⟨lr, ?_, ⟨0, ?_⟩, fun q h1 h2 => ?_, by rw [N4]; exact q4, ?_, by omega, fun i hi => absurd hi (by omega), fun c j h1 h2 => ?_, rfl⟩
              · unfold nxC; rw [cup_ne (by omega)]; exact o6
              · unfold nxC; rw [cup_ne (by omega)]; exact o4
              · unfold nxC; rw [cup_ne h2]; exact o5 q h1 h2
              · rw [wr_at, if_pos ⟨rfl, rfl⟩]; rfl
              · rw [wr_at, if_neg h1]; rfl
            have d5 : (ptI (ptI U 310 (Int32.ofNat (w + 1))) 310 (Int32.ofNat (w + 1 + 1))).1 310 = Int32.ofNat (w + 1 + 1) := rfl
            rw [d5]
            generalize nxC r sz wc bg en (w + 1 + 1 + 1) s7 = s9 at M9 N4 C9 ⊢
            generalize wrI (ptI (ptI (ptI (ptI U 310 (Int32.ofNat (w + 1))) 310 (Int32.ofNat (w + 1 + 1))) 310 (Int32.ofNat (w + 1 + 1 + 1))) 310 (Int32.ofNat (w + 1 + 1 + 1 + 1))) 107 (20 + v) 0 = T9 at M9 C9 ⊢
            have hx9 := M9.1.2.2.1
            rcases zo_loop B hb0 h300 (by omega) hb _ _ s9 T9 0 rfl M9 C9 (by rw [N4, q5]; omega) (by rw [N4, q6]; omega) with ⟨sa, Ta, m, xa, f1, f2, f3, f4, f5, f6, f7, f8⟩ | ⟨e, sa, Ta, f1, f2, f3, f4⟩
            · rw [show wh (zoF r s.2.1) s9 = _ from f1, show wh (zoG (Int32.ofNat (20 + v))) (T9, 1) = _ from f2]; repeat (first | rw [Option.bind_some] | rw [Sum.elim_inl] | rw [Sum.elim_inr])
              obtain ⟨_, c2, ⟨mc, c3⟩, c4, c5, c6, c7, c8, c9, c10⟩ := f6
              have Mb := Md_nx f3 f4
              rw [if_pos f3.2.1, if_pos (isK_t f3.2.2.2.2.2.2.2 rfl), c_nxM B f3 f4, f3.1.2.1, i_suc]; repeat (first | rw [Option.bind_some] | rw [Sum.elim_inl] | rw [Sum.elim_inr])
              have c2' : (nxC r sz wc bg en xa sa).1 s.2.1 = _ := (cup_ne (by omega)).trans c2
              have c3' : (nxC r sz wc bg en xa sa).1 (s.2.1 + 1) = _ := (cup_ne (by omega)).trans c3
              have c4' : ∀ q, q < s.2.1 → q ≠ r → (nxC r sz wc bg en xa sa).1 q = s.1 q := fun q h1 h2 => (cup_ne h2).trans (c4 q h1 h2)
              have Nb : (nxC r sz wc bg en xa sa).2 = sa.2 := rfl
              have hxb := Mb.1.2.2.1
              have hwb := Mb.2.2.2.2.1
              generalize nxC r sz wc bg en xa sa = sb at Mb c2' c3' c4' Nb hwb ⊢
              have r107 : ∀ x, (ptI Ta 310 x).2.2.1 107 (20 + v) = Int32.ofNat m := fun _ => c6
              rw [xI_o (x := Int32.ofNat nd) c2' rfl rfl, xN_o (b := s.2.1 + 1) c2' rfl rfl, rdI_n (by omega) (by omega), r107]; repeat (first | rw [Option.bind_some] | rw [Sum.elim_inl] | rw [Sum.elim_inr])
              rw [if_pos (isK_t c3' rfl), alSize_r c3']; repeat (first | rw [Option.bind_some] | rw [Sum.elim_inl] | rw [Sum.elim_inr])
              by_cases y6 : m < nd
              · rw [if_pos ((i_lt (by omega) (by omega)).mpr y6), if_pos ((i_lt (by omega) (by omega)).mpr y6)]; repeat (first | rw [Option.bind_some] | rw [Sum.elim_inl] | rw [Sum.elim_inr])
                rw [stI_n (by omega) (by omega)]; repeat (first | rw [Option.bind_some] | rw [Sum.elim_inl] | rw [Sum.elim_inr])
                rw [stI_n (by omega) (by omega)]; repeat (first | rw [Option.bind_some] | rw [Sum.elim_inl] | rw [Sum.elim_inr])
                refine Or.inr ⟨sb.2.1, wwC sb (Int32.ofNat (w + 1 + 1)), _, ?_, rfl, er_mk Mb.2.2.2.1 hwb Mb.2.2.2.2.2.1 hb0 ?_ rfl (by omega) (by rw [Nb]; omega) (by rw [Nb]; omega)⟩
                · simp [nw, nwc, c_1019, c_68, c_67, xP, lUpd_at, lLook, cup, lUpdU, wwC, isK, kdo, isX, isF, fillT1, fillT2]
                · exact (((f3.2.2.1.pt (Or.inl rfl) _).pt (Or.inr (Or.inl rfl)) _).wr (by unfold upE; omega) _).wr (by unfold upE; omega) _
              · rw [if_neg (fun z => y6 ((i_lt (by omega) (by omega)).mp z)), if_neg (fun z => y6 ((i_lt (by omega) (by omega)).mp z))]; repeat (first | rw [Option.bind_some] | rw [Sum.elim_inl] | rw [Sum.elim_inr])
                have lzm := wf_lt hw m6
                have lmx := wf_lt hw m1
                have nmx : mx ≠ r := apart m1 hr (by show (48 : Nat) ≠ 87; decide)
                have nzm : zm ≠ r := apart m6 hr (by show (1042 : Nat) ≠ 87; decide)
                have x1 : sb.1 mx = some (true, false, 48, [.ref zm, .ref am, .ref rl]) := (c4' mx lmx nmx).trans m1
                have x2 : (chg sb 1 1).1 zm = some (true, false, 1042, .int ma :: fl ea) := (c4' zm lzm nzm).trans m6
                rw [stI_n (by omega) (by omega), xN_o (b := zm) x1 rfl rfl]; repeat (first | rw [Option.bind_some] | rw [Sum.elim_inl] | rw [Sum.elim_inr])
                rw [stI_n (by omega) (by omega), if_pos (isK_t x2 rfl), show (1 : Int32) &&& 1 = 1 from rfl]; repeat (first | rw [Option.bind_some] | rw [Sum.elim_inl] | rw [Sum.elim_inr])
                have hT : ∀ T, T = wrI (wrI (ptI (ptI Ta 310 (Int32.ofNat (xa + 1))) 311 (-1)) 106 (20 + v) (Int32.ofNat nd)) 105 (20 + v) 1 → (∀ c j, (vwT T).2.2.1 c j = if c = 105 ∧ j = v then 1 else if c = 106 ∧ j = v then Int32.ofNat nd else (vwT Ta).2.2.1 c j) ∧ (vwT T).1 321 = (vwT U).1 321 ∧ TWd T sz wc (xa + 1) bg en ∧ T.1 311 < 0 ∧ FrU U0 T := by
                  intro T hT
                  refine ⟨fun c j => ?_, ?_, ?_, ?_, ?_⟩
                  · rw [hT, vw_wr (by omega), vw_wr (by omega)]; rfl
                  · rw [hT]; exact c10
                  · rw [hT]; exact TWd_cg f3.1 rfl rfl (by omega) rfl rfl rfl
                  · rw [hT]; show (-1 : Int32) < 0; decide
                  · rw [hT]; exact (((f3.2.2.1.pt (Or.inl rfl) _).pt (Or.inr (Or.inl rfl)) _).wr (by unfold upE; omega) _).wr (by unfold upE; omega) _
                generalize wrI (wrI (ptI (ptI Ta 310 (Int32.ofNat (xa + 1))) 311 (-1)) 106 (20 + v) (Int32.ofNat nd)) 105 (20 + v) 1 = T at hT ⊢
                obtain ⟨hrow, h321, hTW, h311, hFr⟩ := hT T rfl
                have hTa : ∀ c j, (c ≠ 107 ∨ j ≠ v) → (c ≠ 108 ∨ ¬ (12 * v ≤ j ∧ j < 12 * v + 12)) → (vwT Ta).2.2.1 c j = (vwT U).2.2.1 c j := by
                  intro c j h1 h2
                  unfold vwT
                  dsimp only
                  by_cases z8 : c = 108
                  · rw [if_pos z8, if_pos z8, c9 _ _ (by omega) (by omega)]
                  · rw [if_neg z8, if_neg z8]
                    by_cases z5 : 105 ≤ c ∧ c ≤ 113
                    · rw [if_pos z5, if_pos z5, c9 _ _ (by omega) (by omega)]
                    · rw [if_neg z5, if_neg z5]
                      by_cases z4 : 114 ≤ c ∧ c ≤ 116
                      · rw [if_pos z4, if_pos z4, c9 _ _ (by omega) (by omega)]
                      · rw [if_neg z4, if_neg z4]
                        by_cases z7 : 117 ≤ c ∧ c ≤ 120
                        · rw [if_pos z7, if_pos z7]
                        · rw [if_neg z7, if_neg z7, c9 _ _ (by omega) (by omega)]
                have e108 : ∀ i, (vwT T).2.2.1 108 (12 * v + i) = Ta.2.2.1 108 (12 * (20 + v) + i) := by
                  intro i
                  rw [hrow, if_neg (by omega), if_neg (by omega)]
                  show Ta.2.2.1 108 (240 + (12 * v + i)) = _
                  rw [show 240 + (12 * v + i) = 12 * (20 + v) + i by omega]
                obtain ⟨o, es', mc', cx, cy, p1, p2, p3, p4, p5⟩ := tol_put (V' := vwT T) (n := s.2.1) (k := v) (by omega) x2 m7 m8 (by rw [hrow]; simp) (fun j hj => by rw [hrow, if_neg (by omega), if_neg (by omega)]; exact hTa 105 j (by omega) (by omega))
                rw [p1]; repeat (first | rw [Option.bind_some] | rw [Sum.elim_inl] | rw [Sum.elim_inr])
                have hmd := Md_cup (Md_chg (Md_chg Mb 1 1) cx cy) (a := zm) (true, false, 1042, .int mc' :: fl es') m2.2.1 (by show zm < sb.2.1; rw [Nb, c5]; omega) nzm
                refine Or.inl ⟨_, _, xa + 1, nr, fun j => if j = v then s.2.1 else Z j, fun j => if j = v then s.2.1 + 1 else ZP j, A, RW, rfl, rfl, by omega, ⟨hTW, h311, hFr, hmd.2.2.2⟩, ?_, ?_, ?_⟩
                · refine RM_zone rm (v := v) (by omega) (by rw [vw9, y2]; decide) (fun q c z1 z2 z3 => ?_) (hw _ (Nat.le_succ _)) ⟨hb, by omega⟩ B.1 h321 (fun c j h1 h2 => ?_) (fun j hj => ?_) (by rw [hrow]; simp) ?_ ⟨?_, m, c7, ?_, ?_, ?_⟩ ⟨_, _, cput_eq .., p4, p5⟩
                  · rw [cput_ne z1]
                    exact (c4' q (wf_lt hw z3) (fun z => z2 (by rw [z, hr] at z3; rw [← Option.some.inj z3]; rfl))).trans z3
                  · rw [hrow, if_neg (by omega), if_neg (by omega)]; exact hTa c j (by omega) (by omega)
                  · rw [hrow, if_neg (by omega), if_neg (by omega)]; exact hTa 108 j (by omega) (by omega)
                  · rw [cput_ne (by omega)]
                    refine c2'.trans ?_
                    unfold zonC
                    rw [hrow]; simp
                  · rw [hrow]; exact ⟨nd, by omega, by simp⟩
                  · rw [hrow, if_neg (by omega), if_neg (by omega)]; exact c6
                  · refine ⟨mc, ?_⟩
                    rw [cput_ne (by omega)]
                    refine c3'.trans ?_
                    exact congrArg (fun l => some (true, false, 1013, Value.int mc :: l)) (rowC_congr (fun i hi => by rw [e108]))
                  · intro i hi
                    rw [e108]; exact c8 i hi
                · show sb.2.2.1 + 1 + cx ≤ _
                  rw [Nb]; omega
                · show sb.2.2.2 + 1 + cy ≤ _
                  rw [Nb]; omega
            · rw [show wh (zoF r s.2.1) s9 = _ from f1, show wh (zoG (Int32.ofNat (20 + v))) (T9, 1) = _ from f2]; repeat (first | rw [Option.bind_some] | rw [Sum.elim_inl] | rw [Sum.elim_inr])
              rw [if_neg f3]
              exact Or.inr ⟨e, sa, Ta, rfl, rfl, f4⟩
          · exact OutR.bd hb0 M7 (by rw [e7]; rfl) (by
              have z := bd_0 (TWe_mk M7).1
              rw [e8]; repeat (first | rw [Option.bind_some] | rw [Sum.elim_inl] | rw [Sum.elim_inr])
              refine Tr.bd (bd_st z _ (by decide) (by omega) (by omega) (by unfold upE; omega)) ?_
              intro T1 h1
              refine Tr.bd (bd_zo h1) ?_
              intro T2 h2
              rw [if_neg (bd_neg h2)]
              exact Tr.ok h2) (by rw [N3, q5]; omega) (by rw [N3, q6]; omega)
        · exact OutR.bd hb0 M5 (by rw [show c_1018 r 1 12 _ = _ from e7]; rfl) (by
            have z := bd_n (bd_0 (TWe_mk M5).1)
            rw [show t_782 1 12 _ = _ from e8]; repeat (first | rw [Option.bind_some] | rw [Sum.elim_inl] | rw [Sum.elim_inr])
            try dsimp only
            refine Tr.bd (bd_tak z _) ?_
            intro T0 h0
            refine Tr.bd (bd_st h0 _ (by decide) (by omega) (by omega) (by unfold upE; omega)) ?_
            intro T1 h1
            refine Tr.bd (bd_zo h1) ?_
            intro T2 h2
            rw [if_neg (bd_neg h2)]
            exact Tr.ok h2) (by show s4.2.2.1 ≤ _; omega) (by show s4.2.2.2 ≤ _; omega)
      · exact OutR.bd hb0 M4 (by rw [e7]; rfl) (by
          have z := bd_0 (TWe_mk M4).1
          rw [e8]; repeat (first | rw [Option.bind_some] | rw [Sum.elim_inl] | rw [Sum.elim_inr])
          refine Tr.bd (bd_num z _ _) ?_
          rintro ⟨_, T⟩ ⟨rfl, hT⟩
          dsimp only
          refine Tr.bd (bd_tak hT _) ?_
          intro T0 h0
          refine Tr.bd (bd_st h0 _ (by decide) (by omega) (by omega) (by unfold upE; omega)) ?_
          intro T1 h1
          refine Tr.bd (bd_zo h1) ?_
          intro T2 h2
          rw [if_neg (bd_neg h2)]
          exact Tr.ok h2) (by omega) (by omega)
    · rw [y2, if_pos rfl, if_neg (show ¬ (1 : Int32) = 0 by decide)]; repeat (first | rw [Option.bind_some] | rw [Sum.elim_inl] | rw [Sum.elim_inr])
      rw [if_pos (isK_t hr1 rfl), c_ww (s := chg s 1 1) hw hr, tw_no M.2.1 M.1.2.1 (by omega)]; repeat (first | rw [Option.bind_some] | rw [Sum.elim_inl] | rw [Sum.elim_inr])
      try dsimp only
      rw [if_pos rfl]
      exact OutR.bd hb0 (Md_chg M 1 1) rfl (Tr.ok (bd_0 (TWe_mk M).1)) (by show s.2.2.1 + 1 ≤ _; omega) (by show s.2.2.2 + 1 ≤ _; omega)
  · have z := TWe_mk M
    rw [show c_1015 r 0 19 s = _ from e3, show t_779 0 19 U = _ from e4]; repeat (first | rw [Option.bind_some] | rw [Sum.elim_inl] | rw [Sum.elim_inr])
    try dsimp only
    rw [if_neg z.1.2]
    exact OutR.bd hb0 M rfl (Tr.ok (bd_0 z.1)) (by omega) (by omega)
end
