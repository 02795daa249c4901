/-! the lifts: calls come -/
theorem li_open {own : Nat → Nat} {s : CS} {t : TS} {nc nk : Nat} {C D M : Nat → Nat} {b : Nat → Option Nat} (r : R8x (rs s.1 own 8) t nc nk C D M b) : c_537 162 s = some (Int32.ofNat (opn t nk)) ∧ t_846 t = some (Int32.ofNat (opn t nk)) := by
  obtain ⟨mo, eo, o1, o2, o3, o4, o5⟩ := li_len r
  obtain ⟨⟨nw, hm, lst, p1⟩, _, _, _, _, _, _, _, p9, p10, _, _, _, _, _, p16, _⟩ := r
  have h1 := (rs_in p1).1
  have h2 := (rs_in o1).1
  refine ⟨?_, t_many p9 p10 (fun c hc => (p16 c hc).1)⟩
  unfold c_537
  rw [xN_o h1 rfl rfl, Option.bind_some, if_pos (isK_t h2 rfl), tm_size h2, o4]; rfl
theorem li_call {own : Nat → Nat} {s : CS} {t : TS} (hw : wfS s) (hs : 179 ≤ s.2.1) (r : R8 (rs s.1 own 8) t) (v1 v2 : Int32) : Res (fun X => X = 8) 8 (fun H t => R8 (H 8) t) own s t 3 12 (c_525 162 v1 v2 (t.1 612) s) (t_655 v1 v2 t) := by
  obtain ⟨nc, nk, C, D, M, b, r⟩ := r
  have r2 := r
  obtain ⟨⟨nw, hm, lst, p1⟩, _, _, _, _, _, _, _, p9, p10, _⟩ := r2
  obtain ⟨mo, eo, o1, o2, o3, o4, o5⟩ := li_len r
  have h1 := rs_in p1
  have h2 := rs_in o1
  have l1 := wf_lt hw h1.1
  have l2 := wf_lt hw h2.1
  have k49 : isK s [49] 162 = true := isK_t h1.1 rfl
  unfold c_525 t_655
  rw [if_pos k49, flOf, flT, flT, (li_open r).2]
  cases hr : inB v1 60 with
  | true =>
    cases hr2 : inB v2 60 with
    | true =>
      by_cases hne : v1 = v2
      · refine Res.arg (x := 0) (by simp [k49, flOf, hr2, hne, need_eq]) ?_
        by_cases hb : t.1 1 = 0
        · simp [hb, hne, goes_eq, ptI]
        · simp [hb, hne, goes_eq, ptI, iteS]
      · obtain ⟨a, ha, rfl⟩ := inB_nat 60 (by omega) hr
        obtain ⟨c, hc, rfl⟩ := inB_nat 60 (by omega) hr2
        simp only [if_true, Option.bind_some, Sum.elim_inl, k49, flOf, hr2, hne, if_false, need_eq, show ¬ (1 : Int32) = 0 by decide]
        rw [xI_o h1.1 rfl rfl, Option.bind_some, xN_o h1.1 rfl rfl]
        simp only [Option.bind_some, isK_t (tab := [42]) h2.1 rfl, if_true, tm_size h2.1, o4, i_32]
        rw [xI_o h1.1 rfl rfl]
        simp only [Option.bind_some, p9]
        by_cases hb : t.1 1 = 0
        · exact Res.sta (x := 0) (by simp [hb, may_eq]) (by simp [hb, goes_eq, ptI])
        · by_cases hn : opn t nk < 6 ∧ nk < 400
          · have e4 : (if Int32.ofNat (opn t nk) < 6 then (if Int32.ofNat nk < 400 then some (1 : Int32) else some 0) else some 0) = some 1 := by
              rw [if_pos ((i_ltL (by omega) (by omega)).mpr hn.1), if_pos ((i_ltL (by omega) (by omega)).mpr hn.2)]
            simp only [hb, if_false, e4, Option.bind_some, may_eq, show ¬ (1 : Int32) = 0 by decide, Sum.elim_inl, goes_eq, or_self]
            rw [xN_o h1.1 rfl rfl, Option.bind_some, xI_o h1.1 rfl rfl, Option.bind_some]
            have hwc : wfS (chg s 1 1) := hw
            obtain ⟨S1, e1, a1, a2, a3, a4, a5, a6⟩ := nw_o (s := chg s 1 1) 96 [.int 0, .int 0, .int 0, .int 0, .null] hwc
            rw [e1]
            have n1 : (chg s 1 1).2.1 = s.2.1 := rfl
            rw [n1] at a1 a2 a3
            dsimp only
            have g1 : S1.1 162 = some (true, false, 49, [.ref 163, .ref 164, .int (t.1 606), .int nw, .int hm, .int (t.1 1), .ref 165, .ref 166, .ref 167, .ref 168, .long lst, .ref 169]) := (a2 162 (by omega)).trans h1.1
            have g2 : S1.1 164 = some (true, false, 1042, .int mo :: fl eo) := (a2 164 (by omega)).trans h2.1
            rw [n1, xI_o g1 rfl rfl, Option.bind_some, if_pos (isK_t a1 rfl), p9]
            unfold c_1075
            rw [xP_c a1 rfl (by simp) rfl, Option.bind_some, xP_c (cup_eq ..) rfl (by simp) rfl, Option.bind_some, cupU, xP_c (cup_eq ..) rfl (by simp) rfl, Option.bind_some, cupU, xP_c (cup_eq ..) rfl (by simp) rfl, Option.bind_some, cupU, Option.bind_some]
            generalize hS2 : cup S1 s.2.1 _ = S2
            have y1 : S2.1 162 = some (true, false, 49, [.ref 163, .ref 164, .int (t.1 606), .int nw, .int hm, .int (t.1 1), .ref 165, .ref 166, .ref 167, .ref 168, .long lst, .ref 169]) := by rw [← hS2, cup_ne (by omega)]; exact g1
            have y2 : S2.1 164 = some (true, false, 1042, .int mo :: fl eo) := by rw [← hS2, cup_ne (by omega)]; exact g2
            obtain ⟨es', mc', nn, jj, t1, t2, t3, t4, t5, t6, _⟩ := tm_put (v := .ref s.2.1) y2 (KOk_int (ks := .int (Int32.ofNat nk) :: eo.map Prod.fst) (fun x hx => by
              rcases List.mem_cons.mp hx with rfl | hx
              · exact ⟨_, rfl⟩
              · exact o3 x hx)) o2 (by omega)
            have rk0 : rkI (.int (Int32.ofNat nk)) = (nk : Int) := i_toInt (by omega)
            rw [rk0] at t1 t4 t6
            have hmn : (if 0 ≤ (nk : Int) ∧ (nk : Int) < (nk : Int) ∧ t.2.2.1 166 (nk : Int).toNat = 1 then some (Value.ref (D (nk : Int).toNat)) else none) = none := if_neg (fun z => by omega)
            rw [hmn] at t1 t6
            rw [if_pos (isK_t y2 rfl), t1, Option.bind_some]
            dsimp only
            have u1 : (cput S2 1042 164 nn jj (.int mc' :: fl es')).1 162 = some (true, false, 49, [.ref 163, .ref 164, .int (t.1 606), .int nw, .int hm, .int (t.1 1), .ref 165, .ref 166, .ref 167, .ref 168, .long lst, .ref 169]) := (cput_ne (by omega)).trans y1
            rw [xI_o u1 rfl rfl, Option.bind_some, p9, i_suc, xP_c (fs' := [.ref 163, .ref 164, .int (Int32.ofNat (nk + 1)), .int nw, .int hm, .int (t.1 1), .ref 165, .ref 166, .ref 167, .ref 168, .long lst, .ref 169]) u1 rfl (by simp) rfl, Option.bind_some, xI_o (x := Int32.ofNat (nk + 1)) (cup_eq ..) rfl rfl, Option.bind_some, i_subL (by omega)]
            have ht : t_847 (Int32.ofNat a) (Int32.ofNat c) (ptI t 0 0) = some (Int32.ofNat nk, calT t nk (Int32.ofNat a) (Int32.ofNat c)) := by
              have q : (ptI t 0 0).1 606 = Int32.ofNat nk := p9
              have q2 : (ptI t 0 0).1 612 = t.1 612 := rfl
              unfold t_847 calT
              simp only [q, q2, wr_1, stI_n (show nk < 400 by omega) (show 400 < 2147483648 by omega), Option.bind_some, i_suc]
              rw [pt_1, if_pos rfl, i_subL (by omega)]; rfl
            rw [ht, Option.bind_some]
            generalize hS : cup (cput S2 1042 164 nn jj (.int mc' :: fl es')) 162 _ = S
            have s0 : S.1 162 = some (true, false, 49, [.ref 163, .ref 164, .int (Int32.ofNat (nk + 1)), .int nw, .int hm, .int (t.1 1), .ref 165, .ref 166, .ref 167, .ref 168, .long lst, .ref 169]) := by rw [← hS, cup_eq]
            have s1 : S.1 s.2.1 = some (true, false, 96, [.int (Int32.ofNat nk), .int (Int32.ofNat a), .int (Int32.ofNat c), .int (t.1 612), .null]) := by
              rw [← hS, cup_ne (by omega), cput_ne (by omega), ← hS2, cup_eq]; rfl
            have s2 : S.1 164 = some (true, false, 1042, .int mc' :: fl es') := by rw [← hS, cup_ne (by omega), cput_eq]
            have s3 : ∀ q, q < s.2.1 → q ≠ 162 → q ≠ 164 → S.1 q = s.1 q := fun q z1 z2 z3 => by
              rw [← hS, cup_ne z2, cput_ne z3, ← hS2, cup_ne (by omega), a2 q (by omega)]; rfl
            have s4 : S.2.1 = s.2.1 + 1 := by rw [← hS, ← hS2]; exact a3
            refine Or.inl ⟨Int32.ofNat nk, S, calT t nk (Int32.ofNat a) (Int32.ofNat c), givs own s.2.1 1 8, rfl, rfl, rfl, fun Z h8 h9 => ?_, ?_, ⟨nc, nk + 1, C, _, M, b, R8_call hw hs r hn.2 hb ⟨a, ha, rfl⟩ ⟨c, hc, rfl⟩ hn.1 s0 s1 s2 s3 t4 (fun x hx => ?_) (by simp at t6; omega)⟩, ?_, ?_⟩
            · unfold calT
              rw [rt_ptI (by show (8 : Nat) ≠ Z; omega), rt_8 rfl h8, rt_8 rfl h8, rt_8 rfl h8, rt_8 rfl h8, rt_8 rfl h8, ptI_rt h9]
            · refine frm_pt (fun q => q = 162 ∨ q = 164) (fun q _ z => by rcases z with rfl | rfl; exact h1.2; exact h2.2) (fun q z1 z2 => s3 q z1 (fun w => z2 (Or.inl w)) (fun w => z2 (Or.inr w))) (by omega) (fun q z => if_neg (by omega)) (fun q z1 z2 => if_pos (by omega)) ?_
              rw [← hS]
              refine wf_cup (wf_cup ?_ ?_) ?_
              · rw [← hS2]; exact wf_cup a4 (by omega)
              · rw [← hS2]; show 164 < S1.2.1; omega
              · rw [← hS2]; show 162 < S1.2.1; omega
            · rcases t5 x hx with rfl | z
              · exact ⟨_, rfl⟩
              · exact o3 x z
            · rw [← hS, ← hS2]; show S1.2.2.1 + nn ≤ _; rw [a5]; show s.2.2.1 + 1 + 1 + nn ≤ _; omega
            · rw [← hS, ← hS2]; show S1.2.2.2 + jj ≤ _; rw [a6]; show s.2.2.2 + 1 + 5 + jj ≤ _; omega
          · have e4 : (if Int32.ofNat (opn t nk) < 6 then (if Int32.ofNat nk < 400 then some (1 : Int32) else some 0) else some 0) = some 0 := by
              by_cases z1 : opn t nk < 6
              · rw [if_pos ((i_ltL (by omega) (by omega)).mpr z1), if_neg (fun z => hn ⟨z1, (i_ltL (by omega) (by omega)).mp z⟩)]
              · rw [if_neg (fun z => z1 ((i_ltL (by omega) (by omega)).mp z))]
            refine Res.sta (x := 0) ?_ ?_
            · simp only [hb, if_false, e4, Option.bind_some, may_eq, if_true, Sum.elim_inr]
            · simp [hb, e4, goes_eq, ptI]
    | false =>
      refine Res.arg (x := 0) (by simp [k49, flOf, hr2]) ?_
      by_cases hb : t.1 1 = 0
      · simp [hb, goes_eq, ptI]
      · simp [hb, goes_eq, ptI, iteS]
  | false =>
    refine Res.arg (x := 0) (by simp) ?_
    by_cases hb : t.1 1 = 0
    · simp [hb, goes_eq, ptI]
    · simp [hb, goes_eq, ptI, iteS]
