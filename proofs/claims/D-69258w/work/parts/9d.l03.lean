/-! the lifts: a new car -/
def nxt1 {A : Type} (n : Nat) (v : A) (f : Nat → A) : Nat → A := fun k => if k = n then v else f k
def carT (t : TS) (nc : Nat) (v1 v2 : Int32) : TS := ptI (wrI (wrI (wrI (wrI (wrI (ptI t 0 0) 158 nc v2) 159 nc v1) 160 nc 0) 161 nc 0) 162 nc 59) 600 (Int32.ofNat (nc + 1))
theorem carT_at {t : TS} {nc : Nat} {v1 v2 : Int32} (c j : Nat) (h : ¬ (158 ≤ c ∧ c ≤ 162 ∧ j = nc)) : (carT t nc v1 v2).2.2.1 c j = t.2.2.1 c j := by
  show (wrI (wrI (wrI (wrI (wrI (ptI t 0 0) 158 nc v2) 159 nc v1) 160 nc 0) 161 nc 0) 162 nc 59).2.2.1 c j = _
  rw [wr_at, if_neg (by omega), wr_at, if_neg (by omega), wr_at, if_neg (by omega), wr_at, if_neg (by omega), wr_at, if_neg (by omega)]; rfl
theorem R8_new {s S : CS} {own : Nat → Nat} {t : TS} {nc nk : Nat} {C D M : Nat → Nat} {b : Nat → Option Nat} {v1 v2 : Int32} {m1 : Int32} (hw : wfS s) (hs : 179 ≤ s.2.1) (r : R8x (rs s.1 own 8) t nc nk C D M b) (hnc : nc < 4) (hb : t.1 1 ≠ 0) (hv1 : flr v1) (hv2 : ∃ v, 1 ≤ v ∧ v ≤ 5 ∧ v2 = Int32.ofNat v)
    (g1 : S.1 s.2.1 = some (true, false, 95, [.int (Int32.ofNat nc), .int v2, .int v1, .int 0, .int 0, .int 59, .null])) (g2 : S.1 163 = some (true, false, 1013, .int m1 :: rowC (fun j => if j = nc then .ref s.2.1 else .ref (C j)) (nc + 1))) (g3 : ∀ q, q < s.2.1 → q ≠ 163 → S.1 q = s.1 q) : R8x (rs S.1 (givs own s.2.1 1 8) 8) (carT t nc v1 v2) (nc + 1) nk (nxt1 nc s.2.1 C) D M (nxt1 nc none b) := by
  obtain ⟨⟨nw, hm, lst, p1⟩, ⟨mm1, p2⟩, ⟨m2, e2, p3⟩, ⟨m3, e3, p4⟩, ⟨f5, p5⟩, ⟨f6, p6⟩, p7, p8, p9, p10, p11, p12, p13, p14, p15, p16, p17, p18, ⟨mo, eo, o1, o2, o3, o4⟩, ⟨mm, em, q1, q2, q3, q4, q5, q6⟩⟩ := r
  have hown : ∀ q, q < s.2.1 → givs own s.2.1 1 8 q = own q := fun q hq => if_neg (by omega)
  have key : ∀ q c, q ≠ 163 → rs s.1 own 8 q = some c → rs S.1 (givs own s.2.1 1 8) 8 q = some c := by
    intro q c hq e
    obtain ⟨z1, z2⟩ := rs_some.mp e
    have hl := wf_lt hw z2
    exact rs_some.mpr ⟨by rw [hown q hl]; exact z1, by rw [g3 q hl hq]; exact z2⟩
  have h163 := rs_in p2
  have lC : ∀ k, k < nc → C k < s.2.1 := fun k hk => wf_lt hw (rs_in (p14 k hk).1).1
  have e := fun c j (h : ¬ (158 ≤ c ∧ c ≤ 162 ∧ j = nc)) => carT_at (t := t) (nc := nc) (v1 := v1) (v2 := v2) c j h
  have n1 : (carT t nc v1 v2).1 1 = t.1 1 := rfl
  have cO : ∀ k, k < nc → nxt1 nc s.2.1 C k = C k := fun k hk => if_neg (by omega)
  have cN : nxt1 nc s.2.1 C nc = s.2.1 := if_pos rfl
  refine ⟨⟨nw, hm, lst, key _ _ (by omega) p1⟩, ⟨m1, rs_some.mpr ⟨by rw [hown _ (wf_lt hw h163.1)]; exact h163.2, ?_⟩⟩, ⟨m2, e2, key _ _ (by omega) p3⟩, ⟨m3, e3, key _ _ (by omega) p4⟩, ⟨f5, key _ _ (by omega) p5⟩, ⟨f6, key _ _ (by omega) p6⟩, rfl, by omega, p9, p10, p11, fun _ => hb, p13, ?_, ?_, ?_, ?_, ?_, ⟨mo, eo, key _ _ (by omega) o1, ?_, o3, o4⟩, ⟨mm, em, key _ _ (by omega) q1, ?_, q3, q4, fun c h1 h2 => ?_, fun c h1 h2 => by rw [e 172 c (by omega)]; exact q6 c h1 h2⟩⟩
  · rw [g2]
    congr 5
    refine rowC_congr (fun k hk => ?_)
    by_cases z : k = nc
    · rw [if_pos z, z, cN]
    · rw [if_neg z, cO k (by omega)]
  · intro k hk
    by_cases z : k = nc
    · subst z
      have w : ∀ c, (carT t k v1 v2).2.2.1 c k = if c = 162 then 59 else if c = 161 then 0 else if c = 160 then 0 else if c = 159 then v1 else if c = 158 then v2 else t.2.2.1 c k := by
        intro c
        show (wrI (wrI (wrI (wrI (wrI (ptI t 0 0) 158 k v2) 159 k v1) 160 k 0) 161 k 0) 162 k 59).2.2.1 c k = _
        simp only [wr_at, and_true]; rfl
      refine ⟨rs_some.mpr ⟨?_, ?_⟩, ?_, by rw [cN]; exact hs⟩
      · rw [cN]; exact if_pos (by omega)
      · rw [cN, g1]
        unfold carC
        rw [w 158, w 159, w 160, w 161, w 162, show nxt1 k none b k = none from if_pos rfl]
        rfl
      · unfold okCar
        rw [w 158, w 159, w 160, w 161, w 162]
        exact ⟨hv2, hv1, ⟨0, by omega, rfl⟩, ⟨0, by omega, rfl⟩, ⟨59, by omega, rfl⟩⟩
    · obtain ⟨y1, y2, y3⟩ := p14 k (by omega)
      have f := fun c => e c k (fun w => z w.2.2)
      refine ⟨?_, ?_, by rw [cO k (by omega)]; exact y3⟩
      · rw [cO k (by omega), key _ _ (by omega) y1]
        unfold carC
        rw [f 158, f 159, f 160, f 161, f 162, show nxt1 nc none b k = b k from if_neg z]
      · unfold okCar at y2 ⊢
        rw [f 158, f 159, f 160, f 161, f 162]
        exact y2
  · intro j k hj hk ejk
    by_cases z1 : j = nc <;> by_cases z2 : k = nc
    · omega
    · rw [z1, cN, cO k (by omega)] at ejk
      have := lC k (by omega); omega
    · rw [z2, cN, cO j (by omega)] at ejk
      have := lC j (by omega); omega
    · rw [cO j (by omega), cO k (by omega)] at ejk
      exact p15 j k (by omega) (by omega) ejk
  · intro c hc
    obtain ⟨y1, y2, y3⟩ := p16 c hc
    have f := fun q (h : q > 162) => e q c (by omega)
    have y2' := y2
    obtain ⟨u1, u2, u3, u4⟩ := y2
    refine ⟨by rw [f 166 (by omega)]; exact y1, ?_, fun hO => ?_⟩
    · unfold okCall
      rw [f 163 (by omega), f 164 (by omega), f 165 (by omega), f 167 (by omega)]
      refine ⟨u1, u2, u3, ?_⟩
      rcases u4 with z | ⟨k, z1, z2⟩
      · exact Or.inl z
      · exact Or.inr ⟨k, by omega, z2⟩
    · unfold isO at hO
      rw [f 166 (by omega)] at hO
      obtain ⟨w1, w2⟩ := y3 hO
      refine ⟨?_, w2⟩
      rw [key _ _ (by omega) w1]
      unfold calC
      rw [f 163 (by omega), f 164 (by omega), f 165 (by omega), f 167 (by omega)]
      rcases u4 with z | ⟨k, z1, z2⟩
      · rw [if_pos z, if_pos z]
      · rw [z2, if_neg (i_ne1 (by omega)), if_neg (i_ne1 (by omega)), bN, i_clamp (by omega), cO k z1]
  · intro c g h1 h2 h3 h4
    unfold isO at h3 h4
    rw [e 166 _ (by omega)] at h3 h4
    exact p17 c g h1 h2 h3 h4
  · intro k c hk
    unfold isO
    rw [e 166 c (by omega), e 167 c (by omega)]
    by_cases z : k = nc
    · rw [show nxt1 nc none b k = none from if_pos z]
      constructor
      · intro w; cases w
      · rintro ⟨w1, w2, w3⟩
        rcases (p16 c w1).2.1.2.2.2 with y | ⟨k', y1, y2⟩
        · rw [y] at w3; exact absurd w3.symm (i_ne1 (by omega))
        · rw [y2] at w3
          have := (i_inj (by omega) (by omega)).mp w3
          omega
    · rw [show nxt1 nc none b k = b k from if_neg z]
      exact p18 k c (by omega)
  · have e166 : ∀ j, (carT t nc v1 v2).2.2.1 166 j = t.2.2.1 166 j := fun j => e 166 j (by omega)
    simp only [e166]; exact o2
  · have e172 : ∀ j, (carT t nc v1 v2).2.2.1 172 j = t.2.2.1 172 j := fun j => e 172 j (by omega)
    simp only [e172]; exact q2
  · rw [e 172 c (by omega)] at h2
    obtain ⟨y1, y2, k, y3, y4⟩ := q5 c h1 h2
    refine ⟨y1, ?_, k, by omega, by rw [e 172 c (by omega)]; exact y4⟩
    rw [key _ _ (by omega) y2]
    unfold toC
    rw [e 172 c (by omega), e 173 c (by omega), e 174 c (by omega), e 175 c (by omega)]
theorem li_car {own : Nat → Nat} {s : CS} {t : TS} (hw : wfS s) (hs : 179 ≤ s.2.1) (r : R8 (rs s.1 own 8) t) (v1 v2 : Int32) : Res (fun X => X = 8) 8 (fun H t => R8 (H 8) t) own s t 2 23 (c_520 162 v1 v2 s) (t_652 v1 v2 t) := by
  obtain ⟨nc, nk, C, D, M, b, r⟩ := r
  have r2 := r
  obtain ⟨⟨nw, hm, lst, p1⟩, ⟨m1, p2⟩, _, _, _, _, p7, p8, _⟩ := r2
  have h1 := (rs_in p1).1
  have h2 := rs_in p2
  have l1 := wf_lt hw h1
  have l2 := wf_lt hw h2.1
  have k49 : isK s [49] 162 = true := isK_t h1 rfl
  unfold c_520 t_652
  rw [if_pos k49, flOf, flT]
  have e3 : (if v2 < 1 then some (0 : Int32) else if 5 < v2 then some 0 else some 1) = some (if btw 1 v2 6 = true then 1 else 0) := by
    have e1 : ((5 : Int32) < v2) = ¬ (v2 < 6) := propext (i_gt (a := 5) (by omega) v2)
    unfold btw
    by_cases h1 : v2 < 1
    · simp [h1]
    · by_cases h2 : v2 < 6
      · simp [h1, h2, e1]
      · simp [h1, h2, e1]
  rw [e3]
  cases hr : inB v1 60 with
  | true =>
    cases hr2 : btw 1 v2 6 with
    | true =>
      have hv := of_decide_eq_true hr2
      obtain ⟨sp, hsp, rfl⟩ := i_nat (n := 6) (x := v2) (by omega) (fun z => hv.1 (Int32.lt_trans z (by decide))) hv.2
      have hsp1 : 1 ≤ sp := Nat.lt_of_not_le (fun z => hv.1 ((i_lt (j := sp) (k := 1) (by omega) (by omega)).mpr (by omega)))
      obtain ⟨fl, hfl, rfl⟩ := inB_nat 60 (by omega) hr
      simp only [if_true, Option.bind_some, Sum.elim_inl, need_eq, show ¬ (1 : Int32) = 0 by decide, if_false]
      rw [xI_o h1 rfl rfl, Option.bind_some, xN_o h1 rfl rfl]
      simp only [Option.bind_some, isK_t (tab := [13]) h2.1 rfl, if_true, alSize_r h2.1, p7]
      by_cases hb : t.1 1 = 0
      · exact Res.sta (x := 0) (by simp [hb, may_eq]) (by simp [hb, goes_eq, ptI])
      · by_cases hn : nc < 4
        · have e4 : (if Int32.ofNat nc < 4 then some (1 : Int32) else some 0) = some 1 := if_pos ((i_ltL (by omega) (by omega)).mpr hn)
          simp only [hb, if_false, e4, Option.bind_some, may_eq, show ¬ (1 : Int32) = 0 by decide, Sum.elim_inl, goes_eq, or_self]
          rw [xN_o h1 rfl rfl, Option.bind_some]
          obtain ⟨S1, e1, a1, a2, a3, a4, a5, a6⟩ := nw_o (s := s) 95 [.int 0, .int 0, .int 0, .int 0, .int 0, .int 0, .null] hw
          rw [e1]
          dsimp only
          have g1 : S1.1 162 = _ := (a2 162 (by omega)).trans h1
          have g2 : S1.1 163 = _ := (a2 163 (by omega)).trans h2.1
          rw [xN_o g1 rfl rfl, Option.bind_some, if_pos (isK_t g2 rfl), alSize_r g2, Option.bind_some, if_pos (isK_t a1 rfl)]
          unfold c_1072
          rw [xP_c a1 rfl (by simp) rfl, Option.bind_some, xP_c (cup_eq ..) rfl (by simp) rfl, Option.bind_some, cupU, xP_c (cup_eq ..) rfl (by simp) rfl, Option.bind_some, cupU, xP_c (cup_eq ..) rfl (by simp) rfl, Option.bind_some, cupU, Option.bind_some]
          have g3 : ∀ c, (cup S1 s.2.1 c).1 163 = some (true, false, 1013, .int m1 :: rowC (fun k => .ref (C k)) nc) := fun c => (cup_ne (by omega)).trans g2
          rw [if_pos (isK_t (g3 _) rfl), alAdd_r (g3 _) (by omega) (elO_o (cup_eq ..)), Option.bind_some]
          generalize hS : cput (cup S1 s.2.1 _) 1013 163 1 16 _ = S
          have w1 : S.1 162 = some (true, false, 49, [.ref 163, .ref 164, .int (t.1 606), .int nw, .int hm, .int (t.1 1), .ref 165, .ref 166, .ref 167, .ref 168, .long lst, .ref 169]) := by rw [← hS, cput_ne (by omega), cup_ne (by omega)]; exact g1
          have w2 : S.1 163 = some (true, false, 1013, .int (m1 + 1) :: rowC (fun j => if j = nc then .ref s.2.1 else .ref (C j)) (nc + 1)) := by rw [← hS, cput_eq]
          rw [xN_o w1 rfl rfl, Option.bind_some, if_pos (isK_t w2 rfl), alSize_r w2, Option.bind_some, i_subL (by omega)]
          have ht : t_845 (Int32.ofNat fl) (Int32.ofNat sp) (ptI t 0 0) = some (Int32.ofNat nc, carT t nc (Int32.ofNat fl) (Int32.ofNat sp)) := by
            have q : (ptI t 0 0).1 600 = Int32.ofNat nc := p7
            unfold t_845 carT
            simp only [q, wr_1, stI_n (show nc < 4 by omega) (show 4 < 2147483648 by omega), Option.bind_some, i_suc]
            rw [pt_1, if_pos rfl, i_subL (by omega)]; rfl
          rw [ht, Option.bind_some]
          refine Or.inl ⟨Int32.ofNat nc, S, carT t nc (Int32.ofNat fl) (Int32.ofNat sp), givs own s.2.1 1 8, rfl, rfl, rfl, fun Z h8 h9 => ?_, ?_, ?_, ?_, ?_⟩
          · unfold carT
            rw [rt_ptI (by show (8 : Nat) ≠ Z; omega), rt_8 rfl h8, rt_8 rfl h8, rt_8 rfl h8, rt_8 rfl h8, rt_8 rfl h8, ptI_rt h9]
          · refine frm_pt (fun q => q = 163) (fun q _ z => by rw [z]; exact h2.2) (fun q z1 z2 => by rw [← hS, cput_ne z2, cup_ne (by omega), a2 q (by omega)]) (by rw [← hS]; show s.2.1 ≤ S1.2.1; omega) (fun q z => if_neg (by omega)) (fun q z1 z2 => if_pos ?_) ?_
            · rw [← hS] at z2
              have z2 : q < S1.2.1 := z2
              omega
            · rw [← hS]; exact wf_cup (wf_cup a4 (by omega)) (show 163 < S1.2.1 by omega)
          · refine ⟨nc + 1, nk, _, D, M, _, R8_new hw hs r hn hb ⟨fl, hfl, rfl⟩ ⟨sp, hsp1, by omega, rfl⟩ ?_ w2 (fun q z1 z2 => by rw [← hS, cput_ne z2, cup_ne (by omega), a2 q (by omega)])⟩
            rw [← hS, cput_ne (by omega), cup_eq]; rfl
          · rw [← hS]; show S1.2.2.1 + 1 ≤ _; omega
          · rw [← hS]; show S1.2.2.2 + 16 ≤ _; rw [a6]; simp only [List.length_cons, List.length_nil]; omega
        · have e4 : (if Int32.ofNat nc < 4 then some (1 : Int32) else some 0) = some 0 := if_neg (fun z => hn ((i_ltL (by omega) (by omega)).mp z))
          refine Res.sta (x := 0) ?_ ?_
          · simp only [hb, if_false, e4, Option.bind_some, may_eq, if_true, Sum.elim_inr]
          · simp [hb, e4, goes_eq, ptI]
    | false =>
      refine Res.arg (x := 0) (by simp [need_eq]) ?_
      by_cases hb : t.1 1 = 0
      · simp [hb, goes_eq, ptI]
      · simp [hb, goes_eq, ptI, iteS]
  | false =>
    refine Res.arg (x := 0) (by simp) ?_
    by_cases hb : t.1 1 = 0
    · simp [hb, goes_eq, ptI]
    · simp [hb, goes_eq, ptI, iteS]
