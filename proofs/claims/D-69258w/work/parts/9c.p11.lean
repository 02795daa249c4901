/-! the program: new blocks -/
def B1 (n a : Nat) (B : Nat → Nat → Nat) : Nat → Nat → Nat := fun k j => if k = n then a + j else B k j
/-- the reference with one more block -/
def nB (t T : TS) (n K : Nat) : Prop := (∀ c, T.1 c = if c = 400 then Int32.ofNat (n + 1) else if c = 0 then 0 else t.1 c) ∧ T.2.1 = t.2.1 ∧ T.2.2.2 = t.2.2.2 ∧ ∀ c j, T.2.2.1 c j = if c = 125 ∧ j = n then Int32.ofNat K else if c = 129 ∧ 3 * n ≤ j ∧ j < 3 * n + 3 then -1 else t.2.2.1 c j
theorem t_block {t : TS} {n K : Nat} (h : t.1 400 = Int32.ofNat n) (hn : n < 40) (h0 : t.1 0 = 0) : Tr (t_806 (Int32.ofNat K) t) (fun z => z.1 = Int32.ofNat n ∧ nB t z.2 n K) := by
  unfold t_806
  rw [h, stI_n (by omega) (by omega), Option.bind_some]
  refine Tr.bd (P := fun T : TS => T.1 = t.1 ∧ T.2.1 = t.2.1 ∧ T.2.2.2 = t.2.2.2 ∧ ∀ c j, T.2.2.1 c j = if c = 125 ∧ j = n then Int32.ofNat K else if c = 129 ∧ 3 * n ≤ j ∧ j < 3 * n + 3 then -1 else t.2.2.1 c j) (wh_cnt 3 (fun k (a : TS × Int32) => a.2 = Int32.ofNat k ∧ a.1.1 = t.1 ∧ a.1.2.1 = t.2.1 ∧ a.1.2.2.2 = t.2.2.2 ∧ ∀ c j, a.1.2.2.1 c j = if c = 125 ∧ j = n then Int32.ofNat K else if c = 129 ∧ 3 * n ≤ j ∧ j < 3 * n + k then -1 else t.2.2.1 c j) ?_ ?_ ⟨rfl, rfl, rfl, rfl, fun c j => ?_⟩) ?_
  · rintro k ⟨T, q⟩ hk ⟨hq, e1, e2, e3, e4⟩
    dsimp only at hq e1 e2 e3 e4 ⊢
    subst hq
    refine Or.inr ⟨(wrI T 129 (3 * n + k) (-1), Int32.ofNat (k + 1)), ?_, rfl, e1, e2, e3, fun c j => ?_⟩
    · rw [if_pos ((i_ltL (by omega) (by omega)).mpr hk), e1, h, i_mulL, i_add, stI_n (by omega) (by omega), Option.bind_some, i_suc]
    · rw [wr_at, e4 c j]
      by_cases a1 : c = 125 ∧ j = n
      · rw [if_neg (by omega), if_pos a1, if_pos a1]
      · rw [if_neg a1, if_neg a1]
        by_cases a2 : c = 129 ∧ j = 3 * n + k
        · rw [if_pos a2, if_pos (by omega)]
        · rw [if_neg a2]
          by_cases a3 : c = 129 ∧ 3 * n ≤ j ∧ j < 3 * n + k
          · rw [if_pos a3, if_pos (by omega)]
          · rw [if_neg a3, if_neg (by omega)]
  · rintro ⟨T, q⟩ ⟨hq, e1, e2, e3, e4⟩
    dsimp only at hq e1 e2 e3 e4 ⊢
    subst hq
    exact ⟨T, rfl, e1, e2, e3, e4⟩
  · rw [wr_at]
    by_cases a1 : c = 125 ∧ j = n
    · rw [if_pos a1, if_pos a1]
    · rw [if_neg a1, if_neg a1, if_neg (by omega)]
  · rintro T ⟨e1, e2, e3, e4⟩
    refine ⟨_, rfl, ?_, fun c => ?_, e2, e3, e4⟩
    · dsimp only
      rw [pt_1, if_pos rfl, e1, h, i_suc, i_subL (by omega)]; rfl
    · dsimp only
      rw [pt_1, e1, h, i_suc]
      by_cases e : c = 400
      · rw [if_pos e, if_pos e]
      · rw [if_neg e, if_neg e]
        by_cases e' : c = 0
        · rw [if_pos e', e', h0]
        · rw [if_neg e']
theorem nB_rt {t T : TS} {n K : Nat} (h : nB t T n K) {Z : Nat} (hZ : Z ≠ 5) (h9 : Z ≠ 99) : rt T Z = rt t Z := by
  obtain ⟨h1, h2, h3, h4⟩ := h
  unfold rt
  rw [h2, h3]
  refine Prod.ext ?_ (Prod.ext rfl (Prod.ext ?_ rfl))
  · funext c
    dsimp only
    by_cases e : mI c = Z
    · rw [if_pos e, if_pos e, h1, if_neg (fun z => hZ (by rw [← e, z]; rfl)), if_neg (fun z => h9 (by rw [← e, z]; rfl))]
    · rw [if_neg e, if_neg e]
  · funext c j
    dsimp only
    by_cases e : mR c = Z
    · rw [if_pos e, if_pos e, h4, if_neg (fun z => hZ (by rw [← e, z.1]; rfl)), if_neg (fun z => hZ (by rw [← e, z.1]; rfl))]
    · rw [if_neg e, if_neg e]
theorem pr_block {own : Nat → Nat} {s : CS} {t : TS} (hw : wfS s) (hs : 179 ≤ s.2.1) (r : R5 (rs s.1 own 5) t) (v1 : Int32) : Res (fun X => X = 5) 5 (fun H t => R5 (H 5) t) own s t 10 100 (c_1086 115 v1 s) (t_632 v1 t) := by
  obtain ⟨n, B, o, od, nw, r⟩ := r
  obtain ⟨⟨p1, p2, ⟨mc, p3⟩, p4, p5, p6, p7, p8, p9⟩, f, i, b, q⟩ := r
  have h1 := rs_in p1
  have h2 := rs_in p2
  have h3 := rs_in p3
  have l1 := wf_lt hw h1.1
  have l3 := wf_lt hw h3.1
  unfold c_1086 t_632
  rw [isInB, if_pos (isK_t h1.1 rfl)]
  have ek : c_1087 115 v1 s = if inB v1 26 = true then some (.inl (some (kid (bN v1)), s)) else some (.inr (s.2.1, exs s 11)) := by
    unfold c_1087
    rw [xN_o h1.1 rfl rfl]
    simp only [Option.bind_some, aLen_r h2.1 (by omega)]
    rw [show Int32.ofNat 26 = 26 from rfl, orB]
    cases hr : inB v1 26 with
    | true =>
      obtain ⟨k, hk, rfl⟩ := inB_nat 26 (by omega) hr
      simp only [Option.bind_some, if_true, need_eq, show ¬ (1 : Int32) = 0 by decide, if_false, Sum.elim_inl]
      rw [xN_o h1.1 rfl rfl, Option.bind_some]
      unfold aR
      rw [aV_r h2.1 (by omega) rfl hk (by omega)]
      simp [toO, bN, i_clamp (show k < 2147483648 by omega)]
    | false => simp [need_eq]
  rw [ek]
  cases hr : inB v1 26 with
  | true =>
    obtain ⟨K, hK, rfl⟩ := inB_nat 26 (by omega) hr
    have hbK : bN (Int32.ofNat K) = K := i_clamp (by omega)
    rw [if_pos rfl, Option.bind_some, Sum.elim_inl, if_pos rfl]
    dsimp only
    rw [xI_o h1.1 rfl rfl, Option.bind_some, xN_o h1.1 rfl rfl]
    simp only [Option.bind_some, isK_t (tab := [13]) h3.1 rfl, if_true, alSize_r h3.1, p5]
    by_cases hb : t.1 1 = 0
    · exact Res.sta (x := 0) (by simp [hb, may_eq]) (by simp [hb, goes_eq, ptI])
    · by_cases hn : n < 40
      · have e40 : (if Int32.ofNat n < 40 then some (1 : Int32) else some 0) = some 1 := by rw [if_pos ((i_ltL (by omega) (by omega)).mpr hn)]
        simp only [hb, if_false, e40, Option.bind_some, may_eq, show ¬ (1 : Int32) = 0 by decide, Sum.elim_inl, goes_eq, or_self]
        obtain ⟨⟨x, T⟩, f1, f2, f3⟩ := t_block (K := K) (t := ptI t 0 0) (n := n) (by rw [pt_1, if_neg (by omega)]; exact p5) hn rfl
        dsimp only at f2 f3
        subst f2
        rw [f1, Option.bind_some]
        dsimp only
        rw [xN_o h1.1 rfl rfl, Option.bind_some]
        obtain ⟨S1, e1, a1, a2, a3, a4, a5, a6⟩ := nw_o (s := s) 94 [.int 0, .null, .int 0, .int 0, .int 0, .null, .null, .int 0, .int 0, .int 0, .int 0, .int 0, .int 0] hw
        rw [e1]
        dsimp only
        have g1 : S1.1 115 = _ := (a2 115 (by omega)).trans h1.1
        have g3 : S1.1 117 = _ := (a2 117 (by omega)).trans h3.1
        rw [xN_o g1 rfl rfl, Option.bind_some, if_pos (isK_t g3 rfl), alSize_r g3, Option.bind_some, if_pos (isK_t a1 rfl)]
        -- the block's own
        have ec : ∃ S7, c_1067 s.2.1 (Int32.ofNat n) (kid (bN (Int32.ofNat K))) S1 = some S7 ∧ S7.1 s.2.1 = some (true, false, 94, [.int (Int32.ofNat n), .ref (kid K), .int 0, .int 0, .int 0, .ref (s.2.1 + 1), .ref (s.2.1 + 2), .int 0, .int 0, .int 0, .int 0, .int 0, .int (-1)]) ∧ S7.1 (s.2.1 + 1) = some (true, true, 8, rowC (fun _ => .null) 3) ∧ S7.1 (s.2.1 + 2) = some (true, true, 0, rowC (fun _ => .int 0) 8) ∧ (∀ q, q < s.2.1 → S7.1 q = s.1 q) ∧ S7.2.1 = s.2.1 + 3 ∧ wfS S7 ∧ S7.2.2.1 = s.2.2.1 + 3 ∧ S7.2.2.2 = s.2.2.2 + 24 := by
          unfold c_1067
          obtain ⟨S2, e2, b1, b2, b3, b4, b5, b6⟩ := nwa_o (s := S1) 8 .null 3 (by omega) a4
          rw [show (3 : Int32) = Int32.ofNat 3 from rfl, e2, Option.bind_some]
          dsimp only
          rw [a3] at b1 b2
          have c1 : S2.1 s.2.1 = _ := (b2 _ (by omega)).trans a1
          rw [xP_c c1 rfl (by simp) rfl, Option.bind_some]
          generalize hU : cup S2 s.2.1 _ = U
          have wU : wfS U := by rw [← hU]; exact wf_cup b4 (by omega)
          have nU : U.2 = S2.2 := by rw [← hU]; rfl
          obtain ⟨S3, e3, d1, d2, d3, d4, d5, d6⟩ := nwa_o (s := U) 0 (.int 0) 8 (by omega) wU
          have n2 : U.2.1 = s.2.1 + 2 := by rw [nU, b3, a3]
          rw [n2] at d1 d2
          rw [show (8 : Int32) = Int32.ofNat 8 from rfl, e3, Option.bind_some]
          dsimp only
          have c2 : S3.1 s.2.1 = some (true, false, 94, [.int 0, .null, .int 0, .int 0, .int 0, .ref S1.2.1, .null, .int 0, .int 0, .int 0, .int 0, .int 0, .int 0]) := (d2 _ (by omega)).trans (by rw [← hU, cup_eq]; rfl)
          rw [xP_c c2 rfl (by simp) rfl, Option.bind_some, xP_c (cup_eq ..) rfl (by simp) rfl, Option.bind_some, cupU, xP_c (cup_eq ..) rfl (by simp) rfl, Option.bind_some, cupU, xP_c (cup_eq ..) rfl (by simp) rfl, Option.bind_some, cupU]
          refine ⟨_, rfl, ?_, ?_, ?_, ?_, ?_, ?_, ?_, ?_⟩
          · rw [cup_eq, n2, hbK, a3]; rfl
          · rw [cup_ne (by omega), d2 _ (by omega), ← hU, cup_ne (by omega)]; exact b1
          · rw [cup_ne (by omega)]; exact d1
          · intro q hq
            rw [cup_ne (by omega), d2 _ (by omega), ← hU, cup_ne (by omega), b2 _ (by omega), a2 _ (by omega)]
          · show S3.2.1 = _; rw [d3, n2]
          · exact wf_cup d4 (by omega)
          · show S3.2.2.1 = _; rw [d5, nU, b5, a5]
          · show S3.2.2.2 = _; rw [d6, nU, b6, a6]; simp
        obtain ⟨S7, e7, j1, j2, j3, j4, j5, j6, j7, j8⟩ := ec
        have g5 : S7.1 117 = _ := (j4 117 l3).trans h3.1
        have g6 : S7.1 115 = _ := (j4 115 l1).trans h1.1
        rw [e7, Option.bind_some, if_pos (isK_t g5 rfl), alAdd_r g5 (by omega) (elO_o j1), Option.bind_some, xP_c (fs' := [.ref 116, .ref 117, .null, .int od, .ref 118, .ref 119, .int nw, .int (t.1 1)]) ((cput_ne (by omega)).trans g6) rfl (by simp) rfl, Option.bind_some]
        generalize hW : cup (cput S7 1013 117 1 16 _) 115 _ = W
        have w5 : W.1 115 = some (true, false, 100, [.ref 116, .ref 117, .null, .int od, .ref 118, .ref 119, .int nw, .int (t.1 1)]) := by rw [← hW, cup_eq]
        have w7 : W.1 117 = some (true, false, 1013, .int (mc + 1) :: rowC (fun j => if j = n then .ref s.2.1 else .ref (B j 0)) (n + 1)) := by rw [← hW, cup_ne (by omega), cput_eq]
        have wn : ∀ q, q ≠ 115 → q ≠ 117 → W.1 q = S7.1 q := fun q z1 z2 => by rw [← hW, cup_ne z1, cput_ne z2]
        have wW : wfS W := by
          rw [← hW]
          exact wf_cup (wf_cup j6 (by omega)) (show 115 < S7.2.1 by omega)
        have wq : W.2.1 = s.2.1 + 3 := by rw [← hW]; exact j5
        have wc : W.2.2.1 = s.2.2.1 + 4 := by rw [← hW]; show S7.2.2.1 + 1 = _; omega
        have wd : W.2.2.2 = s.2.2.2 + 40 := by rw [← hW]; show S7.2.2.2 + 16 = _; omega
        rw [xN_o w5 rfl rfl, Option.bind_some, if_pos (isK_t w7 rfl), alSize_r w7, Option.bind_some, i_subL (by omega)]
        refine Or.inl ⟨Int32.ofNat n, W, T, givs own s.2.1 3 5, rfl, rfl, by rw [f3.1]; rfl, fun Z h5 h99 => by rw [nB_rt f3 h5 h99, ptI_rt h99], ?_, ?_, by omega, by omega⟩
        · refine frm_pt (fun q => q = 115 ∨ q = 117) (fun q _ e => by rcases e with rfl | rfl; exact h1.2; exact h3.2) (fun q hq e => by rw [wn q (fun z => e (Or.inl z)) (fun z => e (Or.inr z)), j4 q hq]) (by omega) (fun q hq => if_neg (by omega)) (fun q z1 z2 => if_pos (by omega)) wW
        · have hown : ∀ q, q < s.2.1 → givs own s.2.1 3 5 q = own q := fun q hq => if_neg (by omega)
          have key : ∀ q c, q ≠ 115 → q ≠ 117 → rs s.1 own 5 q = some c → rs W.1 (givs own s.2.1 3 5) 5 q = some c := by
            intro q c hq hq2 e
            obtain ⟨z1, z2⟩ := rs_some.mp e
            have hl := wf_lt hw z2
            exact rs_some.mpr ⟨by rw [hown q hl]; exact z1, by rw [wn q hq hq2, j4 q hl]; exact z2⟩
          have hlB : ∀ k j, k < n → j < 3 → B k j < s.2.1 := by
            intro k j hk hj
            obtain ⟨r1, r2, r3, _⟩ := b k hk
            have : j = 0 ∨ j = 1 ∨ j = 2 := by omega
            rcases this with rfl | rfl | rfl
            · exact wf_lt hw (rs_in r1).1
            · exact wf_lt hw (rs_in r2).1
            · exact wf_lt hw (rs_in r3).1
          obtain ⟨T1, T2, T3, T4⟩ := f3
          have e1 : T.1 1 = t.1 1 := by rw [T1]; rfl
          have eR : ∀ c j, c ≠ 125 → c ≠ 129 → T.2.2.1 c j = t.2.2.1 c j := fun c j z1 z2 => by rw [T4, if_neg (fun z => z1 z.1), if_neg (fun z => z2 z.1)]; rfl
          have hBo : ∀ k j, k < n → B1 n s.2.1 B k j = B k j := fun k j hk => if_neg (by omega)
          have hBn : ∀ j, B1 n s.2.1 B n j = s.2.1 + j := fun j => if_pos rfl
          have n5 : ∀ q, s.2.1 ≤ q → q < s.2.1 + 3 → givs own s.2.1 3 5 q = 5 := fun q z1 z2 => if_pos ⟨z1, z2⟩
          refine ⟨n + 1, B1 n s.2.1 B, .null, od, nw, ⟨rs_some.mpr ⟨by rw [hown _ l1]; exact h1.2, by rw [w5, e1]⟩, key _ _ (by omega) (by omega) p2, ⟨mc + 1, rs_some.mpr ⟨by rw [hown _ l3]; exact h3.2, ?_⟩⟩, ?_, by rw [T1, if_pos rfl], by omega, ?_, by rw [e1]; exact p8, fun _ => by rw [e1]; exact hb⟩, ?_, ?_, ?_, Or.inl rfl⟩
          · rw [w7]
            congr 5
            refine rowC_congr (fun k hk => ?_)
            by_cases e : k = n
            · rw [if_pos e, e, hBn]; rfl
            · rw [if_neg e, hBo _ _ (by omega)]
          · rw [key _ _ (by omega) (by omega) p4]
            congr 4
            exact rowC_congr (fun k hk => by rw [eR 140 _ (by omega) (by omega)])
          · rw [T1, if_neg (by omega), if_neg (by omega), eR 140 _ (by omega) (by omega)]; exact p7
          · intro k z1 z2
            refine ⟨fun c hc => by rw [eR c _ (by unfold bRow at hc; omega) (by unfold bRow at hc; omega)]; exact (f k (by omega) z2).1 c hc, fun i' hi' => by rw [eR 130 _ (by omega) (by omega)]; exact (f k (by omega) z2).2 i' hi'⟩
          · refine ⟨?_, ?_⟩
            · intro k j k' j' y1 y2 y3 y4 e
              by_cases z1 : k = n <;> by_cases z2 : k' = n
              · rw [z1, z2, hBn, hBn] at e; omega
              · rw [z1, hBn, hBo _ _ (by omega)] at e
                have := hlB k' j' (by omega) y4; omega
              · rw [z2, hBn, hBo _ _ (by omega)] at e
                have := hlB k j (by omega) y2; omega
              · rw [hBo _ _ (by omega), hBo _ _ (by omega)] at e
                exact i.1 _ _ _ _ (by omega) y2 (by omega) y4 e
            · intro k j y1 y2
              by_cases z1 : k = n
              · rw [z1, hBn]; omega
              · rw [hBo _ _ (by omega)]; exact i.2 _ _ (by omega) y2
          · intro k hk
            by_cases z1 : k = n
            · subst z1
              have fr := f k (by omega) hn
              have z := fun c (hc : bRow c) => (eR c k (by unfold bRow at hc; omega) (by unfold bRow at hc; omega)).trans (fr.1 c hc)
              have e125 : T.2.2.1 125 k = Int32.ofNat K := by rw [T4, if_pos ⟨rfl, rfl⟩]
              have ew : ∀ i', i' < 3 → wire T k i' = -1 := fun i' hi' => by
                unfold wire
                rw [T4, if_neg (by omega), if_pos (by omega)]
              refine ⟨rs_some.mpr ⟨by rw [hBn]; exact n5 _ (by omega) (by omega), ?_⟩, rs_some.mpr ⟨by rw [hBn]; exact n5 _ (by omega) (by omega), ?_⟩, rs_some.mpr ⟨by rw [hBn]; exact n5 _ (by omega) (by omega), ?_⟩, ⟨K, hK, e125⟩, fun i' hi' => Or.inl (ew i' hi'), ?_⟩
              · rw [hBn, wn _ (by omega) (by omega), Nat.add_zero, j1]
                unfold bC
                rw [e125, hbK, hBn, hBn, z 126 (by unfold bRow; omega), z 127 (by unfold bRow; omega), z 128 (by unfold bRow; omega), z 131 (by unfold bRow; omega), z 132 (by unfold bRow; omega), z 133 (by unfold bRow; omega), z 134 (by unfold bRow; omega), z 135 (by unfold bRow; omega), z 137 (by unfold bRow; omega)]
                rfl
              · rw [hBn, wn _ (by omega) (by omega), j2]
                congr 4
                exact rowC_congr (fun i' hi' => by rw [ew i' hi']; rfl)
              · rw [hBn, wn _ (by omega) (by omega), j3]
                congr 4
                exact rowC_congr (fun i' hi' => by rw [eR 130 _ (by omega) (by omega), fr.2 i' hi'])
              · rw [z 134 (by unfold bRow; omega)]; exact Or.inl rfl
            · have hk' : k < n := by omega
              obtain ⟨r1, r2, r3, r4, r5, r6⟩ := b k hk'
              have g0 := i.2 k 0 hk' (by omega)
              have g1 := i.2 k 1 hk' (by omega)
              have g2 := i.2 k 2 hk' (by omega)
              have e125 : T.2.2.1 125 k = t.2.2.1 125 k := by rw [T4, if_neg (by omega), if_neg (by omega)]; rfl
              have ew : ∀ i', i' < 3 → wire T k i' = wire t k i' := fun i' hi' => by
                unfold wire
                rw [T4, if_neg (by omega), if_neg (by omega)]; rfl
              refine ⟨?_, ?_, ?_, by rw [e125]; exact r4, fun i' hi' => by rw [ew i' hi']; rcases r5 i' hi' with y | ⟨w, y1, y2⟩; exact Or.inl y; exact Or.inr ⟨w, by omega, y2⟩, by rw [eR 134 _ (by omega) (by omega)]; exact r6⟩
              · rw [hBo _ _ hk', key _ _ (by omega) (by omega) r1]
                unfold bC
                rw [e125, hBo _ _ hk', hBo _ _ hk', eR 126 _ (by omega) (by omega), eR 127 _ (by omega) (by omega), eR 128 _ (by omega) (by omega), eR 131 _ (by omega) (by omega), eR 132 _ (by omega) (by omega), eR 133 _ (by omega) (by omega), eR 134 _ (by omega) (by omega), eR 135 _ (by omega) (by omega), eR 137 _ (by omega) (by omega)]
              · rw [hBo _ _ hk', key _ _ (by omega) (by omega) r2]
                congr 4
                refine rowC_congr (fun i' hi' => ?_)
                rw [ew i' hi']
                unfold wv
                rcases r5 i' hi' with y | ⟨w, y1, y2⟩
                · rw [if_pos y, if_pos y]
                · rw [y2, if_neg (i_ne1 (by omega)), if_neg (i_ne1 (by omega)), bN, i_clamp (by omega), hBo _ _ y1]
              · rw [hBo _ _ hk', key _ _ (by omega) (by omega) r3]
                congr 4
                exact rowC_congr (fun i' hi' => by rw [eR 130 _ (by omega) (by omega)])
      · have e40 : (if Int32.ofNat n < 40 then some (1 : Int32) else some 0) = some 0 := by rw [if_neg (fun z => hn ((i_ltL (by omega) (by omega)).mp z))]
        refine Res.sta (x := 0) ?_ ?_
        · simp only [hb, if_false, e40, Option.bind_some, may_eq, if_true, Sum.elim_inr]
        · simp [hb, e40, goes_eq, ptI]
  | false => exact Res.arg (x := 0) (by simp) (by simp [goes_eq, ptI]; by_cases hb : t.1 1 = 0 <;> simp [hb]; split <;> rfl)
