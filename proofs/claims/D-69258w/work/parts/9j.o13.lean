/-! building: edges, a step -/
section
variable {B U : CS} {t : TS} {L : PLn} {nl : Nat} {LC LD : Nat → Nat} {DC : Nat → Nat → Nat} {nd : Nat → Nat} {e q : Nat → Int32} {W : Nat → Nat} {ne J : Nat}
/-- what the edges are made of -/
def EdH (B : CS) (t : TS) (L : PLn) (nl : Nat) (LC LD : Nat → Nat) (DC : Nat → Nat → Nat) (nd : Nat → Nat) : Prop := wfS B ∧ 179 ≤ B.2.1 ∧ rwP t L nl nd ∧ drN t L nl nd ∧ (∃ f, B.1 102 = some (true, false, 67, .ref 103 :: f)) ∧ (∃ ml : Int32, B.1 103 = some (true, false, 1013, .int ml :: rowC (fun l => .ref (LC l)) nl)) ∧ DrH B t L nl LC LD DC nd ∧ (∀ l i, l < nl → i < nd l → B.1 (DC l i) = some (dcC t l i)) ∧ DrB nl LC LD DC nd ∧ ∃ z f, B.1 170 = some (true, false, 50, .ref 101 :: z :: .ref 171 :: .ref 172 :: .ref 173 :: .ref 174 :: .ref 175 :: f)
theorem edgR_up {h h' : lHeap} {nd1 nd2 : Nat} {W W' : Nat → Nat} {q q' : Nat → Int32} {x : Int32} {c d : Nat} (r : edgR h t nl nd1 W q x c d) (hW : ∀ k, k < nd1 → W' k = W k ∧ ∀ z, h (W k) = some z → h' (W k) = some z) (hn : nd1 ≤ nd2) (hq : ∀ i, q' i = q i ∨ q' i = t.2.2.1 57 i) : edgR h' t nl nd2 W' q' x c d := by
  unfold edgR at *
  rcases r with r | ⟨l, h1, h2, r⟩
  · exact Or.inl r
  · refine Or.inr ⟨l, h1, h2, ?_⟩
    rcases r with r | ⟨r1, k, r2, r3, ⟨m, r4⟩, r5, r6⟩
    · exact Or.inl r
    · obtain ⟨w1, w2⟩ := hW k r2
      refine Or.inr ⟨r1, k, by omega, r3, ⟨m, by rw [w1]; exact w2 _ r4⟩, by rw [w1]; exact r5, fun i hi => ?_⟩
      rcases hq i with z | z
      · rw [z]; exact r6 i hi
      · exact z
theorem ed_step (hB : EdH B t L nl LC LD DC nd) (r : EdS B U t L nl e q W ne J) (hJ : J < 2304) {A : Type} (g : CS → Option A) : ∃ U', Option.bind (c_540 170 102 (Int32.ofNat (J / 4 % 24)) (Int32.ofNat (J / 96)) (Int32.ofNat (J % 4)) U) (fun x7 => Option.bind (aPut x7.2 0 172 (Int32.ofNat J) (.int x7.1)) (fun s8 => g s8)) = g U' ∧ ∃ e' q' W' ne', EdS B U' t L nl e' q' W' ne' (J + 1) := by
  classical
  obtain ⟨hw, h179, rw0, dN, ⟨f, b2⟩, ⟨ml, b3⟩, H, hD, hb, z1, f7, b170⟩ := hB
  have n20 := rw0.1.1
  obtain ⟨r1, r2, r3, r4, ⟨mc, r5⟩, r6, r7, r8, r9, r10, r11⟩ := r
  have hd : J % 4 < 4 := by omega
  have hx : J / 4 % 24 < 24 := by omega
  have hy : J / 96 < 24 := by omega
  have ky : J / 4 / 24 = J / 96 := by omega
  have kU : ∀ {p c}, B.1 p = some c → p ≠ 172 → p ≠ 173 → p ≠ 174 → U.1 p = some c := fun h a b c => by rw [r3 _ (wf_lt hw h) a b c]; exact h
  have u2 := kU b2 (by decide) (by decide) (by decide)
  have u3 := kU b3 (by decide) (by decide) (by decide)
  have u170 := kU b170 (by decide) (by decide) (by decide)
  have HU : DrH U t L nl LC LD DC nd := fun l hl => by
    obtain ⟨h1, h2, ⟨m, h3⟩, h4⟩ := H l hl
    obtain ⟨c1, c2, c3⟩ := hb l hl
    refine ⟨kU h1 (by omega) (by omega) (by omega), h2, ⟨m, kU h3 (by omega) (by omega) (by omega)⟩, fun i hi => ?_⟩
    obtain ⟨da, db, dr, d1, d2⟩ := h4 i hi
    have := c3 i hi
    exact ⟨da, db, dr, kU d1 (by omega) (by omega) (by omega), d2⟩
  have hDU : ∀ l i, l < nl → i < nd l → U.1 (DC l i) = some (dcC t l i) := fun l i h1 h2 => by
    have := (hb l h1).2.2 i h2
    exact kU (hD l i h1 h2) (by omega) (by omega) (by omega)
  have l172 := wf_lt r1 r4
  have l173 := wf_lt r1 r5
  have l174 := wf_lt r1 r6
  obtain ⟨v, c1, c2⟩ := c_isCut rw0 u2 u3 (fun l hl => (HU l hl).1) hd hx hy
  have a6 : (if 1 < Int32.ofNat (J % 4) then some (1 : Int32) else some 0) = some (if J % 4 < 2 then 0 else 1) := by
    by_cases z : J % 4 < 2
    · rw [if_neg (fun w => by have := (i_lt (j := 1) (by omega) (by omega)).mp w; omega), if_pos z]
    · rw [if_pos (show (1 : Int32) < Int32.ofNat (J % 4) from (i_lt (j := 1) (by omega) (by omega)).mpr (by omega)), if_neg z]
  have a15 : (if Int32.ofNat (J % 4) = 1 then some (Int32.ofNat (J / 4 % 24) - 1) else some (Int32.ofNat (J / 4 % 24))) = some (if J % 4 = 1 then Int32.ofNat (J / 4 % 24) - 1 else Int32.ofNat (J / 4 % 24)) := by
    by_cases z : J % 4 = 1
    · rw [if_pos (by rw [z]; rfl), if_pos z]
    · rw [if_neg (show ¬ Int32.ofNat (J % 4) = 1 from fun w => z ((i_inj (k := 1) (by omega) (by omega)).mp w)), if_neg z]
  have a24 : (if Int32.ofNat (J % 4) = 3 then some (Int32.ofNat (J / 96) - 1) else some (Int32.ofNat (J / 96))) = some (if J % 4 = 3 then Int32.ofNat (J / 96) - 1 else Int32.ofNat (J / 96)) := by
    by_cases z : J % 4 = 3
    · rw [if_pos (by rw [z]; rfl), if_pos z]
    · rw [if_neg (show ¬ Int32.ofNat (J % 4) = 3 from fun w => z ((i_inj (k := 3) (by omega) (by omega)).mp w)), if_neg z]
  have ctS := ctN_s (L := L) nl J
  have cXJ : cX (J / 4) = Int32.ofNat (J / 4 % 24) := rfl
  have cYJ : cY (J / 4) = Int32.ofNat (J / 96) := by unfold cY; rw [ky]
  have lc := lnb_cv rw0 hd hx hy
  have fin : ∀ {V : CS} {x : Int32} {q' : Nat → Int32} {W' : Nat → Nat} {ne' : Nat}, wfS V → B.2.1 ≤ V.2.1 → (∀ p, p < B.2.1 → p ≠ 172 → p ≠ 173 → p ≠ 174 → V.1 p = B.1 p) → V.1 172 = some (true, true, 0, rowC (fun j => .int (e j)) 2304) → (∃ mc : Int32, V.1 173 = some (true, false, 1013, .int mc :: rowC (fun k => .ref (W' k)) ne')) → V.1 174 = some (true, true, 0, rowC (fun j => .int (q' j)) 120) → ne' ≤ J + 1 → (∀ k, k < ne' → B.2.1 ≤ W' k) → (∀ j, j < J → edgR V.1 t nl ne' W' q' (e j) (j / 4) (j % 4)) → edgR V.1 t nl ne' W' q' x (J / 4) (J % 4) → V.2.2.1 ≤ B.2.2.1 + (J + 1) + 16 * ctN L nl (J + 1) → V.2.2.2 ≤ B.2.2.2 + 4 * (J + 1) + 129 * ctN L nl (J + 1) → ∃ U', Option.bind (some (x, V)) (fun x7 => Option.bind (aPut x7.2 0 172 (Int32.ofNat J) (.int x7.1)) (fun s8 => g s8)) = g U' ∧ ∃ e' q' W' ne', EdS B U' t L nl e' q' W' ne' (J + 1) := by
    intro V x q' W' ne' v1 v2 v3 v4 v5 v6 v7 v8 v9 v10 v11 v12
    obtain ⟨m5, v5⟩ := v5
    rw [Option.bind_some]
    dsimp only
    rw [aPut_r v4 hJ (by omega), Option.bind_some]
    have lv := wf_lt v1 v4
    have eg : ∀ {x' : Int32} {c dd}, edgR V.1 t nl ne' W' q' x' c dd → edgR (cup V 172 (true, true, 0, rowC (fun j => if j = J then Value.int x else .int (e j)) 2304)).1 t nl ne' W' q' x' c dd := fun {x' c dd} h => edgR_up h (fun k hk => ⟨rfl, fun z hz => by
      have := v8 k hk
      rw [cup_ne (by omega)]; exact hz⟩) (Nat.le_refl _) (fun i => Or.inl rfl)
    refine ⟨_, rfl, fun j => if j = J then x else e j, q', W', ne', wf_cup v1 lv, v2, fun p h1 h2 h3 h4 => ?_, ?_, ⟨m5, ?_⟩, ?_, v7, v8, fun j hj => ?_, v11, v12⟩
    · rw [cup_ne h2]; exact v3 p h1 h2 h3 h4
    · rw [cup_eq]
      refine congrArg (fun l => some (true, true, 0, l)) (rowC_congr (fun j _ => ?_))
      dsimp only
      by_cases z : j = J
      · rw [if_pos z, if_pos z]
      · rw [if_neg z, if_neg z]
    · rw [cup_ne (by decide)]; exact v5
    · rw [cup_ne (by decide)]; exact v6
    · by_cases z : j = J
      · dsimp only
        rw [if_pos z, z]; exact eg v10
      · dsimp only
        rw [if_neg z]; exact eg (v9 j (by omega))
  unfold c_540
  rw [a6, Option.bind_some, a15, Option.bind_some, a24, Option.bind_some, if_pos (isK_t u2 rfl), c1, Option.bind_some]
  dsimp only
  rcases c2 with ⟨rfl, c2⟩ | ⟨rfl, l, hl, c2⟩
  · rw [if_pos rfl]
    have nct : ¬ ctP L nl J := fun ⟨l, hl, h⟩ => c2 l hl h
    rw [if_neg nct] at ctS
    refine fin (V := chg U 1 4) (wf_chg r1) r2 r3 r4 ⟨mc, r5⟩ r6 (by omega) r8 r9 ?_ (by show U.2.2.1 + 1 ≤ _; omega) (by show U.2.2.2 + 4 ≤ _; omega)
    left
    rw [cXJ, cYJ]
    rcases lc with ⟨h1, _⟩ | ⟨l, hl, _, h⟩
    · exact ⟨h1, rfl⟩
    · exact absurd h (c2 l hl)
  · rw [if_neg n10]
    have ct : ctP L nl J := ⟨l, hl, c2⟩
    rw [if_pos ct] at ctS
    have lnl : lnb t (J % 4) (Int32.ofNat (J / 4 % 24)) (Int32.ofNat (J / 96)) nl = Int32.ofNat l := by
      rcases lc with ⟨_, h⟩ | ⟨m, hm, h1, h2⟩
      · exact absurd c2 (h l hl)
      · rw [h1, cv_uniq rw0 hm hl h2 c2]
    obtain ⟨S1, e1, w1⟩ := nw_o (s := chg U 1 4) 13 [.int 0, .null, .int 0] (wf_chg r1)
    unfold Nw at w1
    rw [show (chg U 1 4).2.1 = U.2.1 from rfl] at w1 e1
    rw [e1, Option.bind_some]
    dsimp only
    obtain ⟨q1, q2, q3, q4, q5, q6⟩ := w1
    rw [if_pos (isK_t q1 rfl), alInit_o q1, Option.bind_some]
    obtain ⟨V, hV⟩ : ∃ V, V = cup S1 U.2.1 (true, false, 1013, [.int 0]) := ⟨_, rfl⟩
    rw [← hV]
    have vA : V.1 U.2.1 = some (true, false, 1013, [.int 0]) := by rw [hV]; exact cup_eq ..
    have vO : ∀ p, p ≠ U.2.1 → V.1 p = U.1 p := fun p hp => by rw [hV, cup_ne hp, q2 p hp]; rfl
    have vk : ∀ {p c}, U.1 p = some c → V.1 p = some c := fun h => by rw [vO _ (by have := wf_lt r1 h; omega)]; exact h
    have vn : V.2.1 = U.2.1 + 1 := by rw [hV]; exact q3
    have wV : wfS V := by rw [hV]; exact wf_cup q4 (by omega)
    have vc1 : V.2.2.1 = U.2.2.1 + 2 := by rw [hV]; show S1.2.2.1 = _; rw [q5]; rfl
    have vc2 : V.2.2.2 = U.2.2.2 + 7 := by rw [hV]; show S1.2.2.2 = _; rw [q6]; rfl
    have HV : DrH V t L nl LC LD DC nd := fun l hl => by
      obtain ⟨h1, h2, ⟨m, h3⟩, h4⟩ := HU l hl
      refine ⟨vk h1, h2, ⟨m, vk h3⟩, fun i hi => ?_⟩
      obtain ⟨da, db, dr, d1, d2⟩ := h4 i hi
      exact ⟨da, db, dr, vk d1, d2⟩
    obtain ⟨S, e2, s1, ⟨ms, s2⟩, s3, s4, s5, s6⟩ := c_drAt wV rw0 dN (vk u2) (vk u3) HV (fun p c h z => by
      rcases z with z | rfl | ⟨k, hk, rfl⟩
      · intro w
        rw [w, vA] at h
        cases h
        exact z rfl
      · have := wf_lt r1 u3; omega
      · obtain ⟨_, _, ⟨m, h3⟩, _⟩ := HU k hk
        have := wf_lt r1 h3; omega) vA hd hx hy
    rw [dsA_one rw0 c2 hl] at s2 s5 s6
    have dle : (dsL t l (Int32.ofNat (J / 4 % 24)) (Int32.ofNat (J / 96))).length ≤ 6 := by
      unfold dsL
      rw [List.length_map]
      refine Nat.le_trans (List.length_filter_le _ _) ?_
      rw [List.length_range, (rw0.2 l hl).2, bN_of (by have := (H l hl).2.1; omega)]
      exact (H l hl).2.1
    have dme : ∀ i ∈ dsL t l (Int32.ofNat (J / 4 % 24)) (Int32.ofNat (J / 96)), ∃ l k, l < nl ∧ k < nd l ∧ k < 6 ∧ i = 6 * l + k := fun i hi => by
      obtain ⟨k, h1, _, h3⟩ := dsL_mem hi
      have := (H l hl).2.1
      rw [(rw0.2 l hl).2, bN_of (by omega)] at h1
      exact ⟨l, k, hl, h1, by omega, h3⟩
    have sO : ∀ p, p ≠ U.2.1 → S.1 p = U.1 p := fun p hp => by rw [s3 p hp]; exact vO p hp
    have sk : ∀ {p c}, U.1 p = some c → S.1 p = some c := fun h => by rw [sO _ (by have := wf_lt r1 h; omega)]; exact h
    have sn : S.2.1 = U.2.1 + 1 := s4.trans vn
    have sc1 : S.2.2.1 = U.2.2.1 + 3 + 2 * (dsL t l (Int32.ofNat (J / 4 % 24)) (Int32.ofNat (J / 96))).length := by rw [s5]; show V.2.2.1 + 1 + _ = _; omega
    have sc2 : S.2.2.2 = U.2.2.2 + 11 + 17 * (dsL t l (Int32.ofNat (J / 4 % 24)) (Int32.ofNat (J / 96))).length := by rw [s6]; show V.2.2.2 + 4 + _ = _; omega
    have sl : ((dsL t l (Int32.ofNat (J / 4 % 24)) (Int32.ofNat (J / 96))).map (fun q => Value.int (Int32.ofNat q))).length = (dsL t l (Int32.ofNat (J / 4 % 24)) (Int32.ofNat (J / 96))).length := List.length_map ..
    rw [if_pos (isK_t (vk u2) rfl), e2, Option.bind_some, if_pos (isK_t s2 rfl)]
    have em : alEmpty S U.2.1 = some (if (dsL t l (Int32.ofNat (J / 4 % 24)) (Int32.ofNat (J / 96))).length = 0 then 1 else 0) := by
      unfold alEmpty
      rw [alC_l s2, Option.bind_some]
      dsimp only
      rw [sl]
    rw [em, Option.bind_some]
    by_cases z : dsL t l (Int32.ofNat (J / 4 % 24)) (Int32.ofNat (J / 96)) = []
    · rw [z] at sc1 sc2
      rw [show (if (dsL t l (Int32.ofNat (J / 4 % 24)) (Int32.ofNat (J / 96))).length = 0 then (1 : Int32) else 0) = 1 from if_pos (by rw [z]; rfl), if_neg n10]
      refine fin (V := S) s1 (by omega) (fun p h1 h2 h3 h4 => by rw [sO p (by omega)]; exact r3 p h1 h2 h3 h4) (sk r4) ⟨mc, sk r5⟩ (sk r6) (by omega) r8 (fun j hj => edgR_up (r9 j hj) (fun k hk => ⟨rfl, fun z hz => sk hz⟩) (Nat.le_refl _) (fun i => Or.inl rfl)) ?_ (by rw [sc1, ctS]; show _ + 3 + 2 * 0 ≤ _; omega) (by rw [sc2, ctS]; show _ + 11 + 17 * 0 ≤ _; omega)
      right
      rw [cXJ, cYJ]
      exact ⟨l, hl, lnl, Or.inl ⟨z, rfl⟩⟩
    · have zl : ¬ (dsL t l (Int32.ofNat (J / 4 % 24)) (Int32.ofNat (J / 96))).length = 0 := fun w => z (List.length_eq_zero_iff.mp w)
      rw [show (if (dsL t l (Int32.ofNat (J / 4 % 24)) (Int32.ofNat (J / 96))).length = 0 then (1 : Int32) else 0) = 0 from if_neg zl, if_pos rfl, if_pos (isK_t s2 rfl), alMc_l s2, Option.bind_some]
      dsimp only
      have sA : (chg S 1 4).1 U.2.1 = _ := s2
      have HS : DrH (chg S 1 4) t L nl LC LD DC nd := fun l hl => by
        obtain ⟨h1, h2, ⟨m, h3⟩, h4⟩ := HU l hl
        refine ⟨sk h1, h2, ⟨m, sk h3⟩, fun i hi => ?_⟩
        obtain ⟨da, db, dr, d1, d2⟩ := h4 i hi
        exact ⟨da, db, dr, sk d1, d2⟩
      obtain ⟨W1, e3, q', w1, w2, w3, w4, w5, w6⟩ := ed_rates (V := chg S 1 4) (wf_chg s1) rw0 (sk u2) (sk u3) HS (fun l i h1 h2 => sk (hDU l i h1 h2)) (fun l hl => by
        obtain ⟨c1, c2, c3⟩ := hb l hl
        exact ⟨by omega, by omega, fun i hi => by have := c3 i hi; omega⟩) (sk u170) rfl (sk r6) sA (by omega) (by omega) dme
      rw [e3, Option.bind_some]
      have kw : ∀ {p c}, U.1 p = some c → p ≠ 174 → W1.1 p = some c := fun h hp => (w3 _ hp).trans (sk h)
      have w173 := kw r5 (by decide)
      have w170 := kw u170 (by decide)
      have lA := wf_lt w1 w173
      rw [xN_o (b := 173) w170 rfl rfl, Option.bind_some, if_pos (isK_t w173 rfl), alAdd_r w173 (by omega) (elO_o ((w3 _ (by omega)).trans sA)), Option.bind_some]
      obtain ⟨Y, hY⟩ : ∃ Y, Y = cput W1 1013 173 1 16 (.int (mc + 1) :: rowC (fun j => if j = ne then Value.ref U.2.1 else .ref (W j)) (ne + 1)) := ⟨_, rfl⟩
      rw [← hY]
      have y173 : Y.1 173 = some (true, false, 1013, .int (mc + 1) :: rowC (fun j => if j = ne then Value.ref U.2.1 else .ref (W j)) (ne + 1)) := by rw [hY]; exact cput_eq ..
      have yO : ∀ p, p ≠ 173 → Y.1 p = W1.1 p := fun p hp => by rw [hY]; exact cput_ne hp
      have y170 : Y.1 170 = _ := (yO 170 (by decide)).trans w170
      have n2 : W1.2.1 = U.2.1 + 1 := by rw [w2]; exact sn
      have n3 : W1.2.2.1 = S.2.2.1 + 1 := by rw [w2]; rfl
      have n4 : W1.2.2.2 = S.2.2.2 + 4 := by rw [w2]; rfl
      rw [xN_o (b := 173) y170 rfl rfl, Option.bind_some, if_pos (isK_t y173 rfl), alSize_r y173, Option.bind_some, i_subL (by omega), show ne + 1 - 1 = ne from rfl]
      have yU : Y.1 U.2.1 = some (true, false, 1013, .int ms :: (dsL t l (Int32.ofNat (J / 4 % 24)) (Int32.ofNat (J / 96))).map (fun q => .int (Int32.ofNat q))) := by
        rw [yO _ (by omega), w3 _ (by omega)]; exact s2
      refine fin (V := Y) (q' := q') (W' := fun k => if k = ne then U.2.1 else W k) (ne' := ne + 1) ?_ (by rw [hY]; show B.2.1 ≤ W1.2.1; omega) (fun p h1 h2 h3 h4 => ?_) ?_ ⟨mc + 1, ?_⟩ ?_ (by omega) (fun k hk => ?_) (fun j hj => ?_) ?_ ?_ ?_
      · rw [hY]; exact wf_cup w1 lA
      · rw [yO p h3, w3 p h4]
        show S.1 p = _
        rw [sO p (by omega)]
        exact r3 p h1 h2 h3 h4
      · rw [yO 172 (by decide)]; exact kw r4 (by decide)
      · rw [y173]
        refine congrArg (fun l => some (true, false, 1013, .int (mc + 1) :: l)) (rowC_congr (fun k _ => ?_))
        by_cases v : k = ne
        · rw [if_pos v, if_pos v]
        · rw [if_neg v, if_neg v]
      · rw [yO 174 (by decide)]; exact w4
      · by_cases v : k = ne
        · rw [if_pos v]; exact r2
        · rw [if_neg v]; exact r8 k (by omega)
      · refine edgR_up (r9 j hj) (fun k hk => ⟨if_neg (by omega), fun z hz => ?_⟩) (by omega) w6
        have := r8 k hk
        rw [yO _ (by omega)]
        exact kw hz (by omega)
      · right
        rw [cXJ, cYJ]
        refine ⟨l, hl, lnl, Or.inr ⟨z, ne, by omega, rfl, ⟨ms, ?_⟩, by dsimp only; rw [if_pos rfl]; omega, w5⟩⟩
        dsimp only
        rw [if_pos rfl, yU, map_row]
      · rw [hY]; show W1.2.2.1 + 1 ≤ _; rw [n3, sc1, ctS]; omega
      · rw [hY]; show W1.2.2.2 + 16 ≤ _; rw [n4, sc2, ctS]; omega
end
