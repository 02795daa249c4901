/-! the lifts: begin, whole -/
theorem fre_all {h : lHeap} {t : TS} {nc nk k c : Nat} {C D M : Nat → Nat} {b : Nat → Option Nat} (r : R8x h t nc nk C D M b) (hk : k < nc) : (List.range nk).all (fre t k c) = true ↔ (b k = none ∨ b k = some c) := by
  obtain ⟨_, _, _, _, _, _, _, p8, _, p10, _, _, _, p14, p15, p16, p17, p18, _, _⟩ := r
  rw [List.all_eq_true]
  simp only [List.mem_range, fre, Bool.or_eq_true, beq_iff_eq, Bool.not_eq_true', beq_eq_false_iff_ne, ne_eq]
  constructor
  · intro q
    cases hb : b k with
    | none => exact Or.inl rfl
    | some c2 =>
      obtain ⟨h1, h2, h3⟩ := (p18 k c2 hk).mp hb
      rcases q c2 h1 with (z | z) | z
      · exact Or.inr (by rw [z])
      · unfold isO at h2; rw [z] at h2; exact absurd h2 (by decide)
      · exact absurd h3 z
  · intro q o ho
    by_cases z1 : o = c
    · exact Or.inl (Or.inl z1)
    · by_cases z2 : t.2.2.1 166 o = 0
      · exact Or.inl (Or.inr z2)
      · refine Or.inr (fun z3 => ?_)
        have hO : isO t o := by
          rcases (p16 o ho).1 with w | w
          · exact absurd w z2
          · exact w
        have := (p18 k o hk).mpr ⟨ho, hO, z3⟩
        rcases q with w | w
        · rw [w] at this; cases this
        · rw [w] at this; exact z1 (Option.some.inj this).symm
theorem li_begin {own : Nat → Nat} {s : CS} {t : TS} (hw : wfS s) (r : R8 (rs s.1 own 8) t) (v1 v2 : Int32) : Rg thr0 (fun X => X = 8) 8 (fun H t => R8 (H 8) t) own s t 1 1 (c_526 162 v1 v2 s) (t_656 v1 v2 t) := by
  have r0 := r
  obtain ⟨nc, nk, C, D, M, b, r⟩ := r
  have r2 := r
  obtain ⟨⟨nw, hm, lst, p1⟩, _, _, _, _, _, p7, p8, p9, p10, _, p12, _, p14, p15, p16, p17, p18, _⟩ := r2
  have h1 := rs_in p1
  have k49 : isK s [49] 162 = true := isK_t h1.1 rfl
  have rc : R8x (rs (chg s 1 1).1 own 8) t nc nk C D M b := r
  unfold c_526 t_656
  rw [if_pos k49]
  rcases opOf r v1 with ⟨c, hc, rfl, hO, ht, hcc⟩ | ⟨ht, hcc⟩
  · rw [hcc, ht, Option.bind_some, Option.bind_some, Sum.elim_inl, if_neg (show ¬ (1 : Int32) = 0 by decide)]
    dsimp only
    have hb : ¬ t.1 1 = 0 := p12 (Or.inr (by omega))
    have q606 : (ptI t 0 0).1 606 = Int32.ofNat nk := p9
    obtain ⟨S, e1, e2, e3, e4, e5, e6⟩ := c_leave (s := chg s 1 1) hw r hc hO
    have hD := rs_in ((p16 c hc).2.2 hO).1
    by_cases hv : v2 = -1
    · subst hv
      rw [if_pos rfl, if_pos rfl]
      have ht2 := t_beg0 (t := ptI t 0 0) q606 p10 hc
      refine Or.inl ⟨1, S, wrI (ptI t 0 0) 167 c (-1), own, ?_, ?_, rfl, fun Z h8 h9 => by rw [rt_8 rfl h8, ptI_rt h9], (frm_chg hw).trans e6, ?_, by rw [e2]; exact Nat.le_refl _, by rw [e2]; exact Nat.le_refl _⟩
      · rw [Option.bind_some, e1, Option.bind_some]
      · simp only [Option.bind_some, goes_eq, hb, show ¬ (1 : Int32) = 0 by decide, or_self, if_false]
        rw [ht2, Option.bind_some, if_neg (show ¬ (1 : Int32) = 0 by decide)]
      · refine ⟨nc, nk, C, D, M, _, R8_pt (R8_beg (b' := fun k => if b k = some c then none else b k) r hc hO (Or.inl rfl) (fun k c' hk => ?_) (fun k hk => rs_some.mpr ⟨(rs_in (p14 k hk).1).2, e3 k hk⟩) (rs_some.mpr ⟨hD.2, e4⟩) (fun q z1 z2 => by unfold rs; rw [e5 q z1 z2]; rfl))⟩
        by_cases z : b k = some c
        · rw [if_pos z]
          constructor
          · intro w; cases w
          · rintro ⟨w1, w2, w3⟩
            by_cases y : c' = c
            · rw [if_pos y] at w3; exact absurd w3.symm (i_ne1 (by omega))
            · rw [if_neg y] at w3
              have := (p18 k c' hk).mpr ⟨w1, w2, w3⟩
              rw [z] at this
              exact absurd (Option.some.inj this).symm y
        · rw [if_neg z, p18 k c' hk]
          by_cases y : c' = c
          · rw [if_pos y, y]
            constructor
            · intro w; exact absurd ((p18 k c hk).mpr w) z
            · rintro ⟨_, _, w⟩; exact absurd w.symm (i_ne1 (by omega))
          · rw [if_neg y]
    · rw [if_neg hv, if_neg hv, isInB, p7, if_pos (isK_t (s := chg s 1 1) h1.1 rfl), caOf rc]
      cases hr : inB v2 (Int32.ofNat nc) with
      | true =>
        obtain ⟨k, hk, rfl⟩ := inB_nat nc (by omega) hr
        have hbk : bN (Int32.ofNat k) = k := i_clamp (by omega)
        have hK := rs_in (p14 k hk).1
        have hK' : (chg s 1 1).1 (C k) = some (carC t C D (b k) k) := hK.1
        have hD' : (chg s 1 1).1 (D c) = some (calC t C c) := hD.1
        have ht2 := t_beg (t := ptI t 0 0) q606 p10 (show k < 4 by omega) hc
        have er : rch (ptI t 0 0) k c = rch t k c := rfl
        have ef : (List.range nk).all (fre (ptI t 0 0) k c) = (List.range nk).all (fre t k c) := rfl
        rw [er, ef] at ht2
        simp only [if_true, Option.bind_some, Sum.elim_inl, goes_eq, hb, show ¬ (1 : Int32) = 0 by decide, or_self, if_false]
        rw [hbk, if_pos (isK_t hK' rfl), c_rch hK' hD', ht2, Option.bind_some, Option.bind_some]
        have xr : xR (chg s 1 1) [(95, 6)] (C k) = some ((b k).map D) := by
          unfold xR
          rw [xV_o (v := vR ((b k).map D)) hK' rfl rfl, Option.bind_some]
          cases b k <;> rfl
        cases hrch : rch t k c with
        | false =>
          refine Rg.same (x := 0) (a := 1) (b := 1) hw r0 ?_ ?_ (by omega) (by omega)
          · rw [show (if false = true then (1 : Int32) else 0) = 0 from rfl, if_pos rfl]
          · rw [Bool.false_and]; rfl
        | true =>
          rw [if_pos rfl, if_neg (by decide), xr, Option.bind_some, Bool.true_and]
          by_cases hall : b k = none ∨ b k = some c
          · have hal := (fre_all (c := c) r hk).mpr hall
            rw [hal, if_pos rfl]
            have s1 : S.1 (C k) = some (carC t C D none k) := by
              rw [e3 k hk]
              rcases hall with z | z
              · rw [if_neg (by rw [z]; simp), z]
              · rw [if_pos z]
            have hne : C k ≠ D c := fun w => apart hD.1 hK.1 (by show (96 : Nat) ≠ 95; omega) w.symm
            have f1 : S.1 (D c) = some (true, false, 96, [.int (Int32.ofNat c), .int (t.2.2.1 163 c), .int (t.2.2.1 164 c), .int (t.2.2.1 165 c), .null]) := by
              rw [e4]; simp [calC, wr_at]
            have f2 : calC (wrI t 167 c (Int32.ofNat k)) C c = (true, false, 96, [.int (Int32.ofNat c), .int (t.2.2.1 163 c), .int (t.2.2.1 164 c), .int (t.2.2.1 165 c), .ref (C k)]) := by
              simp [calC, wr_at, i_ne1 (show k < 2147483648 by omega), hbk]
            have f3 : (cup S (D c) (calC (wrI t 167 c (Int32.ofNat k)) C c)).1 (C k) = some (true, false, 95, [.int (Int32.ofNat k), .int (t.2.2.1 158 k), .int (t.2.2.1 159 k), .int (t.2.2.1 160 k), .int (t.2.2.1 161 k), .int (t.2.2.1 162 k), .null]) := by
              rw [cup_ne hne, s1]; rfl
            have hin : (if Option.map D (b k) = none then some (Sum.inl (β := Sum (Int32 × CS) (Nat × CS)) ()) else Option.bind (α := Option Nat) (some (Option.map D (b k))) (fun r8 => (if r8 = some (D c) then some (.inl ()) else (if nst (chg s 1 1) (vR r8) = true then some (.inr (.inl (0, chg s 1 1))) else none)))) = some (.inl ()) := by
              rcases hall with z | z
              · rw [z]; rfl
              · rw [z, if_neg (by simp), Option.bind_some, if_pos (show Option.map D (some c) = some (D c) from rfl)]
            refine Or.inl ⟨1, cup (cup S (D c) (calC (wrI t 167 c (Int32.ofNat k)) C c)) (C k) (carC t C D (some c) k), wrI (ptI t 0 0) 167 c (Int32.ofNat k), own, ?_, ?_, rfl, fun Z h8 h9 => by rw [rt_8 rfl h8, ptI_rt h9], ?_, ?_, by show S.2.2.1 ≤ _; rw [e2]; exact Nat.le_refl _, by show S.2.2.2 ≤ _; rw [e2]; exact Nat.le_refl _⟩
            · rw [hin, Option.bind_some, Sum.elim_inl, e1, Option.bind_some, xP_c (fs' := [.int (Int32.ofNat c), .int (t.2.2.1 163 c), .int (t.2.2.1 164 c), .int (t.2.2.1 165 c), .ref (C k)]) f1 rfl (by simp) rfl, Option.bind_some, ← f2, xP_c (fs' := [.int (Int32.ofNat k), .int (t.2.2.1 158 k), .int (t.2.2.1 159 k), .int (t.2.2.1 160 k), .int (t.2.2.1 161 k), .int (t.2.2.1 162 k), .ref (D c)]) f3 rfl (by simp) rfl, Option.bind_some]
              rfl
            · rfl
            · have g1 := frm_cup (X := fun X => X = 8) (c := calC (wrI t 167 c (Int32.ofNat k)) C c) e6.2.2.2.2 (show D c < S.2.1 by rw [e2]; exact wf_lt hw hD.1) hD.2
              exact ((frm_chg hw).trans e6).trans (g1.trans (frm_cup g1.2.2.2.2 (show C k < S.2.1 by rw [e2]; exact wf_lt hw hK.1) hK.2))
            · refine ⟨nc, nk, C, D, M, _, R8_pt (R8_beg (b' := fun k' => if k' = k then some c else if b k' = some c then none else b k') r hc hO (Or.inr ⟨k, hk, rfl⟩) (fun k' c' hk' => ?_) (fun k' hk' => rs_some.mpr ⟨(rs_in (p14 k' hk').1).2, ?_⟩) (rs_some.mpr ⟨hD.2, ?_⟩) (fun q z1 z2 => ?_))⟩
              · by_cases z : k' = k
                · rw [if_pos z, z]
                  constructor
                  · intro w
                    obtain rfl := Option.some.inj w
                    exact ⟨hc, hO, if_pos rfl⟩
                  · rintro ⟨w1, w2, w3⟩
                    by_cases y : c' = c
                    · rw [y]
                    · rw [if_neg y] at w3
                      have := (p18 k c' hk).mpr ⟨w1, w2, w3⟩
                      rcases hall with x | x
                      · rw [x] at this; cases this
                      · rw [x] at this; exact absurd (Option.some.inj this).symm y
                · rw [if_neg z]
                  by_cases y : c' = c
                  · rw [if_pos y, y]
                    constructor
                    · intro w
                      by_cases x : b k' = some c
                      · rw [if_pos x] at w; cases w
                      · rw [if_neg x] at w; exact absurd w x
                    · rintro ⟨_, _, w⟩
                      exact absurd ((i_inj (by omega) (by omega)).mp w).symm z
                  · rw [if_neg y]
                    by_cases x : b k' = some c
                    · rw [if_pos x]
                      constructor
                      · intro w; cases w
                      · intro w
                        have := (p18 k' c' hk').mpr w
                        rw [x] at this
                        exact absurd (Option.some.inj this).symm y
                    · rw [if_neg x]
                      exact p18 k' c' hk'
              · by_cases z : k' = k
                · rw [if_pos z, z, cup_eq]
                · rw [if_neg z, cup_ne (fun w => z (p15 k' k hk' hk w)), cup_ne (fun w => apart hD.1 (rs_in (p14 k' hk').1).1 (by show (96 : Nat) ≠ 95; omega) w.symm)]
                  exact e3 k' hk'
              · rw [cup_ne (fun w => hne w.symm), cup_eq]
              · unfold rs
                rw [cup_ne (z1 k hk), cup_ne z2, e5 q z1 z2]; rfl
          · have hal : (List.range nk).all (fre t k c) = false := by
              cases hx : (List.range nk).all (fre t k c) with
              | false => rfl
              | true => exact absurd ((fre_all (c := c) r hk).mp hx) hall
            rw [hal]
            obtain ⟨c2, hc2⟩ : ∃ c2, b k = some c2 := by
              cases hx : b k with
              | none => exact absurd (Or.inl hx) hall
              | some c2 => exact ⟨c2, rfl⟩
            have hne2 : c2 ≠ c := fun w => hall (Or.inr (by rw [hc2, w]))
            obtain ⟨w1, w2, w3⟩ := (p18 k c2 hk).mp hc2
            have hD2 : (chg s 1 1).1 (D c2) = some (calC t C c2) := (rs_in ((p16 c2 w1).2.2 w2).1).1
            refine Rg.same (x := 0) (a := 1) (b := 1) hw r0 ?_ ?_ (by omega) (by omega)
            · rw [hc2, if_neg (by simp), Option.bind_some, if_neg (by
                intro w
                exact hne2 (p17 c2 c w1 hc w2 hO (Option.some.inj w))), if_pos (by show nst (chg s 1 1) (.ref (D c2)) = true; unfold nst; simp only [hD2]; rfl)]
              rfl
            · rfl
      | false =>
        refine Rg.arg (x := 0) (a := 1) (b := 1) hw r0 (by simp; rfl) (by simp [goes_eq, ptI]) (by omega) (by omega)
  · rw [hcc, ht]
    refine Rg.arg (x := 0) (a := 1) (b := 1) hw r0 (by simp) (by simp [goes_eq, ptI]) (by omega) (by omega)
