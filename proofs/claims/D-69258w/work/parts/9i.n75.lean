/-! the plan: a line is moved, whole -/
section
variable {own : Nat → Nat} {s : CS} {t T : TS}
theorem mv_gdL {L : PLn} {nl k : Nat} {V : Nat × Nat × Bool × Nat} (hg : gdL L nl) (hk : k < nl) (sm : smL (updL L k V) k) (al : alnL (updL L k V) k nl) : gdL (updL L k V) nl := by
  refine ⟨hg.1, fun l hl => ?_, fun l m hl hm hne => ?_⟩
  · by_cases z : l = k
    · rw [z]; exact sm
    · show smL (updL L k V) l
      exact (smL_c (updL_ne z)).mpr (hg.2.1 l hl)
  · by_cases z : l = k
    · rw [z] at hne ⊢
      exact nov_sy (al m hm (fun w => hne w.symm))
    · by_cases w : m = k
      · rw [w] at hne ⊢
        exact al l hl hne
      · exact (nov_c (updL_ne z) (updL_ne w)).mpr (hg.2.2 l m hl hm hne)
theorem mv_sm {L : PLn} {k x y : Nat} {v2 v3 : Int32} (s0 : smL L k) (ex : Int32.ofNat (pX L k) + v2 = Int32.ofNat x) (ey : Int32.ofNat (pY L k) + v3 = Int32.ofNat y) (hx : x < 25) (hy : y < 25) (a : mvA L k v2 v3) : smL (updL L k (x, y, pFl L k, pN L k)) k := by
  have b := smL_b s0
  obtain ⟨_, _, _, _, a5, a6⟩ := a
  have e5 : Int32.ofNat (pHX L k) + v2 = Int32.ofNat (x + (if pFl L k = true then pN L k else 0)) := by
    unfold pHX
    rw [← i_add, ← i_add, ← ex, Int32.add_assoc, Int32.add_assoc, Int32.add_comm v2]
  have e6 : Int32.ofNat (pHY L k) + v3 = Int32.ofNat (y + (if pFl L k = true then 0 else pN L k)) := by
    unfold pHY
    rw [← i_add, ← i_add, ← ey, Int32.add_assoc, Int32.add_assoc, Int32.add_comm v3]
  have hN : pN L k ≤ 24 := by
    obtain ⟨_, c1, c2⟩ := s0
    unfold pHX at c1
    unfold pHY at c2
    by_cases z : pFl L k = true
    · rw [if_pos z] at c1; omega
    · rw [if_neg z] at c2; omega
  have i1 : (if pFl L k = true then pN L k else 0) ≤ 24 := by split <;> omega
  have i2 : (if pFl L k = true then 0 else pN L k) ≤ 24 := by split <;> omega
  obtain ⟨p, hp, z5⟩ := inB_nat 25 (by omega) a5
  obtain ⟨r, hr, z6⟩ := inB_nat 25 (by omega) a6
  rw [e5] at z5
  rw [e6] at z6
  have z5' := (i_inj (by omega) (by omega)).mp z5
  have z6' := (i_inj (by omega) (by omega)).mp z6
  unfold smL pHX pHY pX pY pN pFl
  rw [updL_eq]
  exact ⟨s0.1, by show x + (if pFl L k = true then pN L k else 0) ≤ 24; omega, by show y + (if pFl L k = true then 0 else pN L k) ≤ 24; omega⟩
theorem pl_move (hw : wfS s) (r : R2 (rs s.1 own 2) t) (v1 v2 v3 : Int32) : Rg thr0 (fun X => X = 2) 2 (R2k t) own s t 1 4 (c_893 102 v1 v2 v3 s) (t_559 v1 v2 v3 t) := by
  have hR : R2k t (rs s.1 own) t := ⟨r, Or.inr rfl⟩
  obtain ⟨L, nl, LC, LD, DC, nd, fo, be, co, fi, r⟩ := r
  obtain ⟨g1, ⟨ml, g2⟩, g3, g4, g5, g6⟩ := pl_lnk r
  have q := r
  unfold c_893 t_559
  rw [if_pos (isK_t g1 rfl), c_lineOf q, g5, isInB, Option.bind_some]
  by_cases z : inB v1 (Int32.ofNat nl) = true
  · obtain ⟨k, hk, rfl⟩ := inB_nat nl (by omega) z
    have hk20 : k < 20 := by omega
    rw [if_pos z, if_pos z, if_neg (show ¬ (1 : Int32) = 0 by decide), Option.bind_some, Sum.elim_inl, i_clamp (by omega)]
    dsimp only
    rw [c_mvG _ (g3 k hk), t_mvA (g6 k hk).2, Option.bind_some, need_eq]
    by_cases a : mvA L k v2 v3
    · rw [if_pos a, if_neg (show ¬ (1 : Int32) = 0 by decide), if_neg (show ¬ (1 : Int32) = 0 by decide), Option.bind_some, Option.bind_some, Sum.elim_inl, xI_o (x := t.1 1) g1 rfl rfl, Option.bind_some]
      by_cases y : t.1 1 = 0
      · rw [if_pos y, Option.bind_some, Option.bind_some, may_eq, if_neg (show ¬ (1 : Int32) = 0 by decide), goes_1 t (show ¬ (1 : Int32) = 0 by decide), Option.bind_some, Option.bind_some, Sum.elim_inl]
        dsimp only
        rw [if_neg (show ¬ (1 : Int32) = 0 by decide)]
        obtain ⟨x', hx', ex⟩ := inB_nat 25 (by omega) a.2.2.1
        obtain ⟨y', hy', ey⟩ := inB_nat 25 (by omega) a.2.2.2.1
        have sm := mv_sm (g6 k hk).1 ex ey hx' hy' a
        have r3 := r.2.2.2.2.1.2.2.1
        obtain ⟨ml', l3⟩ := r3
        have inj := l3.2.2
        have n102 : 102 ≠ LC k := fun w => by
          have := g3 k hk
          rw [← w, g1] at this; cases this
        have n103 : 103 ≠ LC k := fun w => by
          have := g3 k hk
          rw [← w, g2] at this; cases this
        rw [xI_o (x := Int32.ofNat (pX L k)) (g3 k hk) rfl rfl, Option.bind_some, xP_c (k := 3) (fs' := [.int (Int32.ofNat k), .int (if pFl L k = true then 1 else 0), .int (Int32.ofNat (pN L k)), .int (Int32.ofNat (pX L k) + v2), .int (Int32.ofNat (pY L k)), .ref (LD k)]) (g3 k hk) rfl (by show 3 < 6; decide) rfl, Option.bind_some]
        rw [xI_o (x := Int32.ofNat (pY L k)) (cup_eq ..) rfl rfl, Option.bind_some, xP_c (k := 4) (fs' := [.int (Int32.ofNat k), .int (if pFl L k = true then 1 else 0), .int (Int32.ofNat (pN L k)), .int (Int32.ofNat (pX L k) + v2), .int (Int32.ofNat (pY L k) + v3), .ref (LD k)]) (cup_eq ..) rfl (by show 4 < 6; decide) rfl, Option.bind_some, cupU]
        obtain ⟨S2, hS2⟩ : ∃ S2, S2 = cup s (LC k) (true, false, 59, [.int (Int32.ofNat k), .int (if pFl L k = true then 1 else 0), .int (Int32.ofNat (pN L k)), .int (Int32.ofNat (pX L k) + v2), .int (Int32.ofNat (pY L k) + v3), .ref (LD k)]) := ⟨_, rfl⟩
        rw [← hS2]
        have c2' : S2.1 (LC k) = some (true, false, 59, [.int (Int32.ofNat k), .int (if pFl L k = true then 1 else 0), .int (Int32.ofNat (pN L k)), .int (Int32.ofNat (pX L k) + v2), .int (Int32.ofNat (pY L k) + v3), .ref (LD k)]) := by rw [hS2]; exact cup_eq ..
        have n2 : ∀ b, b ≠ LC k → S2.1 b = s.1 b := fun b hb => by rw [hS2]; exact cup_ne hb
        have f2 : S2.2 = s.2 := by rw [hS2]; rfl
        have c2 : S2.1 (LC k) = some (lcC (updL L k (x', y', pFl L k, pN L k)) LD k) := by
          rw [c2', ex, ey]
          unfold lcC pX pY pN pFl
          rw [updL_eq]
        have lcl : ∀ l, l < nl → S2.1 (LC l) = some (lcC (updL L k (x', y', pFl L k, pN L k)) LD l) := fun l hl => by
          by_cases w : l = k
          · rw [w]; exact c2
          · rw [n2 _ (fun e => w (inj l k hl hk e)), lcC_c (L' := updL L k (x', y', pFl L k, pN L k)) (updL_ne w) rfl]
            exact g3 l hl
        have smA : ∀ l, l < nl ∨ l = k → smL (updL L k (x', y', pFl L k, pN L k)) l := fun l hl => by
          by_cases w : l = k
          · rw [w]; exact sm
          · exact (smL_c (updL_ne w)).mpr (g6 l (by omega)).1
        have h102 := n2 102 n102
        have h103 := n2 103 n103
        rw [g1] at h102
        rw [g2] at h103
        rw [if_pos (isK_t h102 rfl), c_free (s := S2) (v1 := LC k) (k := k) g4 h102 h103 lcl c2 (fun l hl => ⟨fun e => inj l k hl hk e, fun e => by rw [e]⟩) smA, Option.bind_some]
        have v110 : v01 (t.1 110) := by
          rcases r.2.2.2.2.2.2 with ⟨_, _, w⟩ | ⟨_, _, _, w, _⟩
          · exact Or.inl w
          · exact w
        have lnA : ∀ l, l < nl ∨ l = k → ln1 (wrI (wrI (ptI t 0 0) 50 k (Int32.ofNat (pX L k) + v2)) 51 k (Int32.ofNat (pY L k) + v3)) (updL L k (x', y', pFl L k, pN L k)) l ∧ smL (updL L k (x', y', pFl L k, pN L k)) l := fun l hl => by
          refine ⟨?_, smA l hl⟩
          obtain ⟨b0, b1, b2, b3, b4⟩ := (g6 l (by omega)).2
          refine ⟨b0, ?_, ?_, ?_, ?_⟩
          · rw [wr_at, if_neg (fun z => by have := z.1; omega), wr_at]
            by_cases w : l = k
            · rw [if_pos ⟨rfl, w⟩, ex]; unfold pX; rw [w, updL_eq]
            · rw [if_neg (fun e => w e.2)]; unfold pX; rw [updL_ne w]; exact b1
          · rw [wr_at]
            by_cases w : l = k
            · rw [if_pos ⟨rfl, w⟩, ey]; unfold pY; rw [w, updL_eq]
            · rw [if_neg (fun e => w e.2), wr_at, if_neg (fun z => by have := z.1; omega)]; unfold pY; rw [updL_ne w]; exact b2
          · rw [wr_at, if_neg (fun z => by have := z.1; omega), wr_at, if_neg (fun z => by have := z.1; omega)]
            unfold pFl
            by_cases w : l = k
            · rw [w, updL_eq]; rw [w] at b3; exact b3
            · rw [updL_ne w]; exact b3
          · rw [wr_at, if_neg (fun z => by have := z.1; omega), wr_at, if_neg (fun z => by have := z.1; omega)]
            unfold pN
            by_cases w : l = k
            · rw [w, updL_eq]; rw [w] at b4; exact b4
            · rw [updL_ne w]; exact b4
        have ta := t_alone (T := wrI (wrI (ptI t 0 0) 50 k (Int32.ofNat (pX L k) + v2)) 51 k (Int32.ofNat (pY L k) + v3)) (nl := nl) g5 hk20 lnA g4
        have o59 := (rs_some.mp (l3.2.1 k hk)).1
        have o102 := (rs_some.mp r.1).1
        by_cases al : alnL (updL L k (x', y', pFl L k, pN L k)) k nl
        · rw [if_pos al] at ta ⊢
          obtain ⟨T, e1, ac, T0, T110, h50, h51⟩ := t_move (F := true) (nl := nl) (g6 k hk).2 (ta.trans (by rw [if_pos rfl])) v110
          rw [if_pos rfl] at e1 T110
          rw [e1, Option.bind_some]
          dsimp only
          rw [if_neg (show ¬ (1 : Int32) = 0 by decide), if_neg (show ¬ (1 : Int32) = 0 by decide), xP_c (s := chg S2 1 4) (k := 4) (fs' := [.ref 103, fo, be, co, .int 0, .int (t.1 111), .int (t.1 1)]) h102 rfl (by show 4 < 7; decide) rfl, Option.bind_some]
          refine Or.inl ⟨1, _, T, own, rfl, rfl, T0, fun Z h1 h2 => agr_rt ac (fun c hc => ?_) (fun c hc => ?_), ⟨by show s.2.1 ≤ S2.2.1; rw [f2]; exact Nat.le_refl _, fun q hq => rfl, fun q hq hx => ?_, fun q h1 h2 => by have h2 : q < S2.2.1 := h2; rw [f2] at h2; omega, ?_⟩, ⟨?_, Or.inl y⟩, by show S2.2.2.1 + 1 ≤ _; rw [f2]; omega, by show S2.2.2.2 + 4 ≤ _; rw [f2]; omega⟩
          · simp only [List.mem_cons, List.not_mem_nil, or_false] at hc
            rcases hc with rfl | rfl
            · exact fun w => h2 w.symm
            · exact fun w => h1 w.symm
          · simp only [List.mem_cons, List.not_mem_nil, or_false] at hc
            rcases hc with rfl | rfl <;> exact fun w => h1 w.symm
          · rw [cup_ne (fun w => hx (by rw [w]; exact o102))]
            exact n2 q (fun w => hx (by rw [w]; exact o59))
          · intro b hb
            have hb : S2.2.1 ≤ b := hb
            rw [f2] at hb
            have l1 := wf_lt hw g1
            have l2 := wf_lt hw (g3 k hk)
            rw [cup_ne (by omega)]
            show S2.1 b = none
            rw [n2 b (by omega)]; exact hw b hb
          · refine mv_R2 (k := k) (V := (x', y', pFl L k, pN L k)) hw r hk rfl (mv_gdL r.2.2.2.2.1.1 hk sm al) ?_ ?_ (fun q h1 h2 => ?_) ac (fun l => ?_) (fun l => ?_) (Or.inl T110)
            · rw [cup_ne (fun w => n102 w.symm)]; exact c2
            · rw [cup_eq, T110]
            · rw [cup_ne h2]; exact n2 q h1
            · rw [h50]
              by_cases w : l = k
              · rw [if_pos ⟨w, rfl⟩, if_pos w, ex]
              · rw [if_neg (fun e => w e.1), if_neg w]
            · rw [h51]
              by_cases w : l = k
              · rw [if_pos ⟨w, rfl⟩, if_pos w, ey]
              · rw [if_neg (fun e => w e.1), if_neg w]
        · rw [if_neg al] at ta ⊢
          obtain ⟨T, e1, ac, T0, T110, h50, h51⟩ := t_move (F := false) (nl := nl) (g6 k hk).2 (ta.trans (by rw [if_neg (by decide)])) v110
          rw [if_neg (by decide)] at e1 T110
          rw [e1, Option.bind_some]
          dsimp only
          have c2c : (chg S2 1 4).1 (LC k) = _ := c2'
          rw [if_pos rfl, if_pos rfl, xI_o (x := Int32.ofNat (pX L k) + v2) c2c rfl rfl, Option.bind_some, xP_c (k := 3) (fs' := [.int (Int32.ofNat k), .int (if pFl L k = true then 1 else 0), .int (Int32.ofNat (pN L k)), .int (Int32.ofNat (pX L k)), .int (Int32.ofNat (pY L k) + v3), .ref (LD k)]) c2c rfl (by show 3 < 6; decide) (by rw [Int32.add_sub_cancel]; rfl), Option.bind_some]
          rw [xI_o (x := Int32.ofNat (pY L k) + v3) (cup_eq ..) rfl rfl, Option.bind_some, xP_c (k := 4) (fs' := [.int (Int32.ofNat k), .int (if pFl L k = true then 1 else 0), .int (Int32.ofNat (pN L k)), .int (Int32.ofNat (pX L k)), .int (Int32.ofNat (pY L k)), .ref (LD k)]) (cup_eq ..) rfl (by show 4 < 6; decide) (by rw [Int32.add_sub_cancel]; rfl), Option.bind_some, cupU]
          obtain ⟨S3, hS3⟩ : ∃ S3, S3 = cup (chg S2 1 4) (LC k) (true, false, 59, [.int (Int32.ofNat k), .int (if pFl L k = true then 1 else 0), .int (Int32.ofNat (pN L k)), .int (Int32.ofNat (pX L k)), .int (Int32.ofNat (pY L k)), .ref (LD k)]) := ⟨_, rfl⟩
          rw [← hS3]
          have c3 : S3.1 (LC k) = some (lcC L LD k) := by rw [hS3]; exact cup_eq ..
          have n3 : ∀ b, S3.1 b = s.1 b := fun b => by
            by_cases w : b = LC k
            · rw [w, c3, g3 k hk]
            · rw [hS3, cup_ne w]; exact n2 b w
          have f3 : S3.2 = (chg S2 1 4).2 := by rw [hS3]; rfl
          have eL : updL L k (L k) = L := funext (fun l => by
            by_cases w : l = k
            · rw [w, updL_eq]
            · exact updL_ne w)
          refine Or.inl ⟨0, S3, T, own, rfl, rfl, T0, fun Z h1 h2 => agr_rt ac (fun c hc => ?_) (fun c hc => ?_), ⟨by rw [f3]; show s.2.1 ≤ S2.2.1; rw [f2]; exact Nat.le_refl _, fun q hq => rfl, fun q hq hx => n3 q, fun q h1 h2 => by rw [f3] at h2; have h2 : q < S2.2.1 := h2; rw [f2] at h2; omega, ?_⟩, ⟨?_, Or.inl y⟩, by rw [f3]; show S2.2.2.1 + 1 ≤ _; rw [f2]; omega, by rw [f3]; show S2.2.2.2 + 4 ≤ _; rw [f2]; omega⟩
          · simp only [List.mem_cons, List.not_mem_nil, or_false] at hc
            rcases hc with rfl | rfl
            · exact fun w => h2 w.symm
            · exact fun w => h1 w.symm
          · simp only [List.mem_cons, List.not_mem_nil, or_false] at hc
            rcases hc with rfl | rfl <;> exact fun w => h1 w.symm
          · intro b hb
            rw [f3] at hb
            have hb : S2.2.1 ≤ b := hb
            rw [f2] at hb
            rw [n3 b]; exact hw b hb
          · refine mv_R2 (k := k) (V := L k) hw r hk rfl (by rw [eL]; exact r.2.2.2.2.1.1) (by rw [eL]; exact c3) (by rw [n3, g1, T110]) (fun q h1 h2 => n3 q) ac (fun l => ?_) (fun l => ?_) (Or.inr ⟨T110, rfl⟩)
            · rw [h50, if_neg (fun e => by cases e.2)]
              by_cases w : l = k
              · rw [if_pos w, w]; exact (g6 k hk).2.2.1
              · rw [if_neg w]
            · rw [h51, if_neg (fun e => by cases e.2)]
              by_cases w : l = k
              · rw [if_pos w, w]; exact (g6 k hk).2.2.2.1
              · rw [if_neg w]
      · rw [if_neg y, Option.bind_some, Option.bind_some, may_eq, if_pos rfl, goes_2 t, Option.bind_some]
        exact Rg.sta (x := 0) (a := 0) (b := 0) hw hR rfl rfl (Nat.zero_le _) (Nat.zero_le _)
    · rw [if_neg a, if_pos rfl, if_pos rfl, Option.bind_some]
      refine Rg.arg (x := 0) (a := 0) (b := 0) hw hR rfl ?_ (Nat.zero_le _) (Nat.zero_le _)
      by_cases y : t.1 1 = 0
      · rw [if_pos y, Option.bind_some, Option.bind_some, goes_0]; rfl
      · rw [if_neg y, Option.bind_some, Option.bind_some, goes_0]; rfl
  · rw [if_neg z, if_neg z, if_pos rfl]
    refine Rg.arg (x := 0) (a := 0) (b := 0) hw hR rfl ?_ (Nat.zero_le _) (Nat.zero_le _)
    rw [Option.bind_some]
    by_cases y : t.1 1 = 0
    · rw [if_pos y, Option.bind_some, goes_0]; rfl
    · rw [if_neg y, Option.bind_some, goes_0]; rfl
end
