/-! the plan's readers: size, at, name -/
section
variable {own : Nat → Nat} {s : CS} {t T : TS}
theorem pl_size (hw : wfS s) (r : R2 (rs s.1 own 2) t) (v1 v2 : Int32) : Rg thr0 (fun X => X = 2) 2 (R2k t) own s t 500 2000 (c_908 102 v1 v2 s) (t_567 v1 v2 t) := by
  have hR : R2k t (rs s.1 own) t := ⟨r, Or.inr rfl⟩
  have r0 := R2k_0 r
  obtain ⟨L, nl, LC, LD, DC, nd, fo, be, co, fi, r⟩ := r
  have g1 := (pl_lnk r).1
  unfold c_908 t_567
  rw [if_pos (isK_t g1 rfl)]
  rcases R2_fnd r with ⟨rfl, a1, a2⟩ | ⟨fd, Lf, nf, nr, st, ln, lab, fL, ou, ol, mp, pid, nid, aid, si, rc, rl, sp, sl, rfl, a1, a2, F, _⟩
  · refine Rg.arg (x := 0) (a := 0) (b := 0) hw hR (by rw [c_sp0 g1]; rfl) ?_ (Nat.zero_le _) (Nat.zero_le _)
    rw [t_sp0 a1, Option.bind_some, if_pos rfl, Option.bind_some, goes_0]; rfl
  · have hle := FN_le F
    rw [c_sp1 F g1, t_sp1 a1 (FT_117 F.1)]
    by_cases z : inB v1 (Int32.ofNat (spn Lf nf st ln nr)) = true
    · obtain ⟨j, hj, rfl⟩ := inB_nat _ (by omega) z
      have rle := rgl_len F hj
      have c1 := (F.2.2.2.2.2.1 j hj).1
      rw [if_pos z, if_pos z, Option.bind_some, Sum.elim_inl, i_clamp (by omega), Option.bind_some, if_neg n10]
      dsimp only
      have ar : (if v2 < 0 then some (0 : Int32) else (if 2 < v2 then some 0 else some 1)) = some (if inB v2 (Int32.ofNat 3) = true then 1 else 0) := rngB v2 2 2 (by omega) rfl
      rw [ar, Option.bind_some, ar_need, show (3 : Int32) = Int32.ofNat 3 from rfl, isInB]
      by_cases n : inB v2 (Int32.ofNat 3) = true
      · rw [if_pos n, if_neg n10, xI_o (x := t.1 110) g1 rfl rfl, Option.bind_some, st_may, Option.bind_some, if_neg n10, Option.bind_some]
        rcases a2 with y | y
        · rw [if_pos y]
          exact Rg.sta (x := 0) (a := 0) (b := 0) hw hR rfl (by rw [g_n y]; rfl) (Nat.zero_le _) (Nat.zero_le _)
        · rw [if_neg (by rw [y]; decide), g_y y, Option.bind_some, if_neg n10, c_perim F hj, Option.bind_some]
          dsimp only
          rw [t_size (FN_0 F.1) hj]
          have F' : FNx (chg s (rgl Lf nf nr st ln lab j).length (4 * (rgl Lf nf nr st ln lab j).length)) t Lf nf nr st ln lab LC fd fL ou ol mp pid nid aid si rc rl sp sl := F
          have c1' : (chg s (rgl Lf nf nr st ln lab j).length (4 * (rgl Lf nf nr st ln lab j).length)).1 (sp j) = _ := c1
          by_cases w : v2 = 0
          · rw [if_pos w, if_pos w, if_pos (isK_t c1' rfl), c_area F' hj]
            exact Rg.same (a := (rgl Lf nf nr st ln lab j).length + 1) (b := 4 * (rgl Lf nf nr st ln lab j).length + 4) hw r0 rfl rfl (by omega) (by omega)
          · rw [if_neg w, if_neg w]
            by_cases u : v2 = 1
            · rw [if_pos u, if_pos u]
              exact Rg.same (a := (rgl Lf nf nr st ln lab j).length) (b := 4 * (rgl Lf nf nr st ln lab j).length) hw r0 rfl rfl (by omega) (by omega)
            · rw [if_neg u, if_neg u, if_pos (isK_t c1' rfl), c_rgs F' hj]
              exact Rg.same (a := (rgl Lf nf nr st ln lab j).length) (b := 4 * (rgl Lf nf nr st ln lab j).length) hw r0 rfl rfl (by omega) (by omega)
      · rw [if_neg n, if_pos rfl]
        exact Rg.arg (x := 0) (a := 0) (b := 0) hw hR rfl (by rw [Option.bind_some, if_pos rfl, Option.bind_some, goes_0]; rfl) (Nat.zero_le _) (Nat.zero_le _)
    · rw [if_neg z, if_neg z]
      exact Rg.arg (x := 0) (a := 0) (b := 0) hw hR rfl (by rw [Option.bind_some, if_pos rfl, Option.bind_some, goes_0]; rfl) (Nat.zero_le _) (Nat.zero_le _)
theorem pl_at (hw : wfS s) (r : R2 (rs s.1 own 2) t) (v1 v2 : Int32) : Rg thr0 (fun X => X = 2) 2 (R2k t) own s t 1 4 (c_909 102 v1 v2 s) (t_568 v1 v2 t) := by
  have hR : R2k t (rs s.1 own) t := ⟨r, Or.inr rfl⟩
  have r0 := R2k_0 r
  obtain ⟨L, nl, LC, LD, DC, nd, fo, be, co, fi, r⟩ := r
  have g1 := (pl_lnk r).1
  unfold c_909 t_568
  have ar : (if v1 < 0 then some (0 : Int32) else (if v1 < 24 then (if v2 < 0 then some 0 else (if v2 < 24 then some 1 else some 0)) else some 0)) = some (if inB v1 (Int32.ofNat 24) = true ∧ inB v2 (Int32.ofNat 24) = true then 1 else 0) := by
    rw [show (24 : Int32) = Int32.ofNat 24 from rfl, orB]
    by_cases a : v1 < 0
    · rw [if_pos a, if_neg (fun w => (of_decide_eq_true w.1).1 a)]
    · rw [if_neg a]
      by_cases b : v1 < Int32.ofNat 24
      · have hb : inB v1 (Int32.ofNat 24) = true := decide_eq_true ⟨a, b⟩
        rw [if_pos b]
        by_cases c : inB v2 (Int32.ofNat 24) = true
        · rw [if_pos c, if_pos ⟨hb, c⟩]
        · rw [if_neg c, if_neg (fun w => c w.2)]
      · rw [if_neg b, if_neg (fun w => b (of_decide_eq_true w.1).2)]
  have tr : t_569 v1 v2 t = some (if inB v1 (Int32.ofNat 24) = true ∧ inB v2 (Int32.ofNat 24) = true then 1 else 0) := by
    unfold t_569
    rw [show (24 : Int32) = Int32.ofNat 24 from rfl, isInB, Option.bind_some, isInB]
    by_cases a : inB v1 (Int32.ofNat 24) = true
    · rw [if_pos a, if_neg n10, Option.bind_some]
      by_cases c : inB v2 (Int32.ofNat 24) = true
      · rw [if_pos c, if_neg n10, if_pos ⟨a, c⟩]
      · rw [if_neg c, if_pos rfl, if_neg (fun w => c w.2)]
    · rw [if_neg a, if_pos rfl, if_neg (fun w => a w.1)]
  rw [ar, Option.bind_some, ar_need, tr]
  by_cases z : inB v1 (Int32.ofNat 24) = true ∧ inB v2 (Int32.ofNat 24) = true
  · obtain ⟨x, hx, rfl⟩ := inB_nat 24 (by omega) z.1
    obtain ⟨y, hy, rfl⟩ := inB_nat 24 (by omega) z.2
    rw [if_pos z, if_neg n10, xI_o (x := t.1 110) g1 rfl rfl, Option.bind_some, st_may, Option.bind_some]
    rcases R2_fnd r with ⟨rfl, a1, a2⟩ | ⟨fd, Lf, nf, nr, st, ln, lab, fL, ou, ol, mp, pid, nid, aid, si, rc, rl, sp, sl, rfl, a1, a2, F, _⟩
    · rw [if_pos a2]
      exact Rg.sta (x := 0) (a := 0) (b := 0) hw hR rfl (by rw [g_n a2]; rfl) (Nat.zero_le _) (Nat.zero_le _)
    · rcases a2 with y | y
      · rw [if_pos y]
        exact Rg.sta (x := 0) (a := 0) (b := 0) hw hR rfl (by rw [g_n y]; rfl) (Nat.zero_le _) (Nat.zero_le _)
      · rw [if_neg (by rw [y]; decide), g_y y, if_pos (isK_t g1 rfl), c_spAt F g1 hx hy]
        refine Rg.same (a := 1) (b := 4) hw r0 rfl ?_ (Nat.le_refl _) (Nat.le_refl _)
        rw [Option.bind_some, if_neg n10]
        dsimp only
        rw [t_spAt (FN_0 F.1) hx hy]; rfl
  · rw [if_neg z, if_pos rfl]
    exact Rg.arg (x := 0) (a := 0) (b := 0) hw hR rfl (by rw [Option.bind_some, goes_0]; rfl) (Nat.zero_le _) (Nat.zero_le _)
theorem pl_name (hw : wfS s) (r : R2 (rs s.1 own 2) t) (v1 v2 : Int32) : Rg thr0 (fun X => X = 2) 2 (R2k t) own s t 0 0 (c_917 102 v1 v2 s) (t_572 v1 v2 t) := by
  have hR : R2k t (rs s.1 own) t := ⟨r, Or.inr rfl⟩
  obtain ⟨L, nl, LC, LD, DC, nd, fo, be, co, fi, r⟩ := r
  have g1 := (pl_lnk r).1
  unfold c_917 t_572
  rw [if_pos (isK_t g1 rfl)]
  have tst : ∀ g : Int32 → Option (Int32 × TS), Option.bind (if t.1 110 = 0 then some (0 : Int32) else if t.1 1 = 0 then some 1 else some 0) g = g (if t.1 110 = 0 then 0 else if t.1 1 = 0 then 1 else 0) := fun g => by split <;> (try split) <;> rfl
  have q := r
  obtain ⟨r1, r2, r3, r4, ⟨l1, l2, ⟨ml, l3⟩, l6⟩, ⟨d1, d2⟩, r7⟩ := r
  rcases r7 with ⟨rfl, a1, a2⟩ | ⟨fd, rfl, a1, a2, Lf, nf, nr, st, ln, lab, fL, ou, ol, mp, pid, nid, aid, si, rc, rl, sp, sl, q1, q2, q3, q4, q5, q6, q7⟩
  · refine Rg.arg (x := 0) (a := 0) (b := 0) hw hR (by rw [c_sp0 g1]; rfl) ?_ (Nat.zero_le _) (Nat.zero_le _)
    rw [t_sp0 a1, Option.bind_some, if_pos rfl, Option.bind_some, tst, goes_0]; rfl
  · have F : FNx s t Lf nf nr st ln lab LC fd fL ou ol mp pid nid aid si rc rl sp sl := ⟨q1, FD_own (LC' := LC) q2 (Nat.le_refl _) (fun a c _ e => (rs_some.mp e).2) (fun _ _ => rfl)⟩
    have hle := FN_le F
    rw [c_sp1 F g1, t_sp1 a1 (FT_117 F.1)]
    by_cases z : inB v1 (Int32.ofNat (spn Lf nf st ln nr)) = true
    · obtain ⟨j, hj, rfl⟩ := inB_nat _ (by omega) z
      have c1 := (F.2.2.2.2.2.1 j hj).1
      rw [if_pos z, if_pos z, Option.bind_some, Sum.elim_inl, i_clamp (by omega), Option.bind_some, if_neg n10]
      dsimp only
      have ar : (if v2 < 0 then some (0 : Int32) else (if 1000 < v2 then some 0 else some 1)) = some (if inB v2 (Int32.ofNat 1001) = true then 1 else 0) := rngB v2 1000 1000 (by omega) rfl
      rw [ar, Option.bind_some, ar_need, Option.bind_some, tst]
      by_cases n : inB v2 (Int32.ofNat 1001) = true
      · rw [if_pos n, if_neg n10, xI_o (x := t.1 110) g1 rfl rfl, Option.bind_some, xI_o (x := t.1 1) g1 rfl rfl]
        have cst : (if t.1 110 = 0 then some (0 : Int32) else Option.bind (some (t.1 1)) (fun x6 => (if x6 = 0 then some 1 else some 0))) = some (if t.1 110 = 0 then 0 else if t.1 1 = 0 then 1 else 0) := by
          rw [Option.bind_some]; split <;> (try split) <;> rfl
        rw [cst, Option.bind_some, st_may]
        by_cases y : t.1 110 = 0 ∨ ¬ t.1 1 = 0
        · have e : (if t.1 110 = 0 then (0 : Int32) else if t.1 1 = 0 then 1 else 0) = 0 := by
            rcases y with y | y
            · rw [if_pos y]
            · rw [if_neg y]; split <;> rfl
          rw [e, if_pos rfl, goes_2]
          exact Rg.sta (x := 0) (a := 0) (b := 0) hw hR rfl rfl (Nat.zero_le _) (Nat.zero_le _)
        · have y1 : ¬ t.1 110 = 0 := fun w => y (Or.inl w)
          have y2 : t.1 1 = 0 := Classical.byContradiction (fun w => y (Or.inr w))
          rw [if_neg y1, if_pos y2, if_neg n10, goes_1 t n10, Option.bind_some, if_neg n10, xI_o (x := t.2.2.1 64 j) c1 rfl rfl, Option.bind_some, xP_c (k := 3) (fs' := [.int (Int32.ofNat j), .ref (rc (lkF Lf nf nr st ln j)), .ref (sl j), .int v2]) c1 rfl (by show 3 < 4; decide) rfl, Option.bind_some]
          dsimp only
          rw [rdI_n (by omega) (by decide), Option.bind_some, stI_n (by omega) (by decide), Option.bind_some]
          have x1 := q2.2.2.2.2.1 j hj
          have oj := (rs_some.mp x1.1).1
          have inj := q2.2.2.2.2.2.2.2.1
          obtain ⟨S, hS⟩ : ∃ S, S = cup s (sp j) (true, false, 62, [.int (Int32.ofNat j), .ref (rc (lkF Lf nf nr st ln j)), .ref (sl j), .int v2]) := ⟨_, rfl⟩
          rw [← hS]
          have c2 : S.1 (sp j) = some (true, false, 62, [.int (Int32.ofNat j), .ref (rc (lkF Lf nf nr st ln j)), .ref (sl j), .int v2]) := by rw [hS]; exact cup_eq ..
          have n2 : ∀ b, b ≠ sp j → S.1 b = s.1 b := fun b hb => by rw [hS]; exact cup_ne hb
          have f2 : S.2 = s.2 := by rw [hS]; rfl
          have kn : ∀ b c, rs s.1 own 2 b = some c → b ≠ sp j → rs S.1 own 2 b = some c := by
            intro b c e h
            obtain ⟨y1, y2⟩ := rs_some.mp e
            exact rs_some.mpr ⟨y1, by rw [n2 b h]; exact y2⟩
          have kr : ∀ b c, rs s.1 own 2 b = some c → c.2.2.1 ≠ 62 → rs S.1 own 2 b = some c := fun b c e h => kn b c e (fun w => by rw [w, x1.1] at e; cases e; exact h rfl)
          have ac : agr [0] [64] t (wrI (ptI t 0 0) 64 j v2) := agr_w (agr_p agr_refl (by simp)) (by simp)
          have t64 : ∀ i, (wrI (ptI t 0 0) 64 j v2).2.2.1 64 i = if i = j then v2 else t.2.2.1 64 i := fun i => by
            rw [wr_at]
            by_cases w : i = j
            · rw [if_pos ⟨rfl, w⟩, if_pos w]
            · rw [if_neg (fun e => w e.2), if_neg w]; rfl
          refine Or.inl ⟨_, S, _, own, rfl, rfl, rfl, fun Z h1 h2 => agr_rt ac (fun c hc => ?_) (fun c hc => ?_), ⟨by rw [f2]; exact Nat.le_refl _, fun q hq => rfl, fun q hq hx => n2 q (fun w => hx (by rw [w]; exact oj)), fun q h1 h2 => by rw [f2] at h2; omega, ?_⟩, ⟨?_, Or.inl y2⟩, by rw [f2]; omega, by rw [f2]; omega⟩
          · simp only [List.mem_cons, List.not_mem_nil, or_false] at hc
            rw [hc]; exact fun w => h2 w.symm
          · simp only [List.mem_cons, List.not_mem_nil, or_false] at hc
            rw [hc]; exact fun w => h1 w.symm
          · intro b hb
            rw [f2] at hb
            have := wf_lt hw c1
            rw [n2 b (by omega)]; exact hw b hb
          · refine ⟨L, nl, LC, LD, DC, nd, .ref fd, be, co, fi, kr _ _ r1 (by show ¬ (67 : Nat) = 62; decide), r2, r3, r4, ⟨l1, lnR_cg l2 ac (by simp) (by simp), ⟨ml, kr _ _ l3.1 (by show ¬ (1013 : Nat) = 62; decide), fun l hl => kr _ _ (l3.2.1 l hl) (by show ¬ (59 : Nat) = 62; decide), l3.2.2⟩, l6⟩, ⟨fun l hl => ?_, d2⟩, Or.inr ⟨fd, rfl, a1, a2, Lf, nf, nr, st, ln, lab, fL, ou, ol, mp, pid, nid, aid, si, rc, rl, sp, sl, ?_, ?_, q3, q4, q5, ?_, q7⟩⟩
            · obtain ⟨x1, x2, x3, ⟨m', x4⟩, x5⟩ := d1 l hl
              exact ⟨x1, x2, x3, ⟨m', kr _ _ x4 (by show ¬ (1013 : Nat) = 62; decide)⟩, fun i hi => ⟨kr _ _ (x5 i hi).1 (by show ¬ (60 : Nat) = 62; decide), (x5 i hi).2⟩⟩
            · obtain ⟨p1, p2, p3, p4, ⟨ps, p5⟩, p6, p7, p8⟩ := q1
              exact ⟨p1, p2, p3, p4, ⟨ps, TGe_cg p5 ac (by simp) (by simp)⟩, rgR_cg p6 ac (by simp) (by simp), p7, fun _ _ => rfl⟩
            · refine FD_nm q2 (fun a c e h => kn a c e (h j hj)) (fun i hi => ?_)
              rw [t64]
              by_cases w : i = j
              · rw [w, if_pos rfl]
                exact rs_some.mpr ⟨oj, c2⟩
              · rw [if_neg w]
                exact kn _ _ (q2.2.2.2.2.1 i hi).1 (fun e => w (inj i j hi hj e))
            · intro k hk
              rw [t64]
              by_cases w : k = j
              · rw [if_pos w]
                obtain ⟨x, hx, e⟩ := inB_nat 1001 (by omega) n
                exact ⟨x, hx, e⟩
              · rw [if_neg w]; exact q6 k hk
      · rw [if_neg n, if_pos rfl, goes_0]
        exact Rg.arg (x := 0) (a := 0) (b := 0) hw hR rfl rfl (Nat.zero_le _) (Nat.zero_le _)
    · rw [if_neg z, if_neg z]
      exact Rg.arg (x := 0) (a := 0) (b := 0) hw hR rfl (by rw [Option.bind_some, if_pos rfl, Option.bind_some, tst, goes_0]; rfl) (Nat.zero_le _) (Nat.zero_le _)
end
