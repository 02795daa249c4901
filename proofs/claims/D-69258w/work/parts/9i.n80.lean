/-! the plan's readers: names, counts, sides -/
section
variable {own : Nat → Nat} {s : CS} {t T : TS}
theorem FN_0 {L : PLn} {nl nr : Nat} {st ln : Nat → Nat} {lab : Int → Int → Int} {nm : Nat → Int32} (F : FT t L nl nr st ln lab nm) : FT (ptI t 0 0) L nl nr st ln lab nm := FT_cg2 F (agr_p (I := [0]) (R := []) agr_refl (by simp)) (by simp) (by simp) (by simp) (fun _ _ => rfl)
/-- state is asked -/
theorem st_may {A : Type} (x : Int32) (f : CS → Option (Sum (A × CS) (Nat × CS))) : Option.bind (c_395 x s) (Sum.elim f (fun q => some (.inr (q.1, q.2)))) = if x = 0 then some (.inr (s.2.1, exs s 12)) else f s := by
  rw [may_eq]
  by_cases z : x = 0
  · rw [if_pos z, if_pos z]; rfl
  · rw [if_neg z, if_neg z]; rfl
theorem ar_need {A : Type} (x : Int32) (f : CS → Option (Sum (A × CS) (Nat × CS))) : Option.bind (c_394 x s) (Sum.elim f (fun q => some (.inr (q.1, q.2)))) = if x = 0 then some (.inr (s.2.1, exs s 11)) else f s := by
  rw [need_eq]
  by_cases z : x = 0
  · rw [if_pos z, if_pos z]; rfl
  · rw [if_neg z, if_neg z]; rfl
theorem g_y (hy : t.1 110 = 1) : t_558 1 (t.1 110) t = some (1, ptI t 0 0) := goes_1 t (by rw [hy]; decide)
theorem g_n (hy : t.1 110 = 0) : t_558 1 (t.1 110) t = some (0, ptI t 0 2) := by rw [hy, goes_2]
theorem n10 : ¬ (1 : Int32) = 0 := by decide
theorem pl_nameOf (hw : wfS s) (r : R2 (rs s.1 own 2) t) (v1 : Int32) : Rg thr0 (fun X => X = 2) 2 (R2k t) own s t 0 0 (c_918 102 v1 s) (t_573 v1 t) := by
  have hR : R2k t (rs s.1 own) t := ⟨r, Or.inr rfl⟩
  have r0 := R2k_0 r
  obtain ⟨L, nl, LC, LD, DC, nd, fo, be, co, fi, r⟩ := r
  have g1 := (pl_lnk r).1
  unfold c_918 t_573
  rw [if_pos (isK_t g1 rfl)]
  rcases R2_fnd r with ⟨rfl, a1, a2⟩ | ⟨fd, Lf, nf, nr, st, ln, lab, fL, ou, ol, mp, pid, nid, aid, si, rc, rl, sp, sl, rfl, a1, a2, F, _⟩
  · refine Rg.arg (x := 0) (a := 0) (b := 0) hw hR (by rw [c_sp0 g1]; rfl) ?_ (Nat.zero_le _) (Nat.zero_le _)
    rw [t_sp0 a1, Option.bind_some, goes_0]; rfl
  · have hle := FN_le F
    rw [c_sp1 F g1, t_sp1 a1 (FT_117 F.1)]
    by_cases z : inB v1 (Int32.ofNat (spn Lf nf st ln nr)) = true
    · obtain ⟨j, hj, rfl⟩ := inB_nat _ (by omega) z
      rw [if_pos z, if_pos z, Option.bind_some, Sum.elim_inl, i_clamp (by omega), Option.bind_some, xI_o (x := t.1 110) g1 rfl rfl, Option.bind_some, st_may]
      rcases a2 with y | y
      · rw [if_pos y]
        exact Rg.sta (x := 0) (a := 0) (b := 0) hw hR rfl (by rw [g_n y]; rfl) (Nat.zero_le _) (Nat.zero_le _)
      · rw [if_neg (by rw [y]; decide), g_y y, xI_o (x := t.2.2.1 64 j) (F.2.2.2.2.2.1 j hj).1 rfl rfl]
        refine Rg.same (a := 0) (b := 0) hw r0 rfl ?_ (Nat.zero_le _) (Nat.zero_le _)
        rw [Option.bind_some, if_neg n10, rdI_n (by omega) (by decide)]; rfl
    · rw [if_neg z, if_neg z]
      exact Rg.arg (x := 0) (a := 0) (b := 0) hw hR rfl (by rw [Option.bind_some, goes_0]; rfl) (Nat.zero_le _) (Nat.zero_le _)
theorem pl_sides (hw : wfS s) (r : R2 (rs s.1 own 2) t) (v1 v2 : Int32) : Rg thr0 (fun X => X = 2) 2 (R2k t) own s t 0 0 (c_904 102 v1 v2 s) (t_565 v1 v2 t) := by
  have hR : R2k t (rs s.1 own) t := ⟨r, Or.inr rfl⟩
  have r0 := R2k_0 r
  obtain ⟨L, nl, LC, LD, DC, nd, fo, be, co, fi, r⟩ := r
  have g1 := (pl_lnk r).1
  unfold c_904 t_565
  rw [if_pos (isK_t g1 rfl)]
  rcases R2_fnd r with ⟨rfl, a1, a2⟩ | ⟨fd, Lf, nf, nr, st, ln, lab, fL, ou, ol, mp, pid, nid, aid, si, rc, rl, sp, sl, rfl, a1, a2, F, _⟩
  · refine Rg.arg (x := 0) (a := 0) (b := 0) hw hR (by rw [c_sp0 g1]; rfl) ?_ (Nat.zero_le _) (Nat.zero_le _)
    rw [t_sp0 a1, Option.bind_some, if_pos rfl, Option.bind_some, goes_0]; rfl
  · have hle := FN_le F
    rw [c_sp1 F g1, t_sp1 a1 (FT_117 F.1)]
    by_cases z : inB v1 (Int32.ofNat (spn Lf nf st ln nr)) = true
    · obtain ⟨j, hj, rfl⟩ := inB_nat _ (by omega) z
      have rle := rgl_len F hj
      have c1 := (F.2.2.2.2.2.1 j hj).1
      rw [if_pos z, if_pos z, Option.bind_some, Sum.elim_inl, i_clamp (by omega), Option.bind_some, if_neg n10]
      dsimp only
      by_cases n : v2 < 0
      · rw [if_pos n, Option.bind_some, ar_need, if_pos rfl]
        exact Rg.arg (x := 0) (a := 0) (b := 0) hw hR rfl (by rw [Option.bind_some, goes_0]; rfl) (Nat.zero_le _) (Nat.zero_le _)
      · rw [if_neg n, Option.bind_some, ar_need, if_neg n10, Option.bind_some, xI_o (x := t.1 110) g1 rfl rfl, Option.bind_some, st_may]
        rcases a2 with y | y
        · rw [if_pos y]
          exact Rg.sta (x := 0) (a := 0) (b := 0) hw hR rfl (by rw [g_n y]; rfl) (Nat.zero_le _) (Nat.zero_le _)
        · rw [if_neg (by rw [y]; decide), g_y y, if_pos (isK_t c1 rfl), c_rgs F hj, Option.bind_some, Option.bind_some, if_neg n10]
          dsimp only
          rw [t_sdN (FN_0 F.1) a1 hj, Option.bind_some]
          by_cases w : inB v2 (Int32.ofNat (rgl Lf nf nr st ln lab j).length) = true
          · obtain ⟨k, hk, rfl⟩ := inB_nat _ (by omega) w
            have hm := rgl_lt hj (show (rgl Lf nf nr st ln lab j).getD k 0 ∈ _ by rw [getD_lt hk]; exact List.getElem_mem hk)
            obtain ⟨sv, _, r1, ⟨m, r2⟩, r3, r4⟩ := FN_rc F hm
            rw [if_pos w, i_clamp (by omega), if_pos ((i_lt (by omega) (by omega)).mpr hk), if_pos (isK_t c1 rfl), c_rgA F hj hk, Option.bind_some, Option.bind_some, xN_o (b := rl _) r1 rfl rfl, Option.bind_some, if_pos (isK_t r2 rfl), alSize_r r2]
            exact Rg.same (a := 0) (b := 0) hw r0 rfl rfl (Nat.zero_le _) (Nat.zero_le _)
          · rw [if_neg w, if_neg (fun q => w (decide_eq_true ⟨n, q⟩))]
            exact Rg.same (a := 0) (b := 0) hw r0 rfl rfl (Nat.zero_le _) (Nat.zero_le _)
    · rw [if_neg z, if_neg z]
      exact Rg.arg (x := 0) (a := 0) (b := 0) hw hR rfl (by rw [Option.bind_some, if_pos rfl, Option.bind_some, goes_0]; rfl) (Nat.zero_le _) (Nat.zero_le _)
theorem pl_count (hw : wfS s) (r : R2 (rs s.1 own 2) t) (v1 : Int32) : Rg thr0 (fun X => X = 2) 2 (R2k t) own s t 1 4 (c_903 102 v1 s) (t_564 v1 t) := by
  have hR : R2k t (rs s.1 own) t := ⟨r, Or.inr rfl⟩
  have r0 := R2k_0 r
  obtain ⟨L, nl, LC, LD, DC, nd, fo, be, co, fi, r⟩ := r
  have g1 := (pl_lnk r).1
  unfold c_903 t_564
  have ar : (if v1 < 0 then some (0 : Int32) else (if 3 < v1 then some 0 else some 1)) = some (if inB v1 (Int32.ofNat 4) = true then 1 else 0) := rngB v1 3 3 (by omega) rfl
  rw [ar, Option.bind_some, ar_need, show (4 : Int32) = Int32.ofNat 4 from rfl, isInB]
  by_cases z : inB v1 (Int32.ofNat 4) = true
  · rw [if_pos z, if_neg n10, xI_o (x := t.1 110) g1 rfl rfl, Option.bind_some, st_may, Option.bind_some]
    rcases R2_fnd r with ⟨rfl, a1, a2⟩ | ⟨fd, Lf, nf, nr, st, ln, lab, fL, ou, ol, mp, pid, nid, aid, si, rc, rl, sp, sl, rfl, a1, a2, F, _⟩
    · rw [if_pos a2]
      exact Rg.sta (x := 0) (a := 0) (b := 0) hw hR rfl (by rw [g_n a2]; rfl) (Nat.zero_le _) (Nat.zero_le _)
    · have hle := FN_le F
      rcases a2 with y | y
      · rw [if_pos y]
        exact Rg.sta (x := 0) (a := 0) (b := 0) hw hR rfl (by rw [g_n y]; rfl) (Nat.zero_le _) (Nat.zero_le _)
      · rw [if_neg (by rw [y]; decide), g_y y, Option.bind_some, if_neg n10]
        dsimp only
        rw [t_outer (FN_0 F.1)]
        obtain ⟨⟨rv, G, _⟩, d1, ⟨m, d2⟩, ⟨d3, mo, d4⟩, _⟩ := F.2
        obtain ⟨k, hk, rfl⟩ := inB_nat 4 (by omega) z
        have ti : (Int32.ofNat k).toInt = k := Int32.toInt_ofNat_of_lt (by omega)
        rw [ti]
        rcases (show k = 0 ∨ k = 1 ∨ k = 2 ∨ k = 3 by omega) with rfl | rfl | rfl | rfl
        · rw [if_pos (by decide), if_pos (by decide), xN_o (b := fd) g1 rfl rfl, Option.bind_some, xN_o (b := fL) d1 rfl rfl, Option.bind_some, if_pos (isK_t d2 rfl), alSize_r d2]
          exact Rg.same (a := 0) (b := 0) hw r0 rfl (by rw [show (ptI t 0 0).1 117 = t.1 117 from rfl, FT_117 F.1]) (Nat.zero_le _) (Nat.zero_le _)
        · rw [if_neg (by decide), if_pos (by decide), if_neg (by decide), if_pos (by decide), xN_o (b := fd) g1 rfl rfl, Option.bind_some, xN_o (b := mp) d1 rfl rfl, Option.bind_some]
          obtain ⟨ps, tg⟩ := F.1.2.2.2.2.1
          have m0 : ∃ cm es, s.1 mp = some (true, false, 1042, .int cm :: fl es) := by obtain ⟨⟨mc, es, q, _⟩, _⟩ := G.1; exact ⟨mc, es, q⟩
          obtain ⟨cm, es, m0⟩ := m0
          rw [if_pos (isK_t m0 rfl), tm_size m0, NDs_pts F.1.1 G.1 m0 tg.1.2.1]
          exact Rg.same (a := 0) (b := 0) hw r0 rfl (by rw [show (ptI t 0 0).1 127 = t.1 127 from rfl, tg.1.2.2.1.1]) (Nat.zero_le _) (Nat.zero_le _)
        · rw [if_neg (by decide), if_neg (by decide), if_pos (by decide), if_neg (by decide), if_neg (by decide), if_pos (by decide), xN_o (b := fd) g1 rfl rfl, Option.bind_some, xI_o (x := Int32.ofNat (nP Lf nf)) d1 rfl rfl]
          exact Rg.same (a := 0) (b := 0) hw r0 rfl (by rw [show (ptI t 0 0).1 130 = t.1 130 from rfl, FT_130 F.1]) (Nat.zero_le _) (Nat.zero_le _)
        · rw [if_neg (by decide), if_neg (by decide), if_neg (by decide), if_neg (by decide), if_neg (by decide), if_neg (by decide), xN_o (b := fd) g1 rfl rfl, Option.bind_some, xN_o (b := ou) d1 rfl rfl, Option.bind_some, xN_o (b := ol) d3 rfl rfl, Option.bind_some, if_pos (isK_t d4 rfl), alMc_l d4, Option.bind_some]
          dsimp only
          rw [c_outer (s := chg s 1 4) F d4]
          exact Rg.same (a := 1) (b := 4) hw r0 rfl rfl (Nat.le_refl _) (Nat.le_refl _)
  · rw [if_neg z, if_pos rfl]
    exact Rg.arg (x := 0) (a := 0) (b := 0) hw hR rfl (by rw [Option.bind_some, goes_0]; rfl) (Nat.zero_le _) (Nat.zero_le _)
end
