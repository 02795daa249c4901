/-! the plan's readers: a side -/
section
variable {own : Nat → Nat} {s : CS} {t T : TS} {L : PLn} {nl nr : Nat} {st ln : Nat → Nat} {lab : Int → Int → Int} {LC : Nat → Nat} {fd fL ou ol mp : Nat} {pid nid aid : Nat → Nat → Nat} {si rc rl sp sl : Nat → Nat} {nm : Nat → Int32}
theorem c_ro0 {f : List Value} (g : s.1 102 = some (true, false, 67, .ref 103 :: .null :: f)) (v w : Int32) : c_907 102 v w s = some (.inr (s.2.1, exs s 11)) := by
  unfold c_907
  rw [if_pos (isK_t g rfl), c_sp0 g]; rfl
theorem c_roN (F : FNx s t L nl nr st ln lab LC fd fL ou ol mp pid nid aid si rc rl sp sl) {f : List Value} (g : s.1 102 = some (true, false, 67, .ref 103 :: .ref fd :: f)) {v : Int32} (h : ¬ inB v (Int32.ofNat (spn L nl st ln nr)) = true) (w : Int32) : c_907 102 v w s = some (.inr (s.2.1, exs s 11)) := by
  unfold c_907
  rw [if_pos (isK_t g rfl), c_sp1 F g, if_neg h]; rfl
theorem c_ro (F : FNx s t L nl nr st ln lab LC fd fL ou ol mp pid nid aid si rc rl sp sl) {f : List Value} (g : s.1 102 = some (true, false, 67, .ref 103 :: .ref fd :: f)) {j : Nat} (hj : j < spn L nl st ln nr) (v : Int32) : c_907 102 (Int32.ofNat j) v s = if inB v (Int32.ofNat (rgl L nl nr st ln lab j).length) = true then some (.inl (some (rc ((rgl L nl nr st ln lab j).getD v.toNatClampNeg 0)), s)) else some (.inr (s.2.1, exs s 11)) := by
  have hle := FN_le F
  have rle := rgl_len F hj
  have c1 := (F.2.2.2.2.2.1 j hj).1
  unfold c_907
  rw [if_pos (isK_t g rfl), c_sp1 F g, if_pos (inB_of hj (by omega)), Option.bind_some, Sum.elim_inl, i_clamp (by omega)]
  dsimp only
  rw [if_pos (isK_t c1 rfl), c_rgs F hj]
  have e : (if v < 0 then some (0 : Int32) else Option.bind (some (Int32.ofNat (rgl L nl nr st ln lab j).length)) (fun x3 => (if v < x3 then some 1 else some 0))) = some (if inB v (Int32.ofNat (rgl L nl nr st ln lab j).length) = true then 1 else 0) := by
    rw [Option.bind_some, orB]
  rw [e, Option.bind_some, need_eq]
  by_cases z : inB v (Int32.ofNat (rgl L nl nr st ln lab j).length) = true
  · obtain ⟨k, hk, rfl⟩ := inB_nat _ (by omega) z
    rw [if_pos z, if_pos z, if_neg n10, Option.bind_some, Sum.elim_inl, if_pos (isK_t c1 rfl), c_rgA F hj hk, Option.bind_some, i_clamp (by omega)]
  · rw [if_neg z, if_neg z, if_pos rfl]; rfl
theorem t_sd {v4 : Nat} (h4 : v4 < 6) (F : FT T L nl nr st ln lab nm) (h9 : T.1 109 = 1) {j n m : Nat} (hj : j < spn L nl st ln nr) (hn : n < (rgl L nl nr st ln lab j).length) (hm : m < ln ((rgl L nl nr st ln lab j).getD n 0)) (hm2 : m < 2000) {q : Nat} (hq : q = itn (gNx L nl) m (st ((rgl L nl nr st ln lab j).getD n 0))) : t_711 (Int32.ofNat j) (Int32.ofNat n) (Int32.ofNat m) (Int32.ofNat v4) T = some (if v4 = 0 then Int32.ofNat (kL L nl (q / 2)) else if v4 = 1 then Int32.ofNat (sX L nl q) else if v4 = 2 then Int32.ofNat (sY L nl q) else if v4 = 3 then Int32.ofNat (eX L nl q) else if v4 = 4 then Int32.ofNat (eY L nl q) else Int32.ofInt (gLL (gS L nl) lab (bkS q))) := by
  have hle := FT_le F
  have rle : (rgl L nl nr st ln lab j).length ≤ nr := by
    rw [rgl_eq F.1 F.2.1 F.2.2.2.1 hj]
    exact Nat.le_trans (List.length_filter_le _ _) (by rw [List.length_range]; exact Nat.le_refl _)
  obtain ⟨ps, tg⟩ := F.2.2.2.2.1
  have hk : (rgl L nl nr st ln lab j).getD n 0 < nr := by
    rw [getD_lt hn]
    exact rgl_lt hj (List.getElem_mem hn)
  have qlt : ∀ i, itn (gNx L nl) i (st ((rgl L nl nr st ln lab j).getD n 0)) < 2 * nP L nl := fun i => itn_lt gNx_lt (F.2.1.1 _ hk).1 i
  unfold t_711
  rw [t_rgO F h9 hj, if_pos (inB_of hn (by omega)), i_clamp (by omega), Option.bind_some, ((FT_rg F).2 _ hk).1, Option.bind_some]
  refine tr_eq (Tr.bd (P := fun v => v = Int32.ofNat q) (wh_cnt m (fun i (a : Int32 × Int32) => a = (Int32.ofNat (itn (gNx L nl) i (st ((rgl L nl nr st ln lab j).getD n 0))), Int32.ofNat i)) ?_ ?_ rfl) ?_)
  · rintro i a hi rfl
    right
    dsimp only
    rw [if_pos ((i_lt (by omega) (by omega)).mpr hi), t_nxS F.1 tg.1 (qlt i), Option.bind_some, i_suc]
    exact ⟨_, rfl, rfl⟩
  · rintro a rfl
    dsimp only
    rw [if_neg (fun z => by have := (i_lt (by omega) (by omega)).mp z; omega), ← hq]
    exact ⟨_, rfl, rfl⟩
  · rintro v rfl
    have hql : q < 2 * nP L nl := by rw [hq]; exact qlt m
    obtain ⟨x1, x2, x3, x4, b1, b2, b3, b4⟩ := sX_i F.1 hql
    obtain ⟨a, ha, ha1, ha2⟩ := t_from F.1 tg.1 hql
    obtain ⟨b, hb, hb1, hb2⟩ := t_toS F.1 tg.1 hql
    have pl := TPl_len F.1 tg.1
    have r66 : ∀ i, i < ps.length → rdI T 66 460 (Int32.ofNat i) = some (Int32.ofNat (ps.getD i 0 / 25)) ∧ rdI T 67 460 (Int32.ofNat i) = some (Int32.ofNat (ps.getD i 0 % 25)) := fun i hi => by
      obtain ⟨y1, y2⟩ := tg.1.2.2.1.2 i hi
      rw [rdI_n (by omega) (by decide), rdI_n (by omega) (by decide), y1, y2]
      exact ⟨rfl, rfl⟩
    have ti : (Int32.ofNat v4).toInt = v4 := Int32.toInt_ofNat_of_lt (by omega)
    refine ⟨_, ?_, rfl⟩
    rw [ti]
    rcases (show v4 = 0 ∨ v4 = 1 ∨ v4 = 2 ∨ v4 = 3 ∨ v4 = 4 ∨ v4 = 5 by omega) with rfl | rfl | rfl | rfl | rfl | rfl
    · rw [if_pos (by decide), if_pos rfl, i_half (by omega), rdI_n (by omega) (by decide), (tg.1.2.2.2.2.2 (q / 2) (by omega)).1, Option.bind_some]
    · rw [if_neg (by decide), if_pos (by decide), if_neg (by decide), if_pos rfl, ha, Option.bind_some, (r66 a ha1).1, Option.bind_some, show ps.getD a 0 / 25 = sX L nl q by omega]
    · rw [if_neg (by decide), if_neg (by decide), if_pos (by decide), if_neg (by decide), if_neg (by decide), if_pos rfl, ha, Option.bind_some, (r66 a ha1).2, Option.bind_some, show ps.getD a 0 % 25 = sY L nl q by omega]
    · rw [if_neg (by decide), if_neg (by decide), if_neg (by decide), if_pos (by decide), if_neg (by decide), if_neg (by decide), if_neg (by decide), if_pos rfl, hb, Option.bind_some, (r66 b hb1).1, Option.bind_some, show ps.getD b 0 / 25 = eX L nl q by omega]
    · rw [if_neg (by decide), if_neg (by decide), if_neg (by decide), if_neg (by decide), if_pos (by decide), if_neg (by decide), if_neg (by decide), if_neg (by decide), if_neg (by decide), if_pos rfl, hb, Option.bind_some, (r66 b hb1).2, Option.bind_some, show ps.getD b 0 % 25 = eY L nl q by omega]
    · rw [if_neg (by decide), if_neg (by decide), if_neg (by decide), if_neg (by decide), if_neg (by decide), if_neg (by decide), if_neg (by decide), if_neg (by decide), if_neg (by decide), if_neg (by decide), t_rt F hql, Option.bind_some]
theorem pl_side (hw : wfS s) (r : R2 (rs s.1 own 2) t) (v1 v2 v3 v4 : Int32) : Rg thr0 (fun X => X = 2) 2 (R2k t) own s t 0 0 (c_906 102 v1 v2 v3 v4 s) (t_566 v1 v2 v3 v4 t) := by
  have hR : R2k t (rs s.1 own) t := ⟨r, Or.inr rfl⟩
  have r0 := R2k_0 r
  obtain ⟨L, nl, LC, LD, DC, nd, fo, be, co, fi, r⟩ := r
  obtain ⟨g1, _, g3, _⟩ := pl_lnk r
  unfold c_906 t_566
  rw [if_pos (isK_t g1 rfl)]
  rcases R2_fnd r with ⟨rfl, a1, a2⟩ | ⟨fd, Lf, nf, nr, st, ln, lab, fL, ou, ol, mp, pid, nid, aid, si, rc, rl, sp, sl, rfl, a1, a2, F, hnf, _⟩
  · refine Rg.arg (x := 0) (a := 0) (b := 0) hw hR (by rw [c_ro0 g1]; rfl) ?_ (Nat.zero_le _) (Nat.zero_le _)
    rw [t_sp0 a1, Option.bind_some, if_pos rfl, Option.bind_some, goes_0]; rfl
  · have hle := FN_le F
    rw [t_sp1 a1 (FT_117 F.1), Option.bind_some]
    by_cases z : inB v1 (Int32.ofNat (spn Lf nf st ln nr)) = true
    rotate_left
    · rw [c_roN F g1 z, if_neg z]
      exact Rg.arg (x := 0) (a := 0) (b := 0) hw hR rfl (by rw [if_pos rfl, Option.bind_some, goes_0]; rfl) (Nat.zero_le _) (Nat.zero_le _)
    obtain ⟨j, hj, rfl⟩ := inB_nat _ (by omega) z
    have rle := rgl_len F hj
    rw [c_ro F g1 hj, if_pos z, if_neg n10, t_sdN F.1 a1 hj, Option.bind_some, show (6 : Int32) = Int32.ofNat 6 from rfl, isInB]
    by_cases w : inB v2 (Int32.ofNat (rgl Lf nf nr st ln lab j).length) = true
    rotate_left
    · rw [if_neg w, if_neg w]
      refine Rg.arg (x := 0) (a := 0) (b := 0) hw hR rfl ?_ (Nat.zero_le _) (Nat.zero_le _)
      have e : (if v2 < 0 then some (0 : Int32) else if v3 < 0 then some 0 else if v3 < 0 then Option.bind (some (if inB v4 (Int32.ofNat 6) = true then (1 : Int32) else 0)) (fun x3 => if x3 = 0 then some 0 else some 1) else some 0) = some 0 := by
        by_cases a : v2 < 0
        · rw [if_pos a]
        · rw [if_neg a]
          by_cases b : v3 < 0
          · rw [if_pos b]
          · rw [if_neg b, if_neg b]
      rw [e, Option.bind_some, goes_0]; rfl
    obtain ⟨k, hk, rfl⟩ := inB_nat _ (by omega) w
    have hm := rgl_lt hj (show (rgl Lf nf nr st ln lab j).getD k 0 ∈ _ by rw [getD_lt hk]; exact List.getElem_mem hk)
    obtain ⟨sv, _, r1, ⟨m, r2⟩, r3, r4⟩ := FN_rc F hm
    rw [if_pos w, if_pos w, i_clamp (by omega), if_neg (i_nlt0 (by omega)), Option.bind_some, Sum.elim_inl]
    dsimp only
    have ec : (if v3 < 0 then some (some (rc ((rgl Lf nf nr st ln lab j).getD k 0)), (0 : Int32)) else Option.bind (some (rc ((rgl Lf nf nr st ln lab j).getD k 0))) (fun a3 => Option.bind (xN s [(66, 0)] a3) (fun a4 => (if isK s [13] a4 = true then Option.bind (alSize s a4) (fun x5 => (if v3 < x5 then (if v4 < 0 then some (some a3, 0) else (if 5 < v4 then some (some a3, 0) else some (some a3, 1))) else some (some a3, 0))) else none)))) = some (some (rc ((rgl Lf nf nr st ln lab j).getD k 0)), if inB v3 (Int32.ofNat (ln ((rgl Lf nf nr st ln lab j).getD k 0))) = true ∧ inB v4 (Int32.ofNat 6) = true then 1 else 0) := by
      rw [Option.bind_some, xN_o (b := rl _) r1 rfl rfl, Option.bind_some, if_pos (isK_t r2 rfl), alSize_r r2, Option.bind_some]
      have e6 : (if v4 < 0 then some (0 : Int32) else (if 5 < v4 then some 0 else some 1)) = some (if inB v4 (Int32.ofNat 6) = true then 1 else 0) := rngB v4 5 5 (by omega) rfl
      have e6' : (if v4 < 0 then some (some (rc ((rgl Lf nf nr st ln lab j).getD k 0)), (0 : Int32)) else (if 5 < v4 then some (some (rc ((rgl Lf nf nr st ln lab j).getD k 0)), 0) else some (some (rc ((rgl Lf nf nr st ln lab j).getD k 0)), 1))) = some (some (rc ((rgl Lf nf nr st ln lab j).getD k 0)), if inB v4 (Int32.ofNat 6) = true then 1 else 0) := by
        by_cases a : v4 < 0
        · rw [if_pos a] at e6 ⊢
          rw [← Option.some.inj e6]
        · rw [if_neg a] at e6 ⊢
          by_cases b : 5 < v4
          · rw [if_pos b] at e6 ⊢
            rw [← Option.some.inj e6]
          · rw [if_neg b] at e6 ⊢
            rw [← Option.some.inj e6]
      rw [e6']
      by_cases a : v3 < 0
      · rw [if_pos a, if_neg (fun y => (of_decide_eq_true y.1).1 a)]
      · rw [if_neg a]
        by_cases b : v3 < Int32.ofNat (ln ((rgl Lf nf nr st ln lab j).getD k 0))
        · have hb : inB v3 (Int32.ofNat (ln ((rgl Lf nf nr st ln lab j).getD k 0))) = true := decide_eq_true ⟨a, b⟩
          rw [if_pos b]
          by_cases c : inB v4 (Int32.ofNat 6) = true
          · rw [if_pos c, if_pos ⟨hb, c⟩]
          · rw [if_neg c, if_neg (fun y => c y.2)]
        · rw [if_neg b, if_neg (fun y => b (of_decide_eq_true y.1).2)]
    have et : (if v3 < 0 then some (0 : Int32) else if v3 < Int32.ofNat (ln ((rgl Lf nf nr st ln lab j).getD k 0)) then Option.bind (some (if inB v4 (Int32.ofNat 6) = true then (1 : Int32) else 0)) (fun x3 => if x3 = 0 then some 0 else some 1) else some 0) = some (if inB v3 (Int32.ofNat (ln ((rgl Lf nf nr st ln lab j).getD k 0))) = true ∧ inB v4 (Int32.ofNat 6) = true then 1 else 0) := by
      rw [Option.bind_some]
      by_cases a : v3 < 0
      · rw [if_pos a, if_neg (fun y => (of_decide_eq_true y.1).1 a)]
      · rw [if_neg a]
        by_cases b : v3 < Int32.ofNat (ln ((rgl Lf nf nr st ln lab j).getD k 0))
        · have hb : inB v3 (Int32.ofNat (ln ((rgl Lf nf nr st ln lab j).getD k 0))) = true := decide_eq_true ⟨a, b⟩
          rw [if_pos b]
          by_cases c : inB v4 (Int32.ofNat 6) = true
          · rw [if_pos c, if_neg n10, if_pos ⟨hb, c⟩]
          · rw [if_neg c, if_pos rfl, if_neg (fun y => c y.2)]
        · rw [if_neg b, if_neg (fun y => b (of_decide_eq_true y.1).2)]
    rw [ec, Option.bind_some, et, ar_need]
    by_cases o : inB v3 (Int32.ofNat (ln ((rgl Lf nf nr st ln lab j).getD k 0))) = true ∧ inB v4 (Int32.ofNat 6) = true
    rotate_left
    · rw [if_neg o, if_pos rfl]
      exact Rg.arg (x := 0) (a := 0) (b := 0) hw hR rfl (by rw [Option.bind_some, goes_0]; rfl) (Nat.zero_le _) (Nat.zero_le _)
    rw [if_pos o, if_neg n10, xI_o (x := t.1 110) g1 rfl rfl, Option.bind_some, st_may, Option.bind_some, Option.bind_some]
    rcases a2 with y | y
    · rw [if_pos y]
      exact Rg.sta (x := 0) (a := 0) (b := 0) hw hR rfl (by rw [g_n y]; rfl) (Nat.zero_le _) (Nat.zero_le _)
    obtain ⟨n, hn, rfl⟩ := inB_nat _ (by omega) o.1
    obtain ⟨v, hv, rfl⟩ := inB_nat _ (by omega) o.2
    have ts := t_sd hv (FN_0 F.1) a1 hj hk hn (by omega) rfl
    have hq := r3 n
    generalize hqd : itn (gNx Lf nf) n (st ((rgl Lf nf nr st ln lab j).getD k 0)) = q at ts hq
    obtain ⟨⟨rv, G, _⟩, _⟩ := F.2
    obtain ⟨_, y2, y3, y4, y5, _⟩ := GSt_sd F.1.1 G hq
    obtain ⟨_, _, _, _, _, _, _, z1, _, _⟩ := FN_sr F hq
    obtain ⟨kb, svb, a', b', c', _, _, w1, w2, w3⟩ := FN_sr F (bkS_lt hq)
    have kl := (k_in (show q / 2 < nP Lf nf by omega)).1
    have l1 := g3 (kL Lf nf (q / 2)) (by omega)
    rw [if_neg (by rw [y]; decide), g_y y, Option.bind_some, if_neg n10]
    dsimp only
    rw [ts, Option.bind_some, xN_o (b := rl _) r1 rfl rfl, Option.bind_some, if_pos (isK_t r2 rfl), alGet_r r2 hn (by omega), hqd, Option.bind_some, toN_o z1 rfl, Option.bind_some]
    have ti : (Int32.ofNat v).toInt = v := Int32.toInt_ofNat_of_lt (by omega)
    rw [ti]
    rcases (show v = 0 ∨ v = 1 ∨ v = 2 ∨ v = 3 ∨ v = 4 ∨ v = 5 by omega) with rfl | rfl | rfl | rfl | rfl | rfl
    · rw [if_pos (by decide), xN_o (b := LC (kL Lf nf (q / 2))) z1 rfl rfl, Option.bind_some, xI_o (x := Int32.ofNat (kL Lf nf (q / 2))) l1 rfl rfl]
      exact Rg.same (a := 0) (b := 0) hw r0 rfl rfl (Nat.zero_le _) (Nat.zero_le _)
    · rw [if_neg (by decide), if_pos (by decide), xN_o (b := nid _ _) z1 rfl rfl, Option.bind_some, xN_o (b := pid _ _) y2 rfl rfl, Option.bind_some, xI_o (x := Int32.ofNat (sX Lf nf q)) y3 rfl rfl]
      exact Rg.same (a := 0) (b := 0) hw r0 rfl rfl (Nat.zero_le _) (Nat.zero_le _)
    · rw [if_neg (by decide), if_neg (by decide), if_pos (by decide), xN_o (b := nid _ _) z1 rfl rfl, Option.bind_some, xN_o (b := pid _ _) y2 rfl rfl, Option.bind_some, xI_o (x := Int32.ofNat (sY Lf nf q)) y3 rfl rfl]
      exact Rg.same (a := 0) (b := 0) hw r0 rfl rfl (Nat.zero_le _) (Nat.zero_le _)
    · rw [if_neg (by decide), if_neg (by decide), if_neg (by decide), if_pos (by decide), xN_o (b := nid (eX Lf nf q) (eY Lf nf q)) z1 rfl rfl, Option.bind_some, xN_o (b := pid _ _) y4 rfl rfl, Option.bind_some, xI_o (x := Int32.ofNat (eX Lf nf q)) y5 rfl rfl]
      exact Rg.same (a := 0) (b := 0) hw r0 rfl rfl (Nat.zero_le _) (Nat.zero_le _)
    · rw [if_neg (by decide), if_neg (by decide), if_neg (by decide), if_neg (by decide), if_pos (by decide), xN_o (b := nid (eX Lf nf q) (eY Lf nf q)) z1 rfl rfl, Option.bind_some, xN_o (b := pid _ _) y4 rfl rfl, Option.bind_some, xI_o (x := Int32.ofNat (eY Lf nf q)) y5 rfl rfl]
      exact Rg.same (a := 0) (b := 0) hw r0 rfl rfl (Nat.zero_le _) (Nat.zero_le _)
    · rw [if_neg (by decide), if_neg (by decide), if_neg (by decide), if_neg (by decide), if_neg (by decide), xN_o (b := si (bkS q)) z1 rfl rfl, Option.bind_some, xN_o (b := rc kb) w1 rfl rfl, Option.bind_some, xN_o (b := spo ou sp (gLL (gS Lf nf) lab (bkS q))) w2 rfl rfl, Option.bind_some, xI_o (x := Int32.ofInt (gLL (gS Lf nf) lab (bkS q))) w3 rfl rfl]
      exact Rg.same (a := 0) (b := 0) hw r0 rfl rfl (Nat.zero_le _) (Nat.zero_le _)
end
