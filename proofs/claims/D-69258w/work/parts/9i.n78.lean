/-! the plan's readers: sums over rings -/
section
variable {s : CS} {t : TS} {L : PLn} {nl nr : Nat} {st ln : Nat → Nat} {lab : Int → Int → Int} {LC : Nat → Nat} {fd fL ou ol mp : Nat} {pid nid aid : Nat → Nat → Nat} {si rc rl sp sl : Nat → Nat}
theorem rg_perm (hg : gdL L nl) (hR : RF L nl nr st ln) : (List.range (2 * nP L nl)).Perm ((List.range nr).flatMap (rgs L nl st ln)) := by
  refine (List.perm_ext_iff_of_nodup List.nodup_range (nd_flat List.nodup_range (fun k hk => ?_) (fun k hk k' hk' q h h' => rgs_uni hg hR (List.mem_range.mp hk) (List.mem_range.mp hk') h h'))).mpr (fun q => ?_)
  · obtain ⟨h1, h2, h3, h4⟩ := hR.1 k (List.mem_range.mp hk)
    exact orb_nd gNx_lt (gNx_inj hg) h1 h4
  · rw [List.mem_range, List.mem_flatMap]
    constructor
    · intro h
      obtain ⟨k, hk, hq⟩ := hR.2.2.2 q h
      exact ⟨k, List.mem_range.mpr hk, hq⟩
    · rintro ⟨k, hk, hq⟩
      exact rgs_lt hR (List.mem_range.mp hk) hq
theorem rg_sumF (hg : gdL L nl) (hR : RF L nl nr st ln) (hl : gLab (gS L nl) (2 * nP L nl) lab) (F : Int) (w : Nat → Int) : gsm (fun q => if gLL (gS L nl) lab q = F then w q else 0) (List.range (2 * nP L nl)) = gsm (fun k => gsm w (rgs L nl st ln k)) ((List.range nr).filter (fun k => decide (fcS L nl st lab k = F))) := by
  rw [sm_perm (rg_perm hg hR), sm_flat, sm_filter]
  refine sm_congr (fun k hk => ?_)
  by_cases z : fcS L nl st lab k = F
  · rw [if_pos (decide_eq_true z)]
    exact sm_congr (fun q hq => by rw [lb_fc hg hR hl (List.mem_range.mp hk) hq, if_pos z])
  · rw [if_neg (fun w => z (of_decide_eq_true w))]
    exact sm_zero (fun q hq => by rw [lb_fc hg hR hl (List.mem_range.mp hk) hq, if_neg z])
theorem orb_s {f : Nat → Nat} {q d : Nat} : orb f (q + 1) d = orb f q d ++ [itn f q d] := by
  unfold orb
  rw [List.range_succ, List.map_append]
  rfl
theorem sX_d (hg : gdL L nl) {q : Nat} (hq : q < 2 * nP L nl) : (max (eX L nl q) (sX L nl q) - min (eX L nl q) (sX L nl q)) + (max (eY L nl q) (sY L nl q) - min (eY L nl q) (sY L nl q)) = sln L nl q := by
  obtain ⟨h1, h2, h3, h4, _⟩ := sX_i hg hq
  obtain ⟨p, l, a, b, e1, e2, e3, e4, e5, e6, e7, e8, e9⟩ := gS_c hq
  unfold sln
  rw [← e1, e4, e5]
  rcases e9 with ⟨_, _, _, x1, x2, x3, x4⟩ | ⟨_, _, _, x1, x2, x3, x4⟩ | ⟨_, _, _, x1, x2, x3, x4⟩ | ⟨_, _, _, x1, x2, x3, x4⟩ <;> omega
theorem c_slen (F : FNx s t L nl nr st ln lab LC fd fL ou ol mp pid nid aid si rc rl sp sl) {q : Nat} (hq : q < 2 * nP L nl) : c_884 (si q) s = some (Int32.ofInt (sln L nl q)) := by
  have hg := F.1.1
  obtain ⟨⟨rv, G, _⟩, _⟩ := F.2
  obtain ⟨y1, y2, y3, y4, y5, y6, y7⟩ := GSt_sd hg G hq
  obtain ⟨_, _, _, _, b1, b2, b3, b4⟩ := sX_i hg hq
  unfold c_884
  rw [xN_o (b := nid (eX L nl q) (eY L nl q)) y1 rfl rfl, Option.bind_some, xN_o (b := pid (eX L nl q) (eY L nl q)) y4 rfl rfl, Option.bind_some, xI_o (x := Int32.ofNat (eX L nl q)) y5 rfl rfl, Option.bind_some, xN_o (b := nid (sX L nl q) (sY L nl q)) y1 rfl rfl, Option.bind_some, xN_o (b := pid (sX L nl q) (sY L nl q)) y2 rfl rfl, Option.bind_some, xI_o (x := Int32.ofNat (sX L nl q)) y3 rfl rfl, Option.bind_some, c_abs (by omega) (by omega), Option.bind_some, Option.bind_some, xN_o (b := pid (eX L nl q) (eY L nl q)) y4 rfl rfl, Option.bind_some, xI_o (x := Int32.ofNat (eY L nl q)) y5 rfl rfl, Option.bind_some, Option.bind_some, xN_o (b := pid (sX L nl q) (sY L nl q)) y2 rfl rfl, Option.bind_some, xI_o (x := Int32.ofNat (sY L nl q)) y3 rfl rfl, Option.bind_some, c_abs (by omega) (by omega), Option.bind_some, i_add, sX_d hg hq, i_ofI]
/-- the cells of a ring -/
theorem FN_rc (F : FNx s t L nl nr st ln lab LC fd fL ou ol mp pid nid aid si rc rl sp sl) {k : Nat} (hk : k < nr) : ∃ sv m : Value, s.1 (rc k) = some (true, false, 66, [.ref (rl k), .ref (nid (sX L nl (st k)) (sY L nl (st k))), .int (Int32.ofInt (gtrn (gS L nl) (rgs L nl st ln k))), sv]) ∧ (∃ m : Int32, s.1 (rl k) = some (true, false, 1013, .int m :: rowC (fun j => .ref (si (itn (gNx L nl) j (st k)))) (ln k))) ∧ (∀ q, itn (gNx L nl) q (st k) < 2 * nP L nl) ∧ ln k ≤ 2 * nP L nl := by
  obtain ⟨_, _, _, _, _, d5, _⟩ := F.2
  obtain ⟨_, _, e1, e2⟩ := d5 k hk
  refine ⟨_, .null, e1, e2, fun q => itn_lt gNx_lt (F.1.2.1.1 k hk).1 q, ?_⟩
  have := lnS_le F.1.1 F.1.2.1 (od := [k]) (by simp) (fun q hq => by simp at hq; rw [hq]; exact hk)
  exact this
/-- the lengths of a ring's sides -/
theorem c_rsum (F : FNx s t L nl nr st ln lab LC fd fL ou ol mp pid nid aid si rc rl sp sl) {k : Nat} (hk : k < nr) {m : Int32} (e : s.1 (rl k) = some (true, false, 1013, .int m :: rowC (fun j => .ref (si (itn (gNx L nl) j (st k)))) (ln k))) (a : Int) : wh (S := Int32 × Int32) (X := Int32) (fun p30 => Option.bind (alHas s (rl k) p30.2) (fun x13 => (if x13 = 0 then some (.inr p30.1) else Option.bind (alNext s (rl k) m p30.2) (fun e14 => Option.bind (toN s [65] e14) (fun a15 => (if isK s [65] a15 = true then Option.bind (c_884 a15 s) (fun x16 => some (.inl (p30.1 + x16, p30.2 + 1))) else none)))))) (Int32.ofInt a, 0) = some (Int32.ofInt (a + gsm (fun q => (sln L nl q : Int)) (rgs L nl st ln k))) := by
  have hle := FN_le F
  obtain ⟨_, _, _, _, hm, hln⟩ := FN_rc F hk
  obtain ⟨⟨rv, G, _⟩, _⟩ := F.2
  have key : ∀ X : Option Int32, Tr X (fun x => x = Int32.ofInt (a + gsm (fun q => (sln L nl q : Int)) (rgs L nl st ln k))) → X = some (Int32.ofInt (a + gsm (fun q => (sln L nl q : Int)) (rgs L nl st ln k))) := by
    rintro X ⟨x, rfl, rfl⟩; rfl
  refine key _ ?_
  refine wh_cnt (ln k) (fun q (x : Int32 × Int32) => x.2 = Int32.ofNat q ∧ x.1 = Int32.ofInt (a + gsm (fun q => (sln L nl q : Int)) (orb (gNx L nl) q (st k)))) ?_ ?_ ⟨rfl, by show _ = Int32.ofInt (a + 0); rw [Int.add_zero]⟩
  · rintro q ⟨v, _⟩ hq ⟨rfl, hv⟩
    right
    dsimp only at hv ⊢
    have c1 := (GSt_sd F.1.1 G (hm q)).1
    rw [alHas_r e (by omega) (by omega), if_neg (by omega), Option.bind_some, if_neg (by decide), alNext_r e hq (by omega), Option.bind_some, toN_o c1 rfl, Option.bind_some, if_pos (isK_t c1 rfl), c_slen F (hm q), Option.bind_some, i_suc]
    refine ⟨_, rfl, rfl, ?_⟩
    dsimp only
    rw [hv, i_addI, orb_s, sm_app, sm_sg, Int.add_assoc]
  · rintro ⟨v, _⟩ ⟨rfl, hv⟩
    dsimp only at hv ⊢
    rw [alHas_r e (by omega) (by omega), if_pos rfl, Option.bind_some, if_pos rfl]
    exact ⟨_, rfl, hv⟩
theorem rgl_len (F : FNx s t L nl nr st ln lab LC fd fL ou ol mp pid nid aid si rc rl sp sl) {j : Nat} (hj : j < spn L nl st ln nr) : (rgl L nl nr st ln lab j).length ≤ nr := by
  rw [rgl_eq F.1.1 F.1.2.1 F.1.2.2.2.1 hj]
  exact Nat.le_trans (List.length_filter_le _ _) (by rw [List.length_range]; exact Nat.le_refl _)
theorem take_s {l : List Nat} {k : Nat} (hk : k < l.length) : l.take (k + 1) = l.take k ++ [l.getD k 0] := by
  rw [List.take_succ_eq_append_getElem hk, getD_lt hk]
/-- the lengths of a space's sides -/
theorem c_perim (F : FNx s t L nl nr st ln lab LC fd fL ou ol mp pid nid aid si rc rl sp sl) {j : Nat} (hj : j < spn L nl st ln nr) : wh (S := CS × Int32 × Int32) (X := CS × Int32) (fun p20 => (if isK p20.1 [62] (sp j) = true then Option.bind (c_875 (sp j) p20.1) (fun x8 => (if p20.2.2 < x8 then (if isK p20.1 [62] (sp j) = true then Option.bind (c_876 (sp j) p20.2.2 p20.1) (fun x9 => Option.bind (x9) (fun a10 => Option.bind (xN p20.1 [(66, 0)] a10) (fun a11 => (if isK p20.1 [13] a11 = true then Option.bind (alMc p20.1 a11) (fun i12 => Option.bind (wh (S := Int32 × Int32) (X := Int32) (fun p30 => Option.bind (alHas i12.2 a11 p30.2) (fun x13 => (if x13 = 0 then some (.inr p30.1) else Option.bind (alNext i12.2 a11 i12.1 p30.2) (fun e14 => Option.bind (toN i12.2 [65] e14) (fun a15 => (if isK i12.2 [65] a15 = true then Option.bind (c_884 a15 i12.2) (fun x16 => some (.inl (p30.1 + x16, p30.2 + 1))) else none)))))) (p20.2.1, 0)) (fun v43 => some (.inl (i12.2, v43, p20.2.2 + 1)))) else none)))) else none) else some (.inr (p20.1, p20.2.1)))) else none)) (s, 0, 0) = some (chg s (rgl L nl nr st ln lab j).length (4 * (rgl L nl nr st ln lab j).length), Int32.ofInt (gsm (fun k => gsm (fun q => (sln L nl q : Int)) (rgs L nl st ln k)) (rgl L nl nr st ln lab j))) := by
  have hle := FN_le F
  have rle := rgl_len F hj
  have c1 := (F.2.2.2.2.2.1 j hj).1
  have key : ∀ X : Option (CS × Int32), Tr X (fun x => x = (chg s (rgl L nl nr st ln lab j).length (4 * (rgl L nl nr st ln lab j).length), Int32.ofInt (gsm (fun k => gsm (fun q => (sln L nl q : Int)) (rgs L nl st ln k)) (rgl L nl nr st ln lab j)))) → X = some (chg s (rgl L nl nr st ln lab j).length (4 * (rgl L nl nr st ln lab j).length), Int32.ofInt (gsm (fun k => gsm (fun q => (sln L nl q : Int)) (rgs L nl st ln k)) (rgl L nl nr st ln lab j))) := by
    rintro X ⟨x, rfl, rfl⟩; rfl
  refine key _ ?_
  refine wh_cnt (rgl L nl nr st ln lab j).length (fun p a => a = (chg s p (4 * p), Int32.ofInt (gsm (fun k => gsm (fun q => (sln L nl q : Int)) (rgs L nl st ln k)) ((rgl L nl nr st ln lab j).take p)), Int32.ofNat p)) ?_ ?_ rfl
  · rintro p a hp rfl
    right
    have c1' : (chg s p (4 * p)).1 (sp j) = _ := c1
    have F' : FNx (chg s p (4 * p)) t L nl nr st ln lab LC fd fL ou ol mp pid nid aid si rc rl sp sl := F
    have hm := rgl_lt hj (show (rgl L nl nr st ln lab j).getD p 0 ∈ _ by rw [getD_lt hp]; exact List.getElem_mem hp)
    obtain ⟨sv, _, r1, ⟨m, r2⟩, r3, r4⟩ := FN_rc F' hm
    dsimp only
    rw [if_pos (isK_t c1' rfl), c_rgs F' hj, Option.bind_some, if_pos ((i_lt (by omega) (by omega)).mpr hp), if_pos (isK_t c1' rfl), c_rgA F' hj hp, Option.bind_some, Option.bind_some, xN_o (b := rl ((rgl L nl nr st ln lab j).getD p 0)) r1 rfl rfl, Option.bind_some, if_pos (isK_t r2 rfl), alMc_l r2, Option.bind_some]
    dsimp only
    have F2 : FNx (chg (chg s p (4 * p)) 1 4) t L nl nr st ln lab LC fd fL ou ol mp pid nid aid si rc rl sp sl := F
    rw [c_rsum F2 hm r2, Option.bind_some, i_suc]
    refine ⟨_, rfl, ?_⟩
    rw [take_s hp, sm_app, sm_sg]
    rfl
  · rintro a rfl
    have c1' : (chg s (rgl L nl nr st ln lab j).length (4 * (rgl L nl nr st ln lab j).length)).1 (sp j) = _ := c1
    have F' : FNx (chg s (rgl L nl nr st ln lab j).length (4 * (rgl L nl nr st ln lab j).length)) t L nl nr st ln lab LC fd fL ou ol mp pid nid aid si rc rl sp sl := F
    dsimp only
    rw [if_pos (isK_t c1' rfl), c_rgs F' hj, Option.bind_some, if_neg (fun z => by have := (i_lt (by omega) (by omega)).mp z; omega), List.take_length]
    exact ⟨_, rfl, rfl⟩
end
