/-! the plan's readers: what was found -/
def FNx (s : CS) (t : TS) (L : PLn) (nl nr : Nat) (st ln : Nat → Nat) (lab : Int → Int → Int) (LC : Nat → Nat) (fd fL ou ol mp : Nat) (pid nid aid : Nat → Nat → Nat) (si rc rl sp sl : Nat → Nat) : Prop :=
  FT t L nl nr st ln lab (fun k => t.2.2.1 64 k) ∧ FD 179 s.1 L nl nr st ln LC fd fL ou ol mp pid nid aid si rc rl sp sl (fun k => if lfB L nl st ln k = true then .ref (sp (spn L nl st ln k)) else .ref (spo ou sp (fcS L nl st lab k))) (fun k => t.2.2.1 64 k) (inF L nl st lab (KRs L nl nr st ln))
def R2f (s : CS) (t : TS) (L : PLn) (nl : Nat) (LC LD : Nat → Nat) (fo : Value) : Prop := ∃ fd Lf nf nr st ln lab fL ou ol mp pid nid aid si rc rl sp sl, fo = .ref fd ∧ t.1 109 = 1 ∧ v01 (t.1 110) ∧ FNx s t Lf nf nr st ln lab LC fd fL ou ol mp pid nid aid si rc rl sp sl ∧ nf ≤ nl ∧ (∀ l, l < nf → pFl Lf l = pFl L l) ∧ (t.1 110 = 1 → nf = nl ∧ ∀ l, l < nl → Lf l = L l) ∧ (∀ k, k < spn Lf nf st ln nr → bel (t.2.2.1 64 k) 1001) ∧ ∀ l, l < nl → LD l ≠ fL ∧ LD l ≠ ol ∧ (∀ k, k < nr → LD l ≠ rl k) ∧ ∀ j, j < spn Lf nf st ln nr → LD l ≠ sl j
section
variable {own : Nat → Nat} {s : CS} {t T : TS}
theorem R2_fnd {L : PLn} {nl : Nat} {LC LD : Nat → Nat} {DC : Nat → Nat → Nat} {nd : Nat → Nat} {fo be co : Value} {fi : Nat} (r : R2x (rs s.1 own 2) t L nl LC LD DC nd fo be co fi) : (fo = .null ∧ t.1 109 = 0 ∧ t.1 110 = 0) ∨ R2f s t L nl LC LD fo := by
  obtain ⟨_, _, _, _, _, _, r7⟩ := r
  rcases r7 with w | ⟨fd, w1, w2, w3, Lf, nf, nr, st, ln, lab, fL, ou, ol, mp, pid, nid, aid, si, rc, rl, sp, sl, q1, q2, q3, q4, q5, q6, q7⟩
  · exact Or.inl w
  · exact Or.inr ⟨fd, Lf, nf, nr, st, ln, lab, fL, ou, ol, mp, pid, nid, aid, si, rc, rl, sp, sl, w1, w2, w3, ⟨q1, FD_own (LC' := LC) q2 (Nat.le_refl _) (fun a c _ e => (rs_some.mp e).2) (fun _ _ => rfl)⟩, q3, q4, q5, q6, q7⟩
theorem R2_0 {h : lHeap} (r : R2 h t) : R2 h (ptI t 0 0) := by
  have ac : agr [0] [] t (ptI t 0 0) := agr_p agr_refl (by simp)
  obtain ⟨L, nl, LC, LD, DC, nd, fo, be, co, fi, r1, r2, r3, r4, l, d, r7⟩ := r
  refine ⟨L, nl, LC, LD, DC, nd, fo, be, co, fi, r1, r2, r3, r4, l, d, ?_⟩
  rcases r7 with w | ⟨fd, w1, w2, w3, w4⟩
  · exact Or.inl w
  · exact Or.inr ⟨fd, w1, w2, w3, F2_up w4 (fun _ _ e _ => e) ac (by simp) (by simp) (by simp) (fun _ _ => rfl) (Nat.le_refl _) (fun _ _ => rfl) (fun _ _ => rfl) (fun e => ⟨e, rfl, fun _ _ => rfl⟩) (fun l hl => Or.inl ⟨hl, rfl⟩)⟩
theorem R2k_0 (r : R2 (rs s.1 own 2) t) : R2k t (rs s.1 own) (ptI t 0 0) := ⟨R2_0 r, Or.inr (agr_rt (agr_p (I := [0]) (R := []) agr_refl (by simp)) (fun c hc => by simp only [List.mem_cons, List.not_mem_nil, or_false] at hc; rw [hc]; decide) (fun c hc => by simp at hc))⟩
theorem t_sp0 (h : t.1 109 = 0) (v : Int32) : t_708 v t = some 0 := by
  unfold t_708
  rw [if_pos h]
theorem t_sp1 (h : t.1 109 = 1) {n : Nat} (h2 : t.1 117 = Int32.ofNat n) (v : Int32) : t_708 v t = some (if inB v (Int32.ofNat n) = true then 1 else 0) := by
  unfold t_708
  rw [if_neg (by rw [h]; decide), h2, orB]
theorem t_an0 (h : t.1 109 = 0) (v : Int32) : t_717 v t = some 0 := by
  unfold t_717
  rw [if_pos h]
def anB (v n : Int32) : Prop := ¬ v < -1 ∧ v < n
theorem t_an1 (h : t.1 109 = 1) {n : Nat} (h2 : t.1 117 = Int32.ofNat n) (v : Int32) : by classical exact (t_717 v t = some (if anB v (Int32.ofNat n) then 1 else 0)) := by
  classical
  unfold t_717
  rw [if_neg (by rw [h]; decide), h2]
  by_cases a : v < -1
  · rw [if_pos a, if_neg (show ¬ anB v (Int32.ofNat n) from fun z => z.1 a)]
  · rw [if_neg a]
    by_cases b : v < Int32.ofNat n
    · rw [if_pos b, if_pos (show anB v (Int32.ofNat n) from ⟨a, b⟩)]
    · rw [if_neg b, if_neg (show ¬ anB v (Int32.ofNat n) from fun z => b z.2)]
theorem anB_c {v : Int32} {n : Nat} (hn : n < 1000000) (h : anB v (Int32.ofNat n)) : v = -1 ∨ ∃ k, k < n ∧ v = Int32.ofNat k := by
  by_cases z : v < 0
  · left
    have e1 : (-1 : Int32).toInt = -1 := rfl
    have e0 : (0 : Int32).toInt = 0 := rfl
    have h1 := h.1
    rw [Int32.lt_iff_toInt_lt] at z h1
    apply Int32.toInt_inj.mp
    omega
  · obtain ⟨k, hk, e⟩ := i_nat (by omega) z h.2
    exact Or.inr ⟨k, hk, e⟩
theorem anB_i {v : Int32} {n : Nat} (hn : n < 1000000) (h : inB v (Int32.ofNat n) = true) : anB v (Int32.ofNat n) := by
  obtain ⟨k, hk, rfl⟩ := inB_nat n (by omega) h
  refine ⟨?_, (i_lt (by omega) (by omega)).mpr hk⟩
  intro z
  rw [Int32.lt_iff_toInt_lt, Int32.toInt_ofNat_of_lt (by omega)] at z
  have e1 : (-1 : Int32).toInt = -1 := rfl
  omega
theorem c_sp0 {f : List Value} (g : s.1 102 = some (true, false, 67, .ref 103 :: .null :: f)) (v : Int32) : c_905 102 v s = some (.inr (s.2.1, exs s 11)) := by
  unfold c_905
  rw [xR_z g rfl rfl, Option.bind_some, if_pos rfl, Option.bind_some, need_eq, if_pos rfl]
  rfl
theorem c_an0 {f : List Value} (g : s.1 102 = some (true, false, 67, .ref 103 :: .null :: f)) (v : Int32) : c_912 102 v s = some (.inr (s.2.1, exs s 11)) := by
  unfold c_912
  rw [xR_z g rfl rfl, Option.bind_some, if_pos rfl, Option.bind_some, need_eq, if_pos rfl]
  rfl
section
variable {L : PLn} {nl nr : Nat} {st ln : Nat → Nat} {lab : Int → Int → Int} {LC : Nat → Nat} {fd fL ou ol mp : Nat} {pid nid aid : Nat → Nat → Nat} {si rc rl sp sl : Nat → Nat}
theorem FN_le (F : FNx s t L nl nr st ln lab LC fd fL ou ol mp pid nid aid si rc rl sp sl) : nP L nl ≤ 400 ∧ nr ≤ nP L nl ∧ spn L nl st ln nr ≤ nr := ⟨nP_le F.1.1, F.1.2.2.1, spn_le nr⟩
theorem c_sp1 (F : FNx s t L nl nr st ln lab LC fd fL ou ol mp pid nid aid si rc rl sp sl) {f : List Value} (g : s.1 102 = some (true, false, 67, .ref 103 :: .ref fd :: f)) (v : Int32) : c_905 102 v s = if inB v (Int32.ofNat (spn L nl st ln nr)) = true then some (.inl (sp v.toNatClampNeg, s)) else some (.inr (s.2.1, exs s 11)) := by
  have hle := FN_le F
  obtain ⟨_, d1, ⟨m, d2⟩, _, d4, _⟩ := F.2
  unfold c_905
  rw [xR_o g rfl rfl, Option.bind_some, if_neg (by simp), xN_o (b := fd) g rfl rfl, Option.bind_some, xN_o (b := fL) d1 rfl rfl, Option.bind_some, if_pos (isK_t d2 rfl), alSize_r d2, Option.bind_some, orB, Option.bind_some, need_eq]
  by_cases z : inB v (Int32.ofNat (spn L nl st ln nr)) = true
  · obtain ⟨k, hk, rfl⟩ := inB_nat _ (by omega) z
    rw [if_pos z, if_pos z, if_neg (by decide), Option.bind_some, Sum.elim_inl, xN_o (b := fd) g rfl rfl, Option.bind_some, xN_o (b := fL) d1 rfl rfl, Option.bind_some, if_pos (isK_t d2 rfl), alGet_r d2 hk (by omega), Option.bind_some, toN_o (d4 k hk).1 rfl, Option.bind_some, i_clamp (by omega)]
  · rw [if_neg z, if_neg z, if_pos rfl]
    rfl
theorem c_an1 (F : FNx s t L nl nr st ln lab LC fd fL ou ol mp pid nid aid si rc rl sp sl) {f : List Value} (g : s.1 102 = some (true, false, 67, .ref 103 :: .ref fd :: f)) (v : Int32) : by classical exact (c_912 102 v s = if anB v (Int32.ofNat (spn L nl st ln nr)) then some (.inl (some (if v = -1 then ou else sp v.toNatClampNeg), s)) else some (.inr (s.2.1, exs s 11))) := by
  classical
  have hle := FN_le F
  have d1 := F.2.2.1
  unfold c_912
  rw [xR_o g rfl rfl, Option.bind_some, if_neg (by simp)]
  by_cases a : v < -1
  · rw [if_pos a, Option.bind_some, need_eq, if_pos rfl, if_neg (show ¬ anB v (Int32.ofNat (spn L nl st ln nr)) from fun z => z.1 a)]
    rfl
  · rw [if_neg a, Option.bind_some, need_eq, if_neg (by decide), Option.bind_some, Sum.elim_inl]
    by_cases b : v = -1
    · rw [b, if_pos rfl, xN_o (b := fd) g rfl rfl, Option.bind_some, xR_o (b := ou) d1 rfl rfl, Option.bind_some, if_pos rfl, if_pos (show anB (-1) (Int32.ofNat (spn L nl st ln nr)) from ⟨by decide, ?_⟩)]
      rw [Int32.lt_iff_toInt_lt, Int32.toInt_ofNat_of_lt (by omega)]
      have e1 : (-1 : Int32).toInt = -1 := rfl
      omega
    · rw [if_neg b, if_pos (isK_t g rfl), c_sp1 F g, if_neg b]
      by_cases z : inB v (Int32.ofNat (spn L nl st ln nr)) = true
      · rw [if_pos z, if_pos (anB_i (by omega) z)]
        rfl
      · rw [if_neg z, if_neg (fun w => by
          rcases anB_c (by omega) w with w | ⟨k, hk, w⟩
          · exact b w
          · exact z (by rw [w]; exact inB_of hk (by omega)))]
        rfl
/-- the rings of a space, in the order in which they are counted -/
noncomputable def rgl (L : PLn) (nl nr : Nat) (st ln : Nat → Nat) (lab : Int → Int → Int) (j : Nat) : List Nat := lkF L nl nr st ln j :: inF L nl st lab (KRs L nl nr st ln) j
theorem inF_m {K : List Nat} {F : Int} {k : Nat} : k ∈ inF L nl st lab K F ↔ k ∈ K ∧ fcS L nl st lab k = F := by
  unfold inF
  rw [List.mem_filter, decide_eq_true_iff]
theorem rgl_eq (hg : gdL L nl) (hR : RF L nl nr st ln) (hL : LabN L nl nr st ln lab) {j : Nat} (hj : j < spn L nl st ln nr) : rgl L nl nr st ln lab j = (List.range nr).filter (fun k => decide (fcS L nl st lab k = j)) := by
  obtain ⟨k1, k2, k3⟩ := lkF_o hj
  have f1 := hL.2.2 _ k1 k2
  rw [k3] at f1
  refine sorted_ext ?_ (List.pairwise_lt_range.sublist List.filter_sublist) (fun x => ?_)
  · unfold rgl
    refine List.pairwise_cons.mpr ⟨fun k hk => ?_, ?_⟩
    · obtain ⟨h1, h2⟩ := inF_m.mp hk
      obtain ⟨h3, h4⟩ := KRs_m.mp h1
      exact lf_first hg hR hL.1 k1 h3 k2 h4 (f1.trans h2.symm)
    · unfold inF KRs
      rw [List.filter_filter]
      exact List.pairwise_lt_range.sublist List.filter_sublist
  · unfold rgl
    rw [List.mem_cons, inF_m, KRs_m, List.mem_filter, List.mem_range, decide_eq_true_iff]
    constructor
    · rintro (rfl | ⟨⟨h1, h2⟩, h3⟩)
      · exact ⟨k1, f1⟩
      · exact ⟨h1, h3⟩
    · rintro ⟨h1, h2⟩
      by_cases z : lfB L nl st ln x = true
      · left
        have e := hL.2.2 x h1 z
        rw [h2] at e
        have e' : spn L nl st ln x = j := by omega
        rw [← e', lkF_s h1 z]
      · exact Or.inr ⟨⟨h1, z⟩, h2⟩
theorem inF_len {F : Int} : (inF L nl st lab (KRs L nl nr st ln) F).length ≤ nr := by
  refine Nat.le_trans (List.length_filter_le _ _) (Nat.le_trans (List.length_filter_le _ _) ?_)
  rw [List.length_range]
  exact Nat.le_refl _
theorem rgl_lt {j k : Nat} (hj : j < spn L nl st ln nr) (h : k ∈ rgl L nl nr st ln lab j) : k < nr := by
  unfold rgl at h
  rcases List.mem_cons.mp h with rfl | h
  · exact (lkF_o hj).1
  · exact (KRs_m.mp (inF_m.mp h).1).1
theorem c_rgs (F : FNx s t L nl nr st ln lab LC fd fL ou ol mp pid nid aid si rc rl sp sl) {j : Nat} (hj : j < spn L nl st ln nr) : c_875 (sp j) s = some (Int32.ofNat (rgl L nl nr st ln lab j).length) := by
  obtain ⟨_, _, _, _, d4, _⟩ := F.2
  obtain ⟨e1, _, _, m, e2⟩ := d4 j hj
  unfold c_875
  rw [xN_o (b := sl j) e1 rfl rfl, Option.bind_some, if_pos (isK_t e2 rfl), alSize_l e2, Option.bind_some, List.length_map, i_suc]
  rfl
theorem c_rgO (F : FNx s t L nl nr st ln lab LC fd fL ou ol mp pid nid aid si rc rl sp sl) : c_875 ou s = some (Int32.ofNat ((inF L nl st lab (KRs L nl nr st ln) (-1)).length + 1)) := by
  obtain ⟨_, _, _, ⟨e1, m, e2⟩, _⟩ := F.2
  unfold c_875
  rw [xN_o (b := ol) e1 rfl rfl, Option.bind_some, if_pos (isK_t e2 rfl), alSize_l e2, Option.bind_some, List.length_map, i_suc]
theorem c_rgA (F : FNx s t L nl nr st ln lab LC fd fL ou ol mp pid nid aid si rc rl sp sl) {j k : Nat} (hj : j < spn L nl st ln nr) (hk : k < (rgl L nl nr st ln lab j).length) : c_876 (sp j) (Int32.ofNat k) s = some (some (rc ((rgl L nl nr st ln lab j).getD k 0))) := by
  have hle := FN_le F
  have il := inF_len (L := L) (nl := nl) (nr := nr) (st := st) (ln := ln) (lab := lab) (F := (j : Int))
  obtain ⟨_, _, _, _, d4, d5, _⟩ := F.2
  obtain ⟨e1, _, _, m, e2⟩ := d4 j hj
  have hk' : k < (inF L nl st lab (KRs L nl nr st ln) j).length + 1 := hk
  unfold c_876
  by_cases z : k = 0
  · rw [z, if_pos (show Int32.ofNat 0 = 0 from rfl), xR_o (b := rc (lkF L nl nr st ln j)) e1 rfl rfl, Option.bind_some]
    rfl
  · rw [if_neg (show ¬ Int32.ofNat k = 0 from fun w => z ((i_inj (j := k) (k := 0) (by omega) (by omega)).mp w)), xN_o (b := sl j) e1 rfl rfl, Option.bind_some, if_pos (isK_t e2 rfl)]
    obtain ⟨k, rfl⟩ := Nat.exists_eq_succ_of_ne_zero z
    have hk2 : k < (inF L nl st lab (KRs L nl nr st ln) j).length := by omega
    have e3 : ((inF L nl st lab (KRs L nl nr st ln) j).map (fun k => Value.ref (rc k)))[k]? = some (.ref (rc ((inF L nl st lab (KRs L nl nr st ln) j)[k]))) := by
      rw [List.getElem?_map, List.getElem?_eq_getElem hk2]; rfl
    rw [show Int32.ofNat k.succ - 1 = Int32.ofNat k by rw [show k.succ = k + 1 from rfl, ← i_suc, Int32.add_sub_cancel], alGet_l e2 e3 (by omega), Option.bind_some]
    have hm : (inF L nl st lab (KRs L nl nr st ln) j)[k] < nr := (KRs_m.mp (inF_m.mp (List.getElem_mem hk2)).1).1
    rw [toN_o (d5 _ hm).2.2.1 rfl, Option.bind_some]
    congr 3
    unfold rgl
    rw [List.getD_cons_succ, getD_lt hk2]
end
end
