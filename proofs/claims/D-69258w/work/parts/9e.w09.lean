/-! the warden: the order of acts, how many are done, attend, events -/
theorem soon_irr (t : TS) (a : Nat) : soon t a a = false := by
  unfold soon
  simp [Int32.lt_irrefl]
theorem soon_tr {t : TS} {a b c : Nat} (h1 : soon t a b = true) (h2 : soon t b c = true) : soon t a c = true := by
  unfold soon at h1 h2 ⊢
  simp only [Bool.or_eq_true, Bool.and_eq_true, decide_eq_true_eq] at h1 h2 ⊢
  rcases h1 with h1 | ⟨h1, h1'⟩
  · rcases h2 with h2 | ⟨h2, h2'⟩
    · exact Or.inl (Int32.lt_trans h2 h1)
    · rw [← h2]; exact Or.inl h1
  · rw [h1]
    rcases h2 with h2 | ⟨h2, h2'⟩
    · exact Or.inl h2
    · exact Or.inr ⟨h2, by omega⟩
theorem soon_tot {t : TS} {a b : Nat} (h : a ≠ b) : soon t a b = true ∨ soon t b a = true := by
  unfold soon
  simp only [Bool.or_eq_true, Bool.and_eq_true, decide_eq_true_eq]
  by_cases h1 : t.2.2.1 111 a < t.2.2.1 111 b
  · exact Or.inr (Or.inl h1)
  · by_cases h2 : t.2.2.1 111 b < t.2.2.1 111 a
    · exact Or.inl (Or.inl h2)
    · have e : t.2.2.1 111 a = t.2.2.1 111 b := Int32.le_antisymm (Int32.not_lt.mp h2) (Int32.not_lt.mp h1)
      rcases Nat.lt_or_gt_of_ne h with z | z
      · exact Or.inl (Or.inr ⟨e, z⟩)
      · exact Or.inr (Or.inr ⟨e.symm, z⟩)
theorem flt_lt {p q : Nat → Bool} {n b : Nat} (h : ∀ x, p x = true → q x = true) (hb : b < n) (h1 : q b = true) (h2 : p b = false) : ((List.range n).filter p).length < ((List.range n).filter q).length := by
  induction n with
  | zero => omega
  | succ n ih =>
    rw [flen_suc, flen_suc]
    by_cases y : b = n
    · subst y
      rw [h1, h2]
      have : ((List.range b).filter p).length ≤ ((List.range b).filter q).length := by
        rw [← List.countP_eq_length_filter, ← List.countP_eq_length_filter]
        exact List.countP_mono_left (fun x _ => h x)
      simp; omega
    · have := ih (by omega)
      by_cases z : p n = true
      · rw [if_pos z, if_pos (h n z)]; omega
      · rw [if_neg z]; omega
theorem bef_lt {t : TS} {a b : Nat} (hb : b < 20) (htb : t.2.2.1 109 b = 1) (h : soon t b a = true) : bef t b < bef t a := by
  unfold bef
  refine flt_lt (b := b) (fun x hx => ?_) hb ?_ ?_
  · rw [Bool.and_eq_true] at hx ⊢
    exact ⟨hx.1, soon_tr hx.2 h⟩
  · rw [htb, h]; rfl
  · rw [soon_irr]; simp
theorem bef_inj {t : TS} {a b : Nat} (ha : a < 20) (hb : b < 20) (hta : t.2.2.1 109 a = 1) (htb : t.2.2.1 109 b = 1) (h : bef t a = bef t b) : a = b := by
  refine Classical.byContradiction (fun hn => ?_)
  rcases soon_tot (t := t) hn with z | z
  · have := bef_lt ha hta z; omega
  · have := bef_lt hb htb z; omega
section
variable {own : Nat → Nat} {h : lHeap} {s : CS} {t : TS} {np sz mx zm am rl nr na ec : Nat} {P Z ZP A RW od : Nat → Nat}
theorem od_bef (r3 : W3 h t np mx zm am rl nr na Z ZP A RW od) {a : Nat} (ha : a < 20) (ht : t.2.2.1 109 a = 1) : bef t a < na ∧ od (bef t a) = a := by
  obtain ⟨_, _, _, _, _, _, _, _, _, _, _, r16, r17⟩ := r3
  have h1 := r17 a ha ht
  obtain ⟨h2, h3, h4⟩ := r16 _ h1
  exact ⟨h1, bef_inj h2 ha h3 ht h4⟩
theorem od_inj (r3 : W3 h t np mx zm am rl nr na Z ZP A RW od) {i j : Nat} (hi : i < na) (hj : j < na) (e : od i = od j) : i = j := by
  obtain ⟨_, _, _, _, _, _, _, _, _, _, _, r16, _⟩ := r3
  have h1 := (r16 i hi).2.2
  have h2 := (r16 j hj).2.2
  rw [e, h2] at h1
  exact h1.symm
theorem od_perm (r3 : W3 h t np mx zm am rl nr na Z ZP A RW od) : ((List.range na).map od).Perm ((List.range 20).filter (fun a => decide (t.2.2.1 109 a = 1))) := by
  have r3' := r3
  obtain ⟨_, _, _, _, _, _, _, _, _, _, _, r16, r17⟩ := r3'
  refine (List.perm_ext_iff_of_nodup ?_ ?_).mpr (fun a => ?_)
  · rw [List.nodup_iff_pairwise_ne, List.pairwise_map]
    refine List.Pairwise.imp_of_mem ?_ (List.pairwise_lt_range (n := na))
    intro i j hi hj hij e
    rw [List.mem_range] at hi hj
    have := od_inj r3 hi hj e
    omega
  · exact List.Pairwise.sublist List.filter_sublist (List.nodup_range (n := 20))
  · rw [List.mem_map, List.mem_filter, List.mem_range, decide_eq_true_eq]
    constructor
    · rintro ⟨i, hi, rfl⟩
      rw [List.mem_range] at hi
      exact ⟨(r16 i hi).1, (r16 i hi).2.1⟩
    · rintro ⟨h1, h2⟩
      obtain ⟨z1, z2⟩ := od_bef r3 h1 h2
      exact ⟨bef t a, List.mem_range.mpr z1, z2⟩
theorem dnC_le (t : TS) (v : Int32) : dnC t v ≤ 20 := by
  have := List.length_filter_le (fun a => decide (t.2.2.1 109 a = 1) && dnB t v a) (List.range 20)
  rw [List.length_range] at this; exact this
theorem t_done (q : R7x h t np sz mx zm am rl nr na ec P Z ZP A RW od) (v : Int32) : t_763 v t = some (Int32.ofNat (dnC t v)) := by
  obtain ⟨_, _, _, _, _, _, _, w12, _⟩ := q.2.2.2.1
  suffices g : Tr (t_763 v t) (fun x => x = Int32.ofNat (dnC t v)) by
    obtain ⟨x, h1, h2⟩ := g
    rw [h1, h2]
  unfold t_763
  refine Tr.bd (P := fun x => x = Int32.ofNat (dnC t v)) (wh_cnt 20 (fun i st => st = (Int32.ofNat ((List.range i).filter (fun a => decide (t.2.2.1 109 a = 1) && dnB t v a)).length, Int32.ofNat i)) ?_ ?_ rfl) (fun _ e => ⟨_, rfl, e⟩)
  · rintro i _ hi rfl
    refine Or.inr ⟨_, ?_, rfl⟩
    dsimp only
    rw [if_pos ((i_ltL (by omega) (by omega)).mpr hi), rdI_n (by omega) (by omega), Option.bind_some, rdI_n hi (by omega), Option.bind_some, rdI_n (by omega) (by omega), Option.bind_some, i_suc, flen_suc]
    unfold dnB
    rcases (w12 i hi).2.1 with y | y
    · rw [y]; simp
    · rw [y]
      by_cases y1 : t.2.2.1 117 i = 2
      · by_cases y2 : v < 0
        · simp [y1, y2]
        · by_cases y3 : t.2.2.1 110 i = v
          · simp [y1, y2, y3]
          · simp [y1, y2, y3]
      · simp [y1]
  · rintro _ rfl
    refine ⟨_, ?_, rfl⟩
    dsimp only
    rw [if_neg (by decide)]; rfl
theorem c_done (k7 : K7 s.1) (q : R7x s.1 t np sz mx zm am rl nr na ec P Z ZP A RW od) {v : Int32} (hv : v = -1 ∨ ¬ v < 0) : c_485 151 v s = some (Int32.ofNat (dnC t v)) := by
  have q0 := q.1.1
  have q3 := q.2.2.2.1
  obtain ⟨_, _, _, _, _, _, _, w12, _, ⟨mo, w14⟩, w15, w16, w17⟩ := q.2.2.2.1
  have q4 := q.2.2.2.2.1.1
  have hcount : ((List.range na).filter (fun i => dnB t v (od i))).length = dnC t v := by
    have h1 := (od_perm q3).countP_eq (fun a => dnB t v a)
    rw [List.countP_map, List.countP_eq_length_filter, List.countP_eq_length_filter, List.filter_filter] at h1
    unfold dnC
    rw [show ((fun a => dnB t v a) ∘ od) = (fun i => dnB t v (od i)) from rfl] at h1
    rw [h1]
    congr 2
    funext a
    rw [Bool.and_comm]
  rw [← hcount]
  suffices g : Tr (c_485 151 v s) (fun x => x = Int32.ofNat ((List.range na).filter (fun i => dnB t v (od i))).length) by
    obtain ⟨x, h1, h2⟩ := g
    rw [h1, h2]
  unfold c_485
  refine Tr.bd (P := fun x => x = Int32.ofNat ((List.range na).filter (fun i => dnB t v (od i))).length) (wh_cnt na (fun i st => st = (Int32.ofNat ((List.range i).filter (fun i => dnB t v (od i))).length, Int32.ofNat i)) ?_ ?_ rfl) (fun _ e => ⟨_, rfl, e⟩)
  · rintro i _ hi rfl
    obtain ⟨o1, o2, _⟩ := w16 i hi
    obtain ⟨a1, a2, a3⟩ := q4 _ o1 o2
    have hst := st_of a3
    refine Or.inr ⟨_, ?_, rfl⟩
    dsimp only
    rw [xN_o (b := 161) q0 rfl rfl, Option.bind_some, if_pos (isK_t w14 rfl), alSize_r w14, Option.bind_some, if_pos ((i_lt (by omega) (by omega)).mpr hi), Option.bind_some, if_pos (isK_t w14 rfl), alGet_r w14 hi (by omega), Option.bind_some, toN_o a1 rfl, Option.bind_some, xR_o (b := stR (t.2.2.1 117 (od i))) a1 rfl rfl, Option.bind_some, xI_o (x := t.2.2.1 110 (od i)) a1 rfl rfl, Option.bind_some, i_suc, flen_suc]
    unfold dnB
    by_cases y1 : t.2.2.1 117 (od i) = 2
    · rw [if_pos (by rw [hst.1.mpr y1])]
      rcases hv with rfl | hv
      · simp [y1]
      · have hne : ¬ v = -1 := fun z => hv (by rw [z]; decide)
        rw [if_neg hne]
        by_cases y3 : t.2.2.1 110 (od i) = v
        · simp [y1, y3, hv]
        · simp [y1, y3, hv]
    · have hne : ¬ some (stR (t.2.2.1 117 (od i))) = some 33 := fun z => y1 (hst.1.mp (Option.some.inj z))
      have hns : nst s (vR (some (stR (t.2.2.1 117 (od i))))) = true := by
        show nst s (.ref (stR (t.2.2.1 117 (od i)))) = true
        unfold nst
        unfold stR
        rw [if_neg y1]
        by_cases y2 : t.2.2.1 117 (od i) = 1
        · rw [if_pos y2]; simp only [k7.2.1]; rfl
        · rw [if_neg y2]; simp only [k7.2.2.1]; rfl
      rw [if_neg hne, if_pos hns, Option.bind_some]
      simp [y1]
  · rintro _ rfl
    refine ⟨_, ?_, rfl⟩
    dsimp only
    rw [xN_o (b := 161) q0 rfl rfl, Option.bind_some, if_pos (isK_t w14 rfl), alSize_r w14, Option.bind_some, if_neg (by rw [i_lt (by omega) (by omega)]; omega)]
theorem t_in2 (v1 n v2 m : Int32) (t : TS) : Option.bind (t_560 v1 n t) (fun x1 => (if x1 = 0 then some 0 else Option.bind (t_560 v2 m t) (fun x2 => (if x2 = 0 then some (0 : Int32) else some 1)))) = some (if (inB v1 n && inB v2 m) = true then 1 else 0) := by
  rw [isInB, Option.bind_some, isInB]
  cases inB v1 n <;> cases inB v2 m <;> simp
theorem wa_event (hw : wfS s) (r : R7 (rs s.1 own 7) t) (v1 v2 : Int32) : Res (fun X => X = 7) 7 (fun H t => R7 (H 7) t) own s t 0 0 (c_513 151 v1 v2 s) (t_631 v1 v2 t) := by
  have r00 := r
  obtain ⟨np, sz, mx, zm, am, rl, nr, na, ec, P, Z, ZP, A, RW, od, r⟩ := r
  have q := R7_raw r
  have q0 := q.1.1
  obtain ⟨⟨f1, e1, e1'⟩, ⟨f2, e2, e2'⟩, ⟨f3, e3, e3v, e3'⟩, e4, e5⟩ := q.2.2.2.2.2
  have hnw : bN (t.1 301) ≤ 6000 := now_le q.1
  unfold c_513 t_631
  rw [xI_o (x := Int32.ofNat ec) q0 rfl rfl, Option.bind_some, e4, bindA (t_in2 v1 (Int32.ofNat (min ec 60)) v2 3 t)]
  have ev : (if v1 < 0 then some (0 : Int32) else (if v1 < Int32.ofNat ec then (if v1 < 60 then (if v2 < 0 then some 0 else (if 2 < v2 then some 0 else some 1)) else some 0) else some 0)) = some (if (inB v1 (Int32.ofNat (min ec 60)) && inB v2 3) = true then 1 else 0) := by
    rw [show (2 : Int32) = Int32.ofNat 2 from rfl, orLe (by omega), show Int32.ofNat (2 + 1) = 3 from rfl]
    by_cases y1 : v1 < 0
    · simp [y1, inB]
    · obtain ⟨k, hk, rfl⟩ := i_of y1
      rw [if_neg y1]
      by_cases y2 : k < min ec 60
      · rw [if_pos ((i_lt hk (by omega)).mpr (by omega)), if_pos ((i_ltL hk (by omega)).mpr (by omega)), inB_of y2 (by omega)]; simp
      · rw [inB_not (by omega) hk (by omega)]
        by_cases y3 : k < ec
        · rw [if_pos ((i_lt hk (by omega)).mpr y3), if_neg (by rw [i_ltL hk (by omega)]; omega)]; simp
        · rw [if_neg (by rw [i_lt hk (by omega)]; omega)]; simp
  rw [ev, Option.bind_some, need_eq, goes_eq]
  cases hv : (inB v1 (Int32.ofNat (min ec 60)) && inB v2 3) with
  | false => exact Res.arg (x := 0) (by simp) (by simp [ptI])
  | true =>
    rw [Bool.and_eq_true] at hv
    obtain ⟨k, hk, rfl⟩ := inB_nat (min ec 60) (by omega) hv.1
    have hb : ¬ t.1 1 = 0 := fun y => by have := (q.1.2.2.2 y).1; omega
    simp only [if_true, show ¬ (1 : Int32) = 0 by decide, if_false, hb, or_self, Option.bind_some, Sum.elim_inl]
    have hm : (Int32.ofNat ec - 1 - Int32.ofNat k) - (Int32.ofNat ec - 1 - Int32.ofNat k) / (60 : Int32) * (60 : Int32) = Int32.ofNat ((ec - 1 - k) % 60) := by
      rw [i_subL (by omega), i_sub (by omega), i_modL (by omega) (by omega)]
    have ht : t_803 (Int32.ofNat k) v2 (ptI t 0 0) = some (if v2 = 0 then t.2.2.1 121 (min ec 60 - 1 - k) else if v2 = 1 then t.2.2.1 122 (min ec 60 - 1 - k) else t.2.2.1 123 (min ec 60 - 1 - k)) := by
      unfold t_803
      rw [show (ptI t 0 0).1 330 = Int32.ofNat (min ec 60) from e4, i_subL (by omega), i_sub (by omega), rdI_n (by omega) (by omega), rdI_n (by omega) (by omega), rdI_n (by omega) (by omega), Option.bind_some, Option.bind_some, Option.bind_some]
      simp only [iteS]; rfl
    have hmod : (ec - 1 - k) % 60 < 60 := Nat.mod_lt _ (by omega)
    rw [ht, Option.bind_some, xI_o (x := Int32.ofNat ec) q0 rfl rfl, Option.bind_some, hm, xN_o (b := 158) q0 rfl rfl, Option.bind_some, aI_r (x := f1 ((ec - 1 - k) % 60)) e1 (by omega) rfl hmod (by omega) rfl, Option.bind_some, xN_o (b := 159) q0 rfl rfl, Option.bind_some, aI_r (x := f2 ((ec - 1 - k) % 60)) e2 (by omega) rfl hmod (by omega) rfl, Option.bind_some, xN_o (b := 160) q0 rfl rfl, Option.bind_some, aI_r (x := f3 ((ec - 1 - k) % 60)) e3 (by omega) rfl hmod (by omega) rfl, Option.bind_some, e1' k (by omega) (by omega), e2' k (by omega) (by omega)]
    have e3k : (if f3 ((ec - 1 - k) % 60) = 0 then some (Sum.inl (β := Nat × CS) ((0 : Int32), s)) else some (.inl (1, s))) = some (.inl (t.2.2.1 123 (min ec 60 - 1 - k), s)) := by
      rw [← e3' k (by omega) (by omega)]
      rcases e3v ((ec - 1 - k) % 60) with y | y
      · rw [y]; rfl
      · rw [y]; rfl
    rw [e3k]
    have fin : ∀ x : Int32, Res (fun X => X = 7) 7 (fun H t => R7 (H 7) t) own s t 0 0 (some (.inl (x, s))) (some (x, ptI t 0 0)) := fun x => Res.same (x := x) hw rfl rfl (R7_pt r00)
    by_cases y0 : v2 = 0
    · rw [if_pos y0, if_pos y0]; exact fin _
    · rw [if_neg y0, if_neg y0]
      by_cases y1 : v2 = 1
      · rw [if_pos y1, if_pos y1]; exact fin _
      · rw [if_neg y1, if_neg y1]; exact fin _
end
