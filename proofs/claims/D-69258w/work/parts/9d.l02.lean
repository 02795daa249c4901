/-! maps of numbers: their keys -/
theorem mp_keys {es : List (Value × Value)} {n : Nat} {P : Nat → Prop} {dP : ∀ c, Decidable (P c)} {f : Nat → Value} (hm : Mp rkI es (fun z => if 0 ≤ z ∧ z < (n : Int) ∧ P z.toNat then some (f z.toNat) else none)) : es.map (fun e => (rkI e.1).toNat) = (List.range n).filter (fun c => decide (P c)) := by
  have hk : ∀ e ∈ es, 0 ≤ rkI e.1 ∧ rkI e.1 < n ∧ P (rkI e.1).toNat := by
    intro e he
    have := hm.2.1 e he
    by_cases z : 0 ≤ rkI e.1 ∧ rkI e.1 < (n : Int) ∧ P (rkI e.1).toNat
    · exact z
    · simp only [if_neg z] at this; cases this
  refine sorted_ext ?_ (List.Pairwise.sublist List.filter_sublist (range_sorted n)) (fun x => ?_)
  · rw [List.pairwise_map]
    refine List.Pairwise.imp_of_mem ?_ hm.1
    intro a b ha hb hab
    have h1 := hk a ha
    have h2 := hk b hb
    omega
  · rw [List.mem_map, List.mem_filter, List.mem_range, decide_eq_true_eq]
    constructor
    · rintro ⟨e, he, rfl⟩
      obtain ⟨h1, h2, h3⟩ := hk e he
      exact ⟨by omega, h3⟩
    · rintro ⟨h1, h2⟩
      have hz : (fun z : Int => if 0 ≤ z ∧ z < (n : Int) ∧ P z.toNat then some (f z.toNat) else none) (x : Int) = some (f x) := by
        simp only [Int.toNat_natCast]
        exact if_pos ⟨by omega, by omega, h2⟩
      obtain ⟨e, he, hr⟩ := hm.2.2 x _ hz
      exact ⟨e, he, by rw [hr]; simp⟩
theorem mp_len {es : List (Value × Value)} {n : Nat} {P : Nat → Prop} {dP : ∀ c, Decidable (P c)} {f : Nat → Value} (hm : Mp rkI es (fun z => if 0 ≤ z ∧ z < (n : Int) ∧ P z.toNat then some (f z.toNat) else none)) : es.length = ((List.range n).filter (fun c => decide (P c))).length := by
  rw [← mp_keys (dP := dP) hm, List.length_map]
theorem mp_get {s : CS} {a n : Nat} {mc : Int32} {es : List (Value × Value)} {P : Nat → Prop} {dP : ∀ c, Decidable (P c)} {f : Nat → Value} (h : s.1 a = some (true, false, 1042, .int mc :: fl es)) (hm : Mp rkI es (fun z => if 0 ≤ z ∧ z < (n : Int) ∧ P z.toNat then some (f z.toNat) else none)) (hi : ∀ x ∈ es.map Prod.fst, ∃ i, x = .int i) (v : Int32) : tmGet s a (.int v) = some (if 0 ≤ v.toInt ∧ v.toInt < (n : Int) ∧ P v.toNatClampNeg then f v.toNatClampNeg else .null) := by
  rw [tm_get (k := .int v) h (KOk_int (fun x hx => by
    rcases List.mem_cons.mp hx with rfl | hx
    · exact ⟨v, rfl⟩
    · exact hi x hx)) hm]
  show some ((if 0 ≤ v.toInt ∧ v.toInt < (n : Int) ∧ P v.toInt.toNat then some (f v.toInt.toNat) else none).getD .null) = _
  rw [show v.toNatClampNeg = v.toInt.toNat from rfl]
  split <;> rfl
/-! the lifts: what was made -/
theorem i_0le {v : Int32} : 0 ≤ v.toInt ↔ ¬ v < 0 := by
  rw [Int32.lt_iff_toInt_lt]
  have : (0 : Int32).toInt = 0 := rfl
  omega
theorem li_given {own : Nat → Nat} {s : CS} {t : TS} (hw : wfS s) (r : R8 (rs s.1 own 8) t) (v1 v2 : Int32) : Rg thr0 (fun X => X = 8) 8 (fun H t => R8 (H 8) t) own s t 1 1 (c_535 162 v1 v2 s) (t_659 v1 v2 t) := by
  have r0 := r
  obtain ⟨nc, nk, C, D, M, b, r⟩ := r
  have r2 := r
  obtain ⟨⟨nw, hm, lst, p1⟩, _, _, _, _, _, p7, p8, p9, p10, _, p12, _, p14, _, _, _, _, _, ⟨mm, em, m1, m2, m3, m4, m5, m6⟩⟩ := r2
  have h1 := (rs_in p1).1
  have h2 := (rs_in m1).1
  have k49 : isK s [49] 162 = true := isK_t h1 rfl
  unfold c_535 t_659
  rw [if_pos k49, isInB, isInB, p9]
  unfold c_536
  rw [xI_o h1 rfl rfl]
  simp only [Option.bind_some]
  rw [p9, orB]
  have e3 : (if v2 < 0 then some (0 : Int32) else if 3 < v2 then some 0 else some 1) = some (if inB v2 4 = true then 1 else 0) := by
    have e1 : ((3 : Int32) < v2) = ¬ (v2 < 4) := propext (i_gt (a := 3) (by omega) v2)
    unfold inB
    by_cases h1 : v2 < 0
    · simp [h1]
    · by_cases h2 : v2 < 4
      · simp [h1, h2, e1]
      · simp [h1, h2, e1]
  rw [e3]
  cases hr : inB v1 (Int32.ofNat nk) with
  | true =>
    obtain ⟨c, hc, rfl⟩ := inB_nat nk (by omega) hr
    have hb : ¬ t.1 1 = 0 := p12 (Or.inr (by omega))
    have hcl : (Int32.ofNat c).toNatClampNeg = c := i_clamp (by omega)
    have h2c : (chg s 1 1).1 169 = some (true, false, 1042, .int mm :: fl em) := h2
    have eg : tmGet (chg s 1 1) 169 (.int (Int32.ofNat c)) = some (if ¬ t.2.2.1 172 c = -1 then .ref (M c) else .null) := by
      rw [mp_get (P := fun c => ¬ t.2.2.1 172 c = -1) (f := fun c => .ref (M c)) h2c m2 m3, hcl]
      have hz : (0 ≤ (Int32.ofNat c).toInt ∧ (Int32.ofNat c).toInt < (nk : Int) ∧ ¬ t.2.2.1 172 c = -1) ↔ ¬ t.2.2.1 172 c = -1 := by
        rw [i_toInt (by omega)]
        constructor
        · exact fun z => z.2.2
        · exact fun z => ⟨by omega, by omega, z⟩
      simp only [hz]
    have rR : R8 (rs (chg s 1 1).1 own 8) (ptI t 0 0) := r0
    rw [if_pos rfl, Option.bind_some, need_eq, if_neg (by decide), Option.bind_some, Sum.elim_inl, xN_o h1 rfl rfl, Option.bind_some, if_pos (isK_t h2c rfl), eg, Option.bind_some]
    cases hr2 : inB v2 4 with
    | true =>
      obtain ⟨w, hw2, rfl⟩ := inB_nat 4 (by omega) hr2
      have hw4 : w = 0 ∨ w = 1 ∨ w = 2 ∨ w = 3 := by omega
      simp only [if_true, Option.bind_some, goes_eq, hb, show ¬ (1 : Int32) = 0 by decide, if_false, or_self, need_eq, Sum.elim_inl]
      unfold t_864
      by_cases hz : t.2.2.1 172 c = -1
      · refine Or.inl ⟨-1, chg s 1 1, ptI t 0 0, own, ?_, ?_, rfl, fun Z _ h9 => ptI_rt h9, frm_chg hw, rR, Nat.le_refl _, Nat.le_refl _⟩
        · rw [if_neg (fun z => z hz)]; rfl
        · rw [rdI_n (by omega) (by omega), Option.bind_some, show (ptI t 0 0).2.2.1 172 c = -1 from hz, if_pos (by decide)]; rfl
      · obtain ⟨y1, y2, k, y3, y4⟩ := m5 c hc hz
        have h5 : (chg s 1 1).1 (M c) = some (toC t c) := (rs_in y2).1
        have et : toR (chg s 1 1) [99] (.ref (M c)) = some (some (M c)) := by
          unfold toR; simp only [isK_t (tab := [99]) h5 rfl, if_true]
        have hneg : ¬ t.2.2.1 172 c < 0 := by rw [y4]; exact i_nlt0 (by omega)
        rw [if_pos hz, et]
        have hn2 : ¬ (ptI t 0 0).2.2.1 172 c < 0 := hneg
        rcases hw4 with rfl | rfl | rfl | rfl
        · refine Rg.same (x := t.2.2.1 172 c) (a := 1) (b := 1) hw rR ?_ ?_ (by omega) (by omega)
          · rw [Option.bind_some, Option.bind_some, Sum.elim_inl]
            dsimp only
            rw [if_neg (by simp), if_pos (by decide), Option.bind_some, xI_o h5 rfl rfl]; rfl
          · rw [rdI_n (by omega) (by omega), Option.bind_some, if_neg hn2, if_pos (by decide)]; rfl
        · refine Rg.same (x := t.2.2.1 173 c) (a := 1) (b := 1) hw rR ?_ ?_ (by omega) (by omega)
          · rw [Option.bind_some, Option.bind_some, Sum.elim_inl]
            dsimp only
            rw [if_neg (by simp), if_neg (by decide), if_pos (by decide), Option.bind_some, xI_o h5 rfl rfl]; rfl
          · rw [rdI_n (by omega) (by omega), Option.bind_some, if_neg hn2, if_neg (by decide), if_pos (by decide), rdI_n (by omega) (by omega)]; rfl
        · refine Rg.same (x := t.2.2.1 174 c) (a := 1) (b := 1) hw rR ?_ ?_ (by omega) (by omega)
          · rw [Option.bind_some, Option.bind_some, Sum.elim_inl]
            dsimp only
            rw [if_neg (by simp), if_neg (by decide), if_neg (by decide), if_pos (by decide), Option.bind_some, xI_o h5 rfl rfl]; rfl
          · rw [rdI_n (by omega) (by omega), Option.bind_some, if_neg hn2, if_neg (by decide), if_neg (by decide), if_pos (by decide), rdI_n (by omega) (by omega)]; rfl
        · refine Rg.same (x := t.2.2.1 175 c) (a := 1) (b := 1) hw rR ?_ ?_ (by omega) (by omega)
          · rw [Option.bind_some, Option.bind_some, Sum.elim_inl]
            dsimp only
            rw [if_neg (by simp), if_neg (by decide), if_neg (by decide), if_neg (by decide), Option.bind_some, xI_o h5 rfl rfl]; rfl
          · rw [rdI_n (by omega) (by omega), Option.bind_some, if_neg hn2, if_neg (by decide), if_neg (by decide), if_neg (by decide), rdI_n (by omega) (by omega)]; rfl
    | false =>
      refine Rg.arg (x := 0) (a := 1) (b := 1) hw r0 ?_ ?_ (by omega) (by omega)
      · by_cases hz : t.2.2.1 172 c = -1
        · rw [if_neg (fun z => z hz)]
          simp [toR, need_eq]; rfl
        · obtain ⟨y1, y2, k, y3, y4⟩ := m5 c hc hz
          have h5 : (chg s 1 1).1 (M c) = some (toC t c) := (rs_in y2).1
          rw [if_pos hz]
          simp [toR, isK_t (tab := [99]) h5 rfl, need_eq]; rfl
      · simp [goes_eq, ptI]
  | false =>
    refine Rg.arg (x := 0) (a := 0) (b := 0) hw r0 ?_ ?_ (by omega) (by omega)
    · simp [need_eq]; rfl
    · simp [goes_eq, ptI]
