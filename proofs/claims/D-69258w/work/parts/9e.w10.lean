/-! the warden: attend -/
def attB (t : TS) (v : Int32) (a : Nat) : Bool := decide (t.2.2.1 109 a = 1) && decide (t.2.2.1 117 a = 1) && decide ((if v = 0 then t.2.2.1 119 a else t.2.2.1 120 a) = 0)
/-- the reference after acts below n were attended to -/
def attT (t : TS) (v : Int32) (n : Nat) : TS := (t.1, t.2.1, fun c a => if a < n ∧ attB t v a = true then (if v = 0 then (if c = 118 then t.1 301 else if c = 119 then 1 else t.2.2.1 c a) else if c = 120 then 1 else t.2.2.1 c a) else t.2.2.1 c a, t.2.2.2)
theorem attT_at (t : TS) (v : Int32) (n c a : Nat) : (attT t v n).2.2.1 c a = if a < n ∧ attB t v a = true then (if v = 0 then (if c = 118 then t.1 301 else if c = 119 then 1 else t.2.2.1 c a) else if c = 120 then 1 else t.2.2.1 c a) else t.2.2.1 c a := rfl
theorem attT_o {t : TS} {v : Int32} {n c : Nat} (h : ¬ (118 ≤ c ∧ c ≤ 120)) : (attT t v n).2.2.1 c = t.2.2.1 c := by
  funext a
  rw [attT_at]
  split
  · split
    · rw [if_neg (by omega), if_neg (by omega)]
    · rw [if_neg (by omega)]
  · rfl
theorem attT_n {t : TS} {v : Int32} {n c : Nat} : (attT t v n).2.2.1 c n = t.2.2.1 c n := by
  rw [attT_at, if_neg (by omega)]
def attC (t : TS) (v : Int32) (n : Nat) : Nat := ((List.range n).filter (attB t v)).length
theorem t_attend {t : TS} {v : Int32} (hv : v = 0 ∨ v = 1) (h109 : ∀ a, a < 20 → v01 (t.2.2.1 109 a)) : t_792 v t = some (Int32.ofNat (attC t v 20), attT t v 20) := by
  suffices g : Tr (t_792 v t) (fun x => x = (Int32.ofNat (attC t v 20), attT t v 20)) by
    obtain ⟨x, h1, h2⟩ := g
    rw [h1, h2]
  unfold t_792
  have h0 : attT t v 0 = t := by
    refine Prod.ext rfl (Prod.ext rfl (Prod.ext ?_ rfl))
    funext c a
    rw [attT_at, if_neg (fun z => Nat.not_lt_zero _ z.1)]
  refine Tr.bd (P := fun x => x = (attT t v 20, Int32.ofNat (attC t v 20))) (wh_cnt 20 (fun i st => st = (attT t v i, Int32.ofNat (attC t v i), Int32.ofNat i)) ?_ ?_ (by rw [h0]; rfl)) ?_
  · rintro i _ hi rfl
    refine Or.inr ⟨_, ?_, rfl⟩
    dsimp only
    rw [if_pos ((i_ltL (by omega) (by omega)).mpr hi), rdI_n (by omega) (by omega), Option.bind_some, rdI_n hi (by omega), Option.bind_some, rdI_n hi (by omega), Option.bind_some, rdI_n hi (by omega), Option.bind_some, attT_n, attT_n, attT_n, attT_n, i_suc]
    have e34 : (if t.2.2.1 109 i = 0 then some (0 : Int32) else (if t.2.2.1 117 i = 1 then (if v = 0 then (if t.2.2.1 119 i = 0 then some 1 else some 0) else (if t.2.2.1 120 i = 0 then some 1 else some 0)) else some 0)) = some (if attB t v i = true then 1 else 0) := by
      unfold attB
      rcases h109 i hi with y | y
      · rw [y]; simp
      · rw [y]
        by_cases y1 : t.2.2.1 117 i = 1
        · by_cases y2 : v = 0
          · by_cases y3 : t.2.2.1 119 i = 0 <;> simp [y1, y2, y3]
          · by_cases y3 : t.2.2.1 120 i = 0 <;> simp [y1, y2, y3]
        · simp [y1]
    rw [e34, Option.bind_some]
    unfold attC
    rw [flen_suc]
    cases hB : attB t v i with
    | false =>
      have e : attT t v (i + 1) = attT t v i := by
        refine Prod.ext rfl (Prod.ext rfl (Prod.ext ?_ rfl))
        funext c a
        rw [attT_at, attT_at]
        by_cases y : a = i
        · subst y; rw [hB]; simp
        · have : (a < i + 1 ∧ attB t v a = true) ↔ (a < i ∧ attB t v a = true) := ⟨fun z => ⟨by omega, z.2⟩, fun z => ⟨by omega, z.2⟩⟩
          simp only [this]
      rw [e]
      simp
    | true =>
      rcases hv with rfl | rfl
      · have e : wrI (wrI (attT t 0 i) 118 i ((attT t 0 i).1 301)) 119 i ((1 : Int32) &&& 1) = attT t 0 (i + 1) := by
          refine Prod.ext rfl (Prod.ext rfl (Prod.ext ?_ rfl))
          funext c a
          rw [wr_at, wr_at, attT_at, attT_at]
          by_cases y : a = i
          · subst y
            rw [if_pos (show a < a + 1 ∧ attB t 0 a = true from ⟨by omega, hB⟩), if_neg (show ¬ (a < a ∧ attB t 0 a = true) by omega), if_pos rfl]
            by_cases y1 : c = 119
            · subst y1; simp
            · by_cases y2 : c = 118
              · subst y2; simp; rfl
              · simp [y1, y2]
          · have : (a < i + 1 ∧ attB t 0 a = true) ↔ (a < i ∧ attB t 0 a = true) := ⟨fun z => ⟨by omega, z.2⟩, fun z => ⟨by omega, z.2⟩⟩
            simp only [this, y, and_false, if_false]
        simp only [if_true, show ¬ (1 : Int32) = 0 by decide, if_false, stI_n hi (show 20 < 2147483648 by omega), Option.bind_some, Sum.elim_inr, e, i_suc]
      · have e : wrI (attT t 1 i) 120 i ((1 : Int32) &&& 1) = attT t 1 (i + 1) := by
          refine Prod.ext rfl (Prod.ext rfl (Prod.ext ?_ rfl))
          funext c a
          rw [wr_at, attT_at, attT_at]
          by_cases y : a = i
          · subst y
            rw [if_pos (show a < a + 1 ∧ attB t 1 a = true from ⟨by omega, hB⟩), if_neg (show ¬ (a < a ∧ attB t 1 a = true) by omega), if_neg (show ¬ (1 : Int32) = 0 by decide)]
            by_cases y1 : c = 120
            · subst y1; simp
            · simp [y1]
          · have : (a < i + 1 ∧ attB t 1 a = true) ↔ (a < i ∧ attB t 1 a = true) := ⟨fun z => ⟨by omega, z.2⟩, fun z => ⟨by omega, z.2⟩⟩
            simp only [this, y, and_false, if_false]
        simp only [if_true, show ¬ (1 : Int32) = 0 by decide, if_false, stI_n hi (show 20 < 2147483648 by omega), Option.bind_some, Sum.elim_inl, e, i_suc]
  · rintro _ rfl
    refine ⟨_, ?_, rfl⟩
    dsimp only
    rw [if_neg (by decide)]
  · rintro _ rfl
    exact ⟨_, rfl, rfl⟩
section
variable {own : Nat → Nat} {h : lHeap} {s : CS} {t : TS} {np sz mx zm am rl nr na ec : Nat} {P Z ZP A RW od : Nat → Nat}
theorem okAct_att {v : Int32} {a : Nat} (hok : okAct t a) (hnow : ∃ n, n ≤ 6000 ∧ t.1 301 = Int32.ofNat n) : okAct (attT t v 20) a := by
  obtain ⟨h1, h2, h3, h4, h5, h6, h7, h8⟩ := hok
  unfold okAct
  rw [attT_o (c := 110) (by omega), attT_o (c := 111) (by omega), attT_o (c := 112) (by omega), attT_o (c := 113) (by omega), attT_o (c := 117) (by omega)]
  refine ⟨h1, h2, h3, h4, h5, ?_, ?_, ?_⟩
  · rw [attT_at]
    split
    · split
      · rw [if_pos rfl]
        obtain ⟨n, n1, n2⟩ := hnow
        exact Or.inr ⟨n, by omega, n2⟩
      · rw [if_neg (by omega)]; exact h6
    · exact h6
  · rw [attT_at]
    split
    · split
      · rw [if_neg (by omega), if_pos rfl]; exact Or.inr rfl
      · rw [if_neg (by omega)]; exact h7
    · exact h7
  · rw [attT_at]
    split
    · split
      · rw [if_neg (by omega), if_neg (by omega)]; exact h8
      · rw [if_pos rfl]; exact Or.inr rfl
    · exact h8
/-- the told acts in their order -/
def tolL (t : TS) : List Nat := (List.range 20).filter (fun a => decide (t.2.2.1 109 a = 1))
theorem tolL_mem {a : Nat} : a ∈ tolL t ↔ a < 20 ∧ t.2.2.1 109 a = 1 := by
  unfold tolL
  rw [List.mem_filter, List.mem_range, decide_eq_true_eq]
theorem c_attend (hw : wfS s) (k7 : K7 s.1) (q : R7x (rs s.1 own 7) t np sz mx zm am rl nr na ec P Z ZP A RW od) {v : Int32} (hv : v = 0 ∨ v = 1) (hb : ¬ t.1 1 = 0) (hcnt : s.2.2.1 < 3999000000) : ∃ S, c_502 151 v s = some (.inl (Int32.ofNat (attC t v 20), S)) ∧ Frm (fun X => X = 7) own own s S ∧ R7x (rs S.1 own 7) (attT t v 20) np sz mx zm am rl nr na ec P Z ZP A RW od ∧ S.2.2.1 = s.2.2.1 + 2 ∧ S.2.2.2 = s.2.2.2 + 5 := by
  have qr := R7_raw q
  have q0 := qr.1.1
  obtain ⟨w1, _, _, ⟨mz, ez, w3, w4, w5⟩, _⟩ := qr.2.2.2.1
  have w4a := qr.2.2.2.2.1
  have hkeys := mp_keys (P := fun c => t.2.2.1 109 c = 1) (f := fun c => .ref (A c)) w4
  have hlen : ez.length = (tolL t).length := by unfold tolL; rw [← hkeys, List.length_map]
  have hel : ∀ i (hi : i < ez.length) (hi2 : i < (tolL t).length), ez[i].2 = Value.ref (A (tolL t)[i]) := by
    intro i hi hi2
    have e1 := w4.2.1 ez[i] (List.getElem_mem hi)
    have e2 : (tolL t)[i] = (rkI ez[i].1).toNat := by
      have : ∀ (l m : List Nat) (h : l = m) (hl : i < l.length) (hm : i < m.length), l[i] = m[i] := by
        intro l m h hl hm; subst h; rfl
      unfold tolL at hi2 ⊢
      rw [this _ _ hkeys.symm hi2 (by rw [List.length_map]; exact hi), List.getElem_map]
    rw [e2]
    dsimp only at e1
    split at e1
    · exact (Option.some.inj e1).symm
    · cases e1
  have hnd : (tolL t).Pairwise (· < ·) := List.pairwise_lt_range.sublist List.filter_sublist
  -- the loop
  have loop : ∃ x, (wh (S := CS × Int32 × Nat) (X := CS × Int32) (fun p20 => Option.bind (α := Int32) (tmIHas p20.1 am mz p20.2.2) (fun x10 => (if x10 = 0 then some (.inr (p20.1, p20.2.1)) else Option.bind (α := Value) (tmNxV p20.1 am mz p20.2.2) (fun e11 => Option.bind (α := Nat) (toN p20.1 [91] e11) (fun a12 => Option.bind (α := Option Nat) (xR p20.1 [(91, 5)] a12) (fun r13 => Option.bind (α := CS × Int32) ((if r13 = some 59 then Option.bind (α := Sum (Unit) (CS × Int32)) ((if v = 0 then Option.bind (α := Int32) (xI p20.1 [(91, 7)] a12) (fun x15 => (if x15 = 0 then some (.inl ()) else some (.inr (p20.1, p20.2.1)))) else Option.bind (α := Int32) (xI p20.1 [(91, 8)] a12) (fun x14 => (if x14 = 0 then some (.inl ()) else some (.inr (p20.1, p20.2.1)))))) (Sum.elim (fun v40 => Option.bind (α := Int32) ((if v = 0 then Option.bind (α := Int32) (xI p20.1 [(47, 8)] 151) (fun x17 => some x17) else Option.bind (α := Int32) (xI p20.1 [(91, 6)] a12) (fun x16 => some x16))) (fun v48 => Option.bind (α := CS) (xP p20.1 [(91, 6)] a12 (.int v48)) (fun s18 => Option.bind (α := Int32) (xI s18 [(91, 7)] a12) (fun x19 => Option.bind (α := Int32) ((if v = 0 then some 1 else some 0)) (fun v57 => (if fits .boolean (.int (x19 ||| v57)) = true then Option.bind (α := CS) (xP s18 [(91, 7)] a12 (.int (x19 ||| v57))) (fun s20 => Option.bind (α := Int32) (xI s20 [(91, 8)] a12) (fun x21 => Option.bind (α := Int32) ((if v = 1 then some 1 else some 0)) (fun v68 => (if fits .boolean (.int (x21 ||| v68)) = true then Option.bind (α := CS) (xP s20 [(91, 8)] a12 (.int (x21 ||| v68))) (fun s22 => some (s22, p20.2.1 + 1)) else none)))) else none)))))) (fun z => some z)) else (if nst p20.1 (vR r13) = true then some (p20.1, p20.2.1) else none))) (fun v71 => some (.inl (v71.1, v71.2, p20.2.2 + 1))))))))) (chg (chg s 1 1) 1 4, 0, 0)) = some x ∧ x.2 = Int32.ofNat (((tolL t).filter (attB t v)).length) ∧ (∀ a ∈ tolL t, x.1.1 (A a) = some (actC (attT t v 20) a)) ∧ (∀ q, (∀ a ∈ tolL t, q ≠ A a) → x.1.1 q = s.1 q) ∧ x.1.2 = (s.2.1, s.2.2.1 + 2, s.2.2.2 + 5) ∧ wfS x.1 := by
    refine wh_cnt ez.length (fun i (st : CS × Int32 × Nat) => st.2 = (Int32.ofNat ((((tolL t).take i).filter (attB t v)).length), i) ∧ (∀ j (hj : j < (tolL t).length), st.1.1 (A (tolL t)[j]) = some (actC (if j < i then attT t v 20 else t) (tolL t)[j])) ∧ (∀ q, (∀ a ∈ tolL t, q ≠ A a) → st.1.1 q = s.1 q) ∧ st.1.2 = (s.2.1, s.2.2.1 + 2, s.2.2.2 + 5) ∧ wfS st.1) ?_ ?_ ⟨rfl, fun j hj => ?_, fun _ _ => rfl, rfl, hw⟩
    · rintro i ⟨S, cnt, q'⟩ hi ⟨hq, x1, x2, x3, x4⟩
      dsimp only at hq x1 x2 x3 x4 ⊢
      obtain ⟨rfl, rfl⟩ := Prod.mk.inj hq
      have hi2 : q' < (tolL t).length := by omega
      have hm := tolL_mem.mp (List.getElem_mem hi2)
      obtain ⟨a1, a2, a3⟩ := w4a.1 _ hm.1 hm.2
      have cS := x1 q' hi2
      rw [if_neg (Nat.lt_irrefl _)] at cS
      have c151 : S.1 151 = _ := (x2 151 (fun b hb => by have := (w4a.1 b (tolL_mem.mp hb).1 (tolL_mem.mp hb).2).2.1; omega)).trans q0
      have cam : S.1 am = _ := (x2 am (fun b hb => apart w3 (w4a.1 b (tolL_mem.mp hb).1 (tolL_mem.mp hb).2).1 (by show (1042 : Nat) ≠ 91; omega))).trans w3
      have hc4 : S.2.2.1 < 4000000000 := by rw [x3]; show s.2.2.1 + 2 < _; omega
      have hst := st_of a3
      have cst : ∀ id, id = 33 ∨ id = 59 ∨ id = 60 → S.1 id = s.1 id := fun id hid => x2 id (fun b hb => by have := (w4a.1 b (tolL_mem.mp hb).1 (tolL_mem.mp hb).2).2.1; omega)
      have hns : nst S (vR (some (stR (t.2.2.1 117 (tolL t)[q'])))) = true := by
        show nst S (.ref (stR (t.2.2.1 117 (tolL t)[q']))) = true
        unfold nst stR
        by_cases y1 : t.2.2.1 117 (tolL t)[q'] = 2
        · rw [if_pos y1]; simp only [cst 33 (by omega), k7.1]; rfl
        · rw [if_neg y1]
          by_cases y2 : t.2.2.1 117 (tolL t)[q'] = 1
          · rw [if_pos y2]; simp only [cst 59 (by omega), k7.2.1]; rfl
          · rw [if_neg y2]; simp only [cst 60 (by omega), k7.2.2.1]; rfl
      rw [tmIHas_l cam hc4, Option.bind_some, if_pos hi, if_neg (by decide)]
      unfold tmNxV
      rw [tmVal_l cam hc4 hi, hel q' hi hi2, Option.bind_some, toN_o cS rfl, Option.bind_some, xR_o (b := stR (t.2.2.1 117 (tolL t)[q'])) cS rfl rfl, Option.bind_some, take_flt _ hi2]
      generalize hA : (tolL t)[q'] = a at *
      have hnot : attB t v a = false → actC (attT t v 20) a = actC t a := by
        intro hB
        have e : ∀ c, (attT t v 20).2.2.1 c a = t.2.2.1 c a := fun c => by rw [attT_at, hB]; simp
        unfold actC
        rw [e 110, e 111, e 112, e 113, e 117, e 118, e 119, e 120]
      have keepN : attB t v a = false → ∀ j (hj : j < (tolL t).length), S.1 (A (tolL t)[j]) = some (actC (if j < q' + 1 then attT t v 20 else t) (tolL t)[j]) := by
        intro hB j hj
        by_cases y : j = q'
        · subst y
          rw [if_pos (by omega), hA, hnot hB]; exact cS
        · rw [x1 j hj]
          by_cases y2 : j < q'
          · rw [if_pos y2, if_pos (by omega)]
          · rw [if_neg y2, if_neg (by omega)]
      cases hB : attB t v a with
      | false =>
        rw [show (if (false : Bool) = true then [a] else []) = [] from rfl, List.append_nil]
        refine Or.inr ⟨(S, Int32.ofNat (((tolL t).take q').filter (attB t v)).length, q' + 1), ?_, rfl, keepN hB, x2, x3, x4⟩
        by_cases y1 : t.2.2.1 117 a = 1
        · rw [if_pos (by rw [hst.2.1.mpr y1])]
          have hB' := hB
          unfold attB at hB'
          rw [hm.2, y1] at hB'
          rw [xI_o (x := t.2.2.1 119 a) cS rfl rfl, Option.bind_some, xI_o (x := t.2.2.1 120 a) cS rfl rfl, Option.bind_some]
          rcases hv with rfl | rfl
          · have y3 : ¬ t.2.2.1 119 a = 0 := by simpa using hB'
            rw [if_pos rfl, if_neg y3, Option.bind_some, Sum.elim_inr, Option.bind_some]
          · have y3 : ¬ t.2.2.1 120 a = 0 := by simpa using hB'
            rw [if_neg (by decide), if_neg y3, Option.bind_some, Sum.elim_inr, Option.bind_some]
        · rw [if_neg (fun z => y1 (hst.2.1.mp (Option.some.inj z))), if_pos hns, Option.bind_some]
      | true =>
        rw [show (if (true : Bool) = true then [a] else []) = [a] from rfl, List.length_append]
        have hB' := hB
        unfold attB at hB'
        rw [Bool.and_eq_true, Bool.and_eq_true, decide_eq_true_eq, decide_eq_true_eq, decide_eq_true_eq] at hB'
        obtain ⟨⟨_, y1⟩, y2⟩ := hB'
        obtain ⟨_, _, _, _, _, _, h119, h120⟩ := a3
        have hcell : ∃ S', S' = cup S (A a) (actC (attT t v 20) a) ∧ Option.bind (α := CS × Int32) ((if some (stR (t.2.2.1 117 a)) = some 59 then Option.bind (α := Sum (Unit) (CS × Int32)) ((if v = 0 then Option.bind (α := Int32) (xI S [(91, 7)] (A a)) (fun x15 => (if x15 = 0 then some (.inl ()) else some (.inr (S, Int32.ofNat (((tolL t).take q').filter (attB t v)).length)))) else Option.bind (α := Int32) (xI S [(91, 8)] (A a)) (fun x14 => (if x14 = 0 then some (.inl ()) else some (.inr (S, Int32.ofNat (((tolL t).take q').filter (attB t v)).length)))))) (Sum.elim (fun v40 => Option.bind (α := Int32) ((if v = 0 then Option.bind (α := Int32) (xI S [(47, 8)] 151) (fun x17 => some x17) else Option.bind (α := Int32) (xI S [(91, 6)] (A a)) (fun x16 => some x16))) (fun v48 => Option.bind (α := CS) (xP S [(91, 6)] (A a) (.int v48)) (fun s18 => Option.bind (α := Int32) (xI s18 [(91, 7)] (A a)) (fun x19 => Option.bind (α := Int32) ((if v = 0 then some 1 else some 0)) (fun v57 => (if fits .boolean (.int (x19 ||| v57)) = true then Option.bind (α := CS) (xP s18 [(91, 7)] (A a) (.int (x19 ||| v57))) (fun s20 => Option.bind (α := Int32) (xI s20 [(91, 8)] (A a)) (fun x21 => Option.bind (α := Int32) ((if v = 1 then some 1 else some 0)) (fun v68 => (if fits .boolean (.int (x21 ||| v68)) = true then Option.bind (α := CS) (xP s20 [(91, 8)] (A a) (.int (x21 ||| v68))) (fun s22 => some (s22, Int32.ofNat (((tolL t).take q').filter (attB t v)).length + 1)) else none)))) else none)))))) (fun z => some z)) else (if nst S (vR (some (stR (t.2.2.1 117 a)))) = true then some (S, Int32.ofNat (((tolL t).take q').filter (attB t v)).length) else none))) (fun v71 => some (Sum.inl (β := CS × Int32) (v71.1, v71.2, q' + 1))) = some (.inl (S', Int32.ofNat ((((tolL t).take q').filter (attB t v)).length + 1), q' + 1)) := by
          refine ⟨_, rfl, ?_⟩
          rw [if_pos (by rw [hst.2.1.mpr y1]), xI_o (x := t.2.2.1 119 a) cS rfl rfl, Option.bind_some, xI_o (x := t.2.2.1 120 a) cS rfl rfl, Option.bind_some, xI_o (x := t.1 301) c151 rfl rfl, Option.bind_some, xI_o (x := t.2.2.1 118 a) cS rfl rfl, Option.bind_some]
          have cA : ∀ c, (attT t v 20).2.2.1 c a = if v = 0 then (if c = 118 then t.1 301 else if c = 119 then 1 else t.2.2.1 c a) else if c = 120 then 1 else t.2.2.1 c a := fun c => by rw [attT_at, if_pos ⟨hm.1, hB⟩]
          rcases hv with rfl | rfl
          · rw [if_pos rfl] at y2
            rw [if_pos rfl, if_pos y2, Option.bind_some, Sum.elim_inl, if_pos rfl, Option.bind_some, xP_c (fs' := [.int (Int32.ofNat a), .int (t.2.2.1 110 a), .int (t.2.2.1 111 a), .int (t.2.2.1 112 a), .int (t.2.2.1 113 a), .ref (stR (t.2.2.1 117 a)), .int (t.1 301), .int (t.2.2.1 119 a), .int (t.2.2.1 120 a)]) cS rfl (by simp [actC]) rfl, Option.bind_some, xI_o (x := t.2.2.1 119 a) (cup_eq ..) rfl rfl, Option.bind_some, if_pos rfl, Option.bind_some, y2, show ((0 : Int32) ||| 1) = 1 by decide, if_pos (by decide), xP_c (fs' := [.int (Int32.ofNat a), .int (t.2.2.1 110 a), .int (t.2.2.1 111 a), .int (t.2.2.1 112 a), .int (t.2.2.1 113 a), .ref (stR (t.2.2.1 117 a)), .int (t.1 301), .int 1, .int (t.2.2.1 120 a)]) (cup_eq ..) rfl (by simp) rfl, Option.bind_some, cupU, xI_o (x := t.2.2.1 120 a) (cup_eq ..) rfl rfl, Option.bind_some, if_neg (by decide), Option.bind_some]
            have e0 : t.2.2.1 120 a ||| 0 = t.2.2.1 120 a := by rcases h120 with z | z <;> rw [z] <;> decide
            rw [e0, if_pos (fit01 h120), xP_c (fs' := [.int (Int32.ofNat a), .int (t.2.2.1 110 a), .int (t.2.2.1 111 a), .int (t.2.2.1 112 a), .int (t.2.2.1 113 a), .ref (stR (t.2.2.1 117 a)), .int (t.1 301), .int 1, .int (t.2.2.1 120 a)]) (cup_eq ..) rfl (by simp) rfl, Option.bind_some, cupU, Option.bind_some, i_suc]
            unfold actC
            rw [cA 110, cA 111, cA 112, cA 113, cA 117, cA 118, cA 119, cA 120]
            simp
          · rw [if_neg (by decide)] at y2
            rw [if_neg (by decide), if_pos y2, Option.bind_some, Sum.elim_inl, if_neg (by decide), Option.bind_some, xP_c (fs' := [.int (Int32.ofNat a), .int (t.2.2.1 110 a), .int (t.2.2.1 111 a), .int (t.2.2.1 112 a), .int (t.2.2.1 113 a), .ref (stR (t.2.2.1 117 a)), .int (t.2.2.1 118 a), .int (t.2.2.1 119 a), .int (t.2.2.1 120 a)]) cS rfl (by simp [actC]) rfl, Option.bind_some, xI_o (x := t.2.2.1 119 a) (cup_eq ..) rfl rfl, Option.bind_some, if_neg (by decide), Option.bind_some]
            have e0 : t.2.2.1 119 a ||| 0 = t.2.2.1 119 a := by rcases h119 with z | z <;> rw [z] <;> decide
            rw [e0, if_pos (fit01 h119), xP_c (fs' := [.int (Int32.ofNat a), .int (t.2.2.1 110 a), .int (t.2.2.1 111 a), .int (t.2.2.1 112 a), .int (t.2.2.1 113 a), .ref (stR (t.2.2.1 117 a)), .int (t.2.2.1 118 a), .int (t.2.2.1 119 a), .int (t.2.2.1 120 a)]) (cup_eq ..) rfl (by simp) rfl, Option.bind_some, cupU, xI_o (x := t.2.2.1 120 a) (cup_eq ..) rfl rfl, Option.bind_some, if_pos rfl, Option.bind_some, y2, show ((0 : Int32) ||| 1) = 1 by decide, if_pos (by decide), xP_c (fs' := [.int (Int32.ofNat a), .int (t.2.2.1 110 a), .int (t.2.2.1 111 a), .int (t.2.2.1 112 a), .int (t.2.2.1 113 a), .ref (stR (t.2.2.1 117 a)), .int (t.2.2.1 118 a), .int (t.2.2.1 119 a), .int 1]) (cup_eq ..) rfl (by simp) rfl, Option.bind_some, cupU, Option.bind_some, i_suc]
            unfold actC
            rw [cA 110, cA 111, cA 112, cA 113, cA 117, cA 118, cA 119, cA 120]
            simp
        obtain ⟨S', hS', hstep⟩ := hcell
        have lA := wf_lt x4 cS
        refine Or.inr ⟨(S', Int32.ofNat ((((tolL t).take q').filter (attB t v)).length + 1), q' + 1), hstep, rfl, fun j hj => ?_, fun p hp => ?_, by rw [hS']; exact x3, by rw [hS']; exact wf_cup x4 lA⟩
        · dsimp only
          rw [hS']
          by_cases y : j = q'
          · subst y
            rw [if_pos (by omega), hA, cup_eq]
          · have hne : A (tolL t)[j] ≠ A a := by
              intro z
              have hmj := tolL_mem.mp (List.getElem_mem hj)
              have e := w4a.2 _ _ hmj.1 hm.1 hmj.2 hm.2 z
              rw [← hA] at e
              have hpw := List.pairwise_iff_getElem.mp hnd
              rcases Nat.lt_or_gt_of_ne y with z2 | z2
              · have := hpw j q' hj hi2 z2; omega
              · have := hpw q' j hi2 hj z2; omega
            rw [cup_ne hne, x1 j hj]
            by_cases y2 : j < q'
            · rw [if_pos y2, if_pos (by omega)]
            · rw [if_neg y2, if_neg (by omega)]
        · dsimp only
          rw [hS', cup_ne (hp a (by rw [← hA]; exact List.getElem_mem hi2))]; exact x2 p hp
    · rintro ⟨S, cnt, q'⟩ ⟨hq, x1, x2, x3, x4⟩
      dsimp only at hq x1 x2 x3 x4 ⊢
      obtain ⟨rfl, rfl⟩ := Prod.mk.inj hq
      have cam : S.1 am = _ := (x2 am (fun b hb => apart w3 (w4a.1 b (tolL_mem.mp hb).1 (tolL_mem.mp hb).2).1 (by show (1042 : Nat) ≠ 91; omega))).trans w3
      refine ⟨_, by rw [tmIHas_l cam (by rw [x3]; show s.2.2.1 + 2 < _; omega), Option.bind_some, if_neg (Nat.lt_irrefl _), if_pos rfl], ?_, fun a ha => ?_, x2, x3, x4⟩
      · dsimp only
        rw [List.take_of_length_le (by omega)]
      · obtain ⟨j, hj, rfl⟩ := List.getElem_of_mem ha
        have := x1 j hj
        rw [if_pos (by omega)] at this
        exact this
    · rw [if_neg (Nat.not_lt_zero _)]
      have hmj := tolL_mem.mp (List.getElem_mem hj)
      exact (w4a.1 _ hmj.1 hmj.2).1
  obtain ⟨⟨S, n⟩, eL, x1, x2, x3, x4, x5⟩ := loop
  dsimp only at x1 x2 x3 x4 x5
  have hcount : ((tolL t).filter (attB t v)).length = attC t v 20 := by
    unfold tolL attC
    rw [List.filter_filter]
    congr 2
    funext a
    unfold attB
    cases decide (t.2.2.1 109 a = 1) <;> simp
  refine ⟨S, ?_, ?_, ?_, by rw [x4], by rw [x4]⟩
  · unfold c_502
    have e8 : (if v = 0 then some (1 : Int32) else if v = 1 then some 1 else some 0) = some 1 := by
      rcases hv with rfl | rfl <;> rfl
    rw [e8, Option.bind_some, need_eq, if_neg (by decide), Option.bind_some, Sum.elim_inl, xI_o (x := t.1 1) q0 rfl rfl, Option.bind_some, may_eq, if_neg hb, Option.bind_some, Sum.elim_inl, xN_o (b := mx) q0 rfl rfl, Option.bind_some, xN_o (b := am) w1 rfl rfl, Option.bind_some, if_pos (isK_t w3 rfl), tmVw_l w3, Option.bind_some, tmMc_l (s := chg s 1 1) w3, Option.bind_some]
    dsimp only
    rw [eL, Option.bind_some, x1, hcount]
  · refine frm_pt (fun p => ∃ a ∈ tolL t, p = A a) (fun p _ hp => ?_) (fun p _ hp => x3 p (fun a ha e => hp ⟨a, ha, e⟩)) (by rw [x4]; exact Nat.le_refl _) (fun _ _ => rfl) (fun p h1 h2 => by rw [x4] at h2; exact absurd h2 (Nat.not_lt.mpr h1)) x5
    obtain ⟨a, ha, rfl⟩ := hp
    have hm := tolL_mem.mp ha
    exact (rs_in (q.2.2.2.2.1.1 a hm.1 hm.2).1).2
  · have hKS : ∀ K, (∀ k, K k → k ≠ 91) → hK K (rs s.1 own 7) (rs S.1 own 7) := by
      intro K hK1 p c hc e
      obtain ⟨z1, z2⟩ := rs_some.mp e
      refine rs_some.mpr ⟨z1, ?_⟩
      rw [x3 p (fun a ha e2 => ?_)]
      · exact z2
      · have hm := tolL_mem.mp ha
        have := (w4a.1 a hm.1 hm.2).1
        rw [e2, this] at z2
        have : c.2.2.1 = 91 := by rw [← Option.some.inj z2]; rfl
        exact hK1 _ hc this
    obtain ⟨r0, r1, r2, r3, r4, r5⟩ := q
    have ho : ∀ c, ¬ (118 ≤ c ∧ c ≤ 120) → (attT t v 20).2.2.1 c = t.2.2.1 c := fun c hc => attT_o hc
    refine ⟨W0_cg r0 (hKS _ (fun k hk => by omega)) rfl rfl (fun c hc => ho c ?_), W1_cg r1 (hKS _ (fun k hk => by omega)) rfl rfl (fun c hc => ho c ?_), W2_cg r2 (hKS _ (fun k hk => by omega)) rfl rfl (ho 102 (by omega)), W3_cg r3 (hKS _ (fun k hk => by omega)) rfl (fun c hc => ho c ?_), ⟨fun a ha hta => ?_, ?_⟩, W5_cg r5 (hKS _ (fun k hk => by omega)) rfl rfl (fun c hc => ho c ?_)⟩
    · simp only [List.mem_cons, List.not_mem_nil, or_false] at hc; omega
    · simp only [List.mem_cons, List.not_mem_nil, or_false] at hc; omega
    · simp only [List.mem_cons, List.not_mem_nil, or_false] at hc; omega
    · rw [ho 109 (by omega)] at hta
      obtain ⟨y1, y2, y3⟩ := r4.1 a ha hta
      exact ⟨rs_some.mpr ⟨(rs_in y1).2, x2 a (tolL_mem.mpr ⟨ha, hta⟩)⟩, y2, okAct_att y3 r0.2.1⟩
    · rw [ho 109 (by omega)]; exact r4.2
    · simp only [List.mem_cons, List.not_mem_nil, or_false] at hc; omega
theorem rt_att {v : Int32} {Z : Nat} (h : Z ≠ 7) : rt (attT t v 20) Z = rt t Z := by
  unfold rt
  refine Prod.ext rfl (Prod.ext rfl (Prod.ext ?_ rfl))
  funext c j
  by_cases y : mR c = Z
  · simp only [if_pos y]
    rw [attT_o (c := c) (fun z => h (by rw [← y]; rcases (show c = 118 ∨ c = 119 ∨ c = 120 by omega) with e | e | e <;> rw [e] <;> rfl))]
  · simp only [if_neg y]
theorem wa_attend (hw : wfS s) (k7 : K7 (rs s.1 own 11)) (r : R7 (rs s.1 own 7) t) (hcnt : s.2.2.1 < 3999000000) (v1 : Int32) : Rg thr0 (fun X => X = 7) 7 (fun H t => R7 (H 7) t) own s t 2 5 (c_502 151 v1 s) (t_626 v1 t) := by
  have r00 := r
  obtain ⟨np, sz, mx, zm, am, rl, nr, na, ec, P, Z, ZP, A, RW, od, r⟩ := r
  have q := R7_raw r
  have q0 := q.1.1
  by_cases hv : v1 = 0 ∨ v1 = 1
  · by_cases hb : t.1 1 = 0
    · refine Rg.sta (x := 0) (a := 0) (b := 0) hw r00 ?_ ?_ (by omega) (by omega)
      · unfold c_502
        have e8 : (if v1 = 0 then some (1 : Int32) else if v1 = 1 then some 1 else some 0) = some 1 := by
          rcases hv with rfl | rfl <;> rfl
        rw [e8, Option.bind_some, need_eq, if_neg (by decide), Option.bind_some, Sum.elim_inl, xI_o (x := t.1 1) q0 rfl rfl, Option.bind_some, may_eq, if_pos hb]; rfl
      · unfold t_626
        have e8 : (if v1 = 0 then some (1 : Int32) else if v1 = 1 then some 1 else some 0) = some 1 := by
          rcases hv with rfl | rfl <;> rfl
        rw [e8, Option.bind_some, goes_eq]
        simp [hb, ptI]
    · obtain ⟨S, e1, e2, e3, e4, e5⟩ := c_attend hw (k7_of k7) r hv hb hcnt
      have ht : t_626 v1 t = some (Int32.ofNat (attC t v1 20), attT (ptI t 0 0) v1 20) := by
        unfold t_626
        have e8 : (if v1 = 0 then some (1 : Int32) else if v1 = 1 then some 1 else some 0) = some 1 := by
          rcases hv with rfl | rfl <;> rfl
        rw [e8, Option.bind_some, goes_eq, if_neg (by simp [hb]), if_neg (by decide), if_neg hb, Option.bind_some, if_neg (show ¬ (1 : Int32) = 0 by decide), t_attend (t := ptI t 0 0) hv (fun a ha => (q.2.2.2.1.2.2.2.2.2.2.2.1 a ha).2.1)]; rfl
      refine Or.inl ⟨_, S, attT (ptI t 0 0) v1 20, own, e1, ht, rfl, fun Z h7 h9 => by rw [rt_att h7, ptI_rt h9], e2, ⟨_, _, _, _, _, _, _, _, _, _, _, _, _, _, _, e3⟩, by omega, by omega⟩
  · refine Rg.arg (x := 0) (a := 0) (b := 0) hw r00 ?_ ?_ (by omega) (by omega)
    · unfold c_502
      rw [if_neg (fun z => hv (Or.inl z)), if_neg (fun z => hv (Or.inr z)), Option.bind_some, need_eq, if_pos rfl]; rfl
    · unfold t_626
      rw [if_neg (fun z => hv (Or.inl z)), if_neg (fun z => hv (Or.inr z)), Option.bind_some, goes_eq]
      simp [ptI]
end
