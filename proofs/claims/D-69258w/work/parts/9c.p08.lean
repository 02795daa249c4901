/-! the program: sorting -/
def lenAt (S : CS) (a : Nat) : Nat := match S.1 a with
  | some (_, _, _, xs) => xs.length
  | none => 0
theorem head_filter {n : Nat} {p : Nat → Bool} : ((List.range n).filter p).head? = (List.range n).find? p := List.head?_filter
theorem filter_tail {n b0 : Nat} {p : Nat → Bool} {r : List Nat} (h : (List.range n).filter p = b0 :: r) : r = (List.range n).filter (fun o => !(o == b0) && p o) := by
  have hs : (b0 :: r).Pairwise (· < ·) := h ▸ List.Pairwise.sublist List.filter_sublist (range_sorted n)
  rw [List.pairwise_cons] at hs
  refine sorted_ext hs.2 (List.Pairwise.sublist List.filter_sublist (range_sorted n)) (fun x => ?_)
  have hx : x ∈ (List.range n).filter p ↔ x = b0 ∨ x ∈ r := by rw [h]; simp
  rw [List.mem_filter] at hx ⊢
  simp only [Bool.and_eq_true, Bool.not_eq_true', beq_eq_false_iff_ne, ne_eq]
  constructor
  · intro z
    have := hx.mpr (Or.inr z)
    exact ⟨this.1, fun e => by have := hs.1 x z; omega, this.2⟩
  · rintro ⟨h1, h2, h3⟩
    rcases hx.mp ⟨h1, h3⟩ with e | e
    · exact absurd e h2
    · exact e
theorem c_sort {s : CS} {t : TS} {own : Nat → Nat} {n : Nat} {B : Nat → Nat → Nat} {o : Value} {od nw : Int32} (hw : wfS s) (hK : RK s.1) (r : R5x (rs s.1 own 5) t n B o od nw) (hs : 179 ≤ s.2.1) :
    Tr (c_1098 115 s) (fun s' => ∃ own' oid, R5x (rs s'.1 own' 5) t n B (.ref oid) (Int32.ofNat (ordC t n)) nw ∧ Frm (fun X => X = 5) own own' s s' ∧ s'.2.2.1 ≤ s.2.2.1 + 500 ∧ s'.2.2.2 ≤ s.2.2.2 + 30000) := by
  have r0 := r
  obtain ⟨⟨p1, p2, ⟨mc, p3⟩, p4, p5, p6, p7, p8, p9⟩, f, ij, b, q⟩ := r
  have h1 := rs_in p1
  have h3 := rs_in p3
  unfold c_1098
  rcases q with rfl | ⟨oid, mco, rfl, q1, q2, q3, q4⟩
  · -- it is to be found
    have hB : ∀ k, k < n → R5b s.1 t n B k := fun k hk => by
      obtain ⟨r1, r2, r3, r4⟩ := b k hk
      exact ⟨(rs_in r1).1, (rs_in r2).1, (rs_in r3).1, r4⟩
    have hb : BB s t n B mc := ⟨hs, p6, hK, hB, ij, h3.1, hw⟩
    rw [xR_z h1.1 rfl rfl, Option.bind_some, if_pos rfl]
    obtain ⟨S1, e1, a1, a2, a3, a4, a5, a6⟩ := nw_o (s := s) 13 [.int 0, .null, .int 0] hw
    rw [e1, Option.bind_some]
    dsimp only
    rw [if_pos (isK_t a1 rfl), alInit_o a1, Option.bind_some]
    have hlt := wf_lt hw h1.1
    have g1 : (cup S1 s.2.1 (true, false, 1013, [.int 0])).1 115 = some (true, false, 100, [.ref 116, .ref 117, .null, .int od, .ref 118, .ref 119, .int nw, .int (t.1 1)]) := by
      rw [cup_ne (by omega), a2 _ (by omega)]; exact h1.1
    rw [xP_o g1 rfl (by simp), Option.bind_some]
    generalize hS2 : cup (cup S1 s.2.1 (true, false, 1013, [.int 0])) 115 _ = S2
    have w2 : wfS S2 := by rw [← hS2]; exact wf_cup (wf_cup a4 (by omega)) (by show 115 < S1.2.1; omega)
    have n2 : S2.2 = S1.2 := by rw [← hS2]; rfl
    obtain ⟨S3, e3, b1, b2, b3, b4, b5, b6⟩ := nwa_o (s := S2) 0 (.int 0) 40 (by omega) w2
    rw [show (40 : Int32) = Int32.ofNat 40 from rfl, e3, Option.bind_some]
    dsimp only
    obtain ⟨S4, e4, c1, c2, c3, c4, c5, c6⟩ := nw_o (s := S3) 37 [.null, .int 0, .null, .int 0] b4
    rw [e4, Option.bind_some]
    dsimp only
    rw [if_pos (isK_t c1 rfl), pqInit_o c1, Option.bind_some]
    generalize hS5 : chg (cup S4 S3.2.1 (true, false, 1037, [])) 1 11 = S5
    have i2 : S2.2.1 = s.2.1 + 1 := by rw [n2]; exact a3
    have i3 : S3.2.1 = s.2.1 + 2 := by rw [b3, i2]
    rw [i2, i3]
    simp only [List.length_cons, List.length_nil] at a6 c6
    have h5 : SS s S5 B (t.1 1) nw od [] (fun _ => 0) [] 4 66 := by
      rw [← hS5]
      refine ⟨fun q h1' h2 => ?_, ?_, ⟨0, ?_⟩, ?_, ?_, ?_, ?_, ?_, ?_⟩
      · rw [chg_1, cup_ne (by omega), c2 _ (by omega), b2 _ (by omega), ← hS2, cup_ne h1', cup_ne (by omega), a2 _ (by omega)]
      · rw [chg_1, cup_ne (by omega), c2 _ (by omega), b2 _ (by omega), ← hS2, cup_eq]; rfl
      · rw [chg_1, cup_ne (by omega), c2 _ (by omega), b2 _ (by omega), ← hS2, cup_ne (by omega), cup_eq]; rfl
      · rw [chg_1, cup_ne (by omega), c2 _ (by omega), ← i2]; exact b1
      · rw [chg_1, ← i3, cup_eq]; rfl
      · show S4.2.1 = _; rw [c3, i3]
      · exact wf_cup c4 (by omega)
      · show S4.2.2.1 + 1 ≤ _; rw [c5, b5, n2, a5]; omega
      · show S4.2.2.2 + 11 ≤ _; rw [c6, b6, n2, a6]; omega
    clear hS5 hS2 e1 e3 e4
    obtain ⟨-, -, d3⟩ := h5.bb hb
    rw [h5.f1, Option.bind_some, if_pos (isK_t d3 rfl), alMc_l d3, Option.bind_some]
    dsimp only
    have hn := p6
    -- counts
    refine Tr.bd (P := fun S => SS s S B (t.1 1) nw od [] (fun o => if o ∈ ([] : List Nat) then -1 else if o < n then Int32.ofNat (cntU t n [] o) else 0) ((List.range n).filter (mayC t n [])) (5 + n + 2 * ((List.range n).filter (mayC t n [])).length) (70 + 4 * n + 121 * ((List.range n).filter (mayC t n [])).length)) (wh_cnt n (fun k (a : CS × Int32) => a.2 = Int32.ofNat k ∧ SS s a.1 B (t.1 1) nw od [] (fun o => if o < k then Int32.ofNat (cnt t n o) else 0) ((List.range k).filter (fun o => cnt t n o == 0)) (5 + k + 2 * ((List.range k).filter (fun o => cnt t n o == 0)).length) (70 + 4 * k + 121 * ((List.range k).filter (fun o => cnt t n o == 0)).length)) ?_ ?_ ⟨rfl, ((h5.chg 1 4).lef (fun _ _ => by simp))⟩) ?_
    · rintro k ⟨U, q⟩ hk ⟨hq, hU⟩
      dsimp only at hq hU ⊢
      subst hq
      obtain ⟨u1, u2, u3⟩ := hU.bb hb
      rw [alHas_r u3 (by omega) (by omega), Option.bind_some, if_neg (show ¬ k = n by omega), if_neg (by decide), alNext_r u3 hk (by omega), Option.bind_some, toN_o (u2 k hk).1 rfl, Option.bind_some, hU.f1, Option.bind_some, if_pos (isK_t u3 rfl), alMc_l u3, Option.bind_some]
      dsimp only
      obtain ⟨⟨V, kk⟩, e1, e2, hV⟩ := so_cnt (kk := Int32.ofNat k + 1) hb hk (hU.chg 1 4) (by simp)
      rw [e1, Option.bind_some]
      dsimp only at e2 hV ⊢
      subst e2
      have hcn : cnt t n k ≤ n := flen _ _
      have hV2 : SS s V B (t.1 1) nw od [] (fun o => if o < k + 1 then Int32.ofNat (cnt t n o) else 0) ((List.range k).filter (fun o => cnt t n o == 0)) (5 + (k + 1) + 2 * ((List.range k).filter (fun o => cnt t n o == 0)).length) (70 + 4 * (k + 1) + 121 * ((List.range k).filter (fun o => cnt t n o == 0)).length) := (hV.lef (fun b _ => by
        by_cases e : b = k
        · rw [if_pos e, if_pos (by omega), e]
        · rw [if_neg e]
          by_cases e2 : b < k
          · rw [if_pos e2, if_pos (by omega)]
          · rw [if_neg e2, if_neg (by omega)])).le (by omega) (by omega)
      obtain ⟨v1, v2, v3⟩ := hV2.bb hb
      rw [xI_o (x := Int32.ofNat k) (v2 k hk).1 rfl rfl, Option.bind_some, hV2.get (by omega), Option.bind_some, if_pos (show k < k + 1 by omega), i_suc]
      by_cases h0 : cnt t n k = 0
      · have hfl : (List.range k).filter (fun o => cnt t n o == 0) ++ [k] = (List.range (k + 1)).filter (fun o => cnt t n o == 0) := by
          rw [List.range_succ, List.filter_append]; simp [h0]
        have hll := flen k (fun o => cnt t n o == 0)
        obtain ⟨W, g1, g2⟩ := (hV2.chg 1 1).pqa hs (by omega) (fun y hy => by have := List.mem_range.mp (List.mem_filter.mp hy).1; omega) (show k < 40 by omega)
        rw [nins_end (fun y hy => List.mem_range.mp (List.mem_filter.mp hy).1), hfl] at g2
        refine Or.inr ⟨(W, Int32.ofNat (k + 1)), ?_, rfl, g2.le ?_ ?_⟩
        · rw [h0, if_pos (show Int32.ofNat 0 = 0 from rfl), Option.bind_some, Option.bind_some, if_pos (hV2.chg 1 1).k2, g1]
          rfl
        · rw [← hfl, List.length_append]; simp only [List.length_cons, List.length_nil]; omega
        · rw [← hfl, List.length_append]; simp only [List.length_cons, List.length_nil]; omega
      · have hfl : (List.range (k + 1)).filter (fun o => cnt t n o == 0) = (List.range k).filter (fun o => cnt t n o == 0) := by
          rw [List.range_succ, List.filter_append]; simp [h0]
        refine Or.inr ⟨(V, Int32.ofNat (k + 1)), ?_, rfl, by rw [hfl]; exact hV2⟩
        rw [if_neg (show ¬ Int32.ofNat (cnt t n k) = 0 from fun z => h0 ((i_inj (k := 0) (by omega) (by omega)).mp z)), Option.bind_some]
    · rintro ⟨U, q⟩ ⟨hq, hU⟩
      dsimp only at hq hU ⊢
      subst hq
      obtain ⟨u1, u2, u3⟩ := hU.bb hb
      have e : (List.range n).filter (fun o => cnt t n o == 0) = (List.range n).filter (mayC t n []) := by
        refine List.filter_congr (fun o _ => ?_)
        rw [Bool.eq_iff_iff, ← cntU_may (by simp), cntU_nil]; simp
      rw [e] at hU
      refine ⟨U, by rw [alHas_r u3 (by omega) (by omega), Option.bind_some, if_pos rfl, if_pos rfl], hU.lef (fun b _ => ?_)⟩
      rw [if_neg (by simp), cntU_nil]
    intro S6 h6
    -- placing
    refine Tr.bd (P := fun S => SS s S B (t.1 1) nw od (gre t n n []) (fun o => if o ∈ gre t n n [] then -1 else if o < n then Int32.ofNat (cntU t n (gre t n n []) o) else 0) [] (5 + n + 4 * n) (70 + 4 * n + 141 * n)) (wh_ind (P := fun S => ∃ acc, onW t n acc ∧ (∀ o ∈ acc, ∀ w, w < n → dep t o w = true → w ∈ acc) ∧ SS s S B (t.1 1) nw od acc (fun o => if o ∈ acc then -1 else if o < n then Int32.ofNat (cntU t n acc o) else 0) ((List.range n).filter (mayC t n acc)) (5 + n + 4 * acc.length + 2 * ((List.range n).filter (mayC t n acc)).length) (70 + 4 * n + 141 * acc.length + 121 * ((List.range n).filter (mayC t n acc)).length)) (fun S => 1000 - lenAt S s.2.1) ?_ ⟨[], onW_0 t n, fun o ho => absurd ho (by simp), h6⟩) ?_
    · rintro S ⟨acc, ho, hcl, hS⟩
      have hal := nd_len n acc ho.1 ho.2.1
      rw [if_pos hS.k2, hS.emp, Option.bind_some]
      cases hf : (List.range n).filter (mayC t n acc) with
      | nil =>
        have hnone : (List.range n).find? (mayC t n acc) = none := by rw [← head_filter, hf]; rfl
        rw [hf] at hS
        refine Or.inl ⟨S, by simp, ?_⟩
        rw [onW_end ho hnone]
        exact hS.le (by simp; omega) (by simp; omega)
      | cons b0 rr =>
        have hfi : (List.range n).find? (mayC t n acc) = some b0 := by rw [← head_filter, hf]; rfl
        obtain ⟨ho', hb0, hn0⟩ := onW_go ho hfi
        have hm0 := List.find?_some hfi
        have hS0 := hS
        rw [hf] at hS
        obtain ⟨T1, f1, f2⟩ := hS.poll hs
        obtain ⟨t1, t2, t3⟩ := f2.bb hb
        obtain ⟨T2, f3, f4⟩ := f2.add hs (by omega) b0 (elO_o (t2 b0 hb0).1)
        obtain ⟨T3, f5, f6⟩ := f4.put hs (show b0 < 40 by omega) (-1)
        obtain ⟨y1, y2, y3⟩ := f4.bb hb
        obtain ⟨z1, z2, z3⟩ := f6.bb hb
        have hrr := filter_tail hf
        have hlr : ((List.range n).filter (fun o => !(o == b0) && mayC t n acc o)).length = rr.length := by rw [← hrr]
        have f7 : SS s (chg T3 1 4) B (t.1 1) nw od (acc ++ [b0]) (fun o => if o ∈ acc ++ [b0] then -1 else if o < n then Int32.ofNat (cntU t n acc o) else 0) ((List.range n).filter (fun o => !(o == b0) && mayC t n acc o)) (5 + n + 4 * (acc.length + 1) + 2 * ((List.range n).filter (fun o => !(o == b0) && mayC t n acc o)).length) (70 + 4 * n + 141 * (acc.length + 1) + 121 * ((List.range n).filter (fun o => !(o == b0) && mayC t n acc o)).length) := by
          rw [hlr, ← hrr]
          refine ((f6.chg 1 4).lef (fun b _ => ?_)).le (by simp; omega) (by simp; omega)
          by_cases e : b = b0
          · rw [if_pos e, if_pos (by simp [e])]
          · rw [if_neg e]
            by_cases e2 : b ∈ acc
            · rw [if_pos e2, if_pos (by simp [e2])]
            · rw [if_neg e2, if_neg (by simp [e, e2])]
        obtain ⟨T4, g1, g2⟩ := so_let (mc2 := 0) hb hb0 hn0 hcl hm0 (by omega) f7
        have hlen : lenAt T4 s.2.1 = acc.length + 2 := by
          obtain ⟨mm, hmm⟩ := g2.2.2.1
          unfold lenAt; rw [hmm]; simp
        have hlen0 : lenAt S s.2.1 = acc.length + 1 := by
          obtain ⟨mm, hmm⟩ := hS0.2.2.1
          unfold lenAt; rw [hmm]; simp
        refine Or.inr ⟨T4, ?_, ⟨acc ++ [b0], ho', ?_, g2.le (by rw [List.length_append]; simp only [List.length_cons, List.length_nil]; omega) (by rw [List.length_append]; simp only [List.length_cons, List.length_nil]; omega)⟩, by rw [hlen, hlen0]; omega⟩
        · rw [show (if (b0 :: rr).length = 0 then (1 : Int32) else 0) = 0 from if_neg (by simp), if_pos rfl, hS.f1, Option.bind_some, if_pos hS.k2, f1, Option.bind_some]
          dsimp only
          rw [show toOB (iV b0) = some (some (Int32.ofNat b0)) from rfl, Option.bind_some, Option.bind_some, if_pos (isK_t t3 rfl), alGet_r t3 hb0 (by omega), Option.bind_some, toN_o (t2 b0 hb0).1 rfl, Option.bind_some, f2.f2, Option.bind_some, if_pos f2.k0, f3, Option.bind_some, xI_o (x := Int32.ofNat b0) (y2 b0 hb0).1 rfl rfl, Option.bind_some, f5, Option.bind_some, f6.f1, Option.bind_some, if_pos (isK_t z3 rfl), alMc_l z3, Option.bind_some]
          dsimp only
          rw [g1, Option.bind_some]
        · intro o ho1 w hw1 hd
          rcases List.mem_append.mp ho1 with z | z
          · exact List.mem_append.mpr (Or.inl (hcl o z w hw1 hd))
          · rw [List.mem_singleton] at z
            subst z
            exact List.mem_append.mpr (Or.inl ((mayC_t.mp hm0).2 w hw1 hd))
    intro S7 h7
    obtain ⟨hon, hnone⟩ := gre_on t n
    have hgl := nd_len n _ hon.1 hon.2.1
    obtain ⟨mg, hmg⟩ := h7.2.2.1
    rw [h7.f2, Option.bind_some, if_pos h7.k0, alSize_l hmg, Option.bind_some, xP_o h7.2.1 rfl (by simp), Option.bind_some, List.length_map]
    generalize hS8 : cup S7 115 _ = S8
    have h8 : SS s S8 B (t.1 1) nw (Int32.ofNat (ordC t n)) (gre t n n []) (fun o => if o ∈ gre t n n [] then -1 else if o < n then Int32.ofNat (cntU t n (gre t n n []) o) else 0) [] (5 + n + 4 * n) (70 + 4 * n + 141 * n) := by
      rw [← hS8]
      obtain ⟨x1, x2, x3, x4, x5, x6, x7, x8, x9⟩ := h7
      exact ⟨fun q q1 q2 => by rw [cup_ne q1]; exact x1 q q1 q2, by rw [cup_eq]; rfl, by rw [cup_ne (by omega)]; exact x3, by rw [cup_ne (by omega)]; exact x4, by rw [cup_ne (by omega)]; exact x5, x6, wf_cup x7 (by omega), x8, x9⟩
    clear hS8
    obtain ⟨j1, j2, j3⟩ := h8.bb hb
    rw [h8.f1, Option.bind_some, if_pos (isK_t j3 rfl), alMc_l j3, Option.bind_some]
    dsimp only
    refine Tr.bd (P := fun S => SS s S B (t.1 1) nw (Int32.ofNat (ordC t n)) (ordL t n) (fun o => if o ∈ gre t n n [] then -1 else if o < n then Int32.ofNat (cntU t n (gre t n n []) o) else 0) [] (6 + 7 * n) (74 + 180 * n)) (wh_cnt n (fun k (a : CS × Int32) => a.2 = Int32.ofNat k ∧ SS s a.1 B (t.1 1) nw (Int32.ofNat (ordC t n)) (gre t n n [] ++ (List.range k).filter (fun b => !(gre t n n []).contains b)) (fun o => if o ∈ gre t n n [] then -1 else if o < n then Int32.ofNat (cntU t n (gre t n n []) o) else 0) [] (6 + 6 * n + k) (74 + 145 * n + 16 * k)) ?_ ?_ ⟨rfl, ?_⟩) ?_
    · rintro k ⟨U, q⟩ hk ⟨hq, hU⟩
      dsimp only at hq hU ⊢
      subst hq
      obtain ⟨u1, u2, u3⟩ := hU.bb hb
      rw [alHas_r u3 (by omega) (by omega), Option.bind_some, if_neg (show ¬ k = n by omega), if_neg (by decide), alNext_r u3 hk (by omega), Option.bind_some, toN_o (u2 k hk).1 rfl, Option.bind_some, xI_o (x := Int32.ofNat k) (u2 k hk).1 rfl rfl, Option.bind_some, hU.get (by omega), Option.bind_some, i_suc, List.range_succ, List.filter_append, ← List.append_assoc]
      by_cases e : k ∈ gre t n n []
      · refine Or.inr ⟨(U, Int32.ofNat (k + 1)), by rw [if_pos e, if_neg (by decide), Option.bind_some], rfl, ?_⟩
        have : List.filter (fun b => !(gre t n n []).contains b) [k] = [] := by simp [e]
        rw [this, List.append_nil]
        exact hU.le (by omega) (by omega)
      · have hc0 : cntU t n (gre t n n []) k ≠ 0 := by
          intro z
          have := (cntU_may e).mp z
          rw [List.find?_eq_none] at hnone
          exact hnone k (List.mem_range.mpr hk) this
        have hcn : cntU t n (gre t n n []) k ≤ n := flen _ _
        have hfl := flen k (fun b => !(gre t n n []).contains b)
        have hlen : (gre t n n [] ++ (List.range k).filter (fun b => !(gre t n n []).contains b)).length ≤ 40 := by
          have h1 := (ordL_len t n).1
          have h2 : (gre t n n [] ++ (List.range k).filter (fun b => !(gre t n n []).contains b)).length ≤ (ordL t n).length := by
            unfold ordL
            rw [List.length_append, List.length_append]
            refine Nat.add_le_add_left ?_ _
            exact List.Sublist.length_le (List.Sublist.filter _ (List.range_sublist.mpr (by omega)))
          omega
        obtain ⟨V, g1, g2⟩ := hU.add hs hlen k (elO_o (u2 k hk).1)
        have : List.filter (fun b => !(gre t n n []).contains b) [k] = [k] := by simp [e]
        rw [this]
        refine Or.inr ⟨(V, Int32.ofNat (k + 1)), ?_, rfl, g2.le (by omega) (by omega)⟩
        rw [if_neg e, if_pos hk, if_pos (show (0 : Int32) < Int32.ofNat (cntU t n (gre t n n []) k) from (i_lt (j := 0) (by omega) (by omega)).mpr (by omega)), hU.f2, Option.bind_some, if_pos hU.k0, g1, Option.bind_some, Option.bind_some]
    · rintro ⟨U, q⟩ ⟨hq, hU⟩
      dsimp only at hq hU ⊢
      subst hq
      obtain ⟨u1, u2, u3⟩ := hU.bb hb
      refine ⟨U, by rw [alHas_r u3 (by omega) (by omega), Option.bind_some, if_pos rfl, if_pos rfl], ?_⟩
      exact hU.le (by omega) (by omega)
    · have := (h8.chg 1 4).le (c' := 6 + 6 * n + 0) (m' := 74 + 145 * n + 16 * 0) (by omega) (by omega)
      simpa using this
    intro S9 h9
    refine ⟨S9, rfl, givs own s.2.1 3 5, s.2.1, ?_, ?_, ?_, ?_⟩
    · obtain ⟨x1, x2, ⟨mx, x3⟩, x4, x5, x6, x7, x8, x9⟩ := h9
      have hown : ∀ q, q < s.2.1 → givs own s.2.1 3 5 q = own q := fun q hq => if_neg (by omega)
      have key : ∀ q c, q ≠ 115 → rs s.1 own 5 q = some c → rs S9.1 (givs own s.2.1 3 5) 5 q = some c := by
        intro q c hq e
        obtain ⟨e1, e2⟩ := rs_some.mp e
        have hl := wf_lt hw e2
        exact rs_some.mpr ⟨by rw [hown q hl]; exact e1, by rw [x1 q hq hl]; exact e2⟩
      refine ⟨⟨rs_some.mpr ⟨by rw [hown _ (by omega)]; exact h1.2, x2⟩, key _ _ (by omega) p2, ⟨mc, key _ _ (by omega) p3⟩, key _ _ (by omega) p4, p5, p6, p7, p8, p9⟩, f, ij, fun k hk => ?_, Or.inr ⟨s.2.1, mx, rfl, hs, fun k j hk hj e => ?_, rs_some.mpr ⟨if_pos (by omega), x3⟩, rfl⟩⟩
      · obtain ⟨r1, r2, r3, r4⟩ := b k hk
        exact ⟨key _ _ (by have := ij.2 k 0 hk (by omega); omega) r1, key _ _ (by have := ij.2 k 1 hk (by omega); omega) r2, key _ _ (by have := ij.2 k 2 hk (by omega); omega) r3, r4⟩
      · obtain ⟨r1, r2, r3, r4⟩ := hB k hk
        have : j = 0 ∨ j = 1 ∨ j = 2 := by omega
        rcases this with rfl | rfl | rfl
        · have := wf_lt hw r1; omega
        · have := wf_lt hw r2; omega
        · have := wf_lt hw r3; omega
    · obtain ⟨x1, x2, ⟨mx, x3⟩, x4, x5, x6, x7, x8, x9⟩ := h9
      refine frm_pt (fun q => q = 115) (fun q _ e => by rw [e]; exact h1.2) (fun q hq e => x1 q e hq) (by omega) (fun q hq => if_neg (by omega)) (fun q z1 z2 => if_pos (by omega)) x7
    · have := h9.2.2.2.2.2.2.2.1; omega
    · have := h9.2.2.2.2.2.2.2.2; omega
  · rw [xR_o h1.1 rfl rfl, Option.bind_some, if_neg (by simp)]
    exact ⟨s, rfl, own, oid, ⟨⟨by rw [← q4]; exact p1, p2, ⟨mc, p3⟩, p4, p5, p6, p7, p8, p9⟩, f, ij, b, Or.inr ⟨oid, mco, rfl, q1, q2, q3, rfl⟩⟩, Frm.refl hw, by omega, by omega⟩
