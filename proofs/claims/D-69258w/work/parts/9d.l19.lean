/-! the lifts: the component chooses -/
theorem rs_all (h : lHeap) : rs h (fun _ => 8) 8 = h := by
  funext q; unfold rs; rw [if_pos rfl]
/-- the relation, where a store has changed at the cells that are only used while a giving is made -/
theorem R8x_fr {h h' : lHeap} {t : TS} {nc nk : Nat} {C D M : Nat → Nat} {b : Nat → Option Nat} (r : R8x h t nc nk C D M b) (h1 : ∃ nw hm : Int32, ∃ lst : Int64, h' 162 = some (true, false, 49, [.ref 163, .ref 164, .int (t.1 606), .int nw, .int hm, .int (t.1 1), .ref 165, .ref 166, .ref 167, .ref 168, .long lst, .ref 169])) (h2 : ∃ mc es, h' 165 = some (true, false, 1013, .int mc :: es)) (h3 : ∃ mc es, h' 166 = some (true, false, 1013, .int mc :: es)) (h4 : ∃ f : Nat → Int32, h' 167 = some (true, true, 0, rowC (fun i => .int (f i)) 4)) (h5 : ∃ f : Nat → Int32, h' 168 = some (true, true, 0, rowC (fun i => .int (f i)) 4))
    (hq : ∀ q c, q ≠ 162 → q ≠ 165 → q ≠ 166 → q ≠ 167 → q ≠ 168 → h q = some c → h' q = some c) : R8x h' t nc nk C D M b := by
  obtain ⟨_, ⟨m1, p2⟩, _, _, _, _, p7, p8, p9, p10, p11, p12, p13, p14, p15, p16, p17, p18, ⟨mo, eo, o1, o2, o3, o4⟩, ⟨mm, em, q1, q2, q3, q4, q5, q6⟩⟩ := r
  exact ⟨h1, ⟨m1, hq _ _ (by omega) (by omega) (by omega) (by omega) (by omega) p2⟩, h2, h3, h4, h5, p7, p8, p9, p10, p11, p12, p13, fun k hk => ⟨hq _ _ (by have := (p14 k hk).2.2; omega) (by have := (p14 k hk).2.2; omega) (by have := (p14 k hk).2.2; omega) (by have := (p14 k hk).2.2; omega) (by have := (p14 k hk).2.2; omega) (p14 k hk).1, (p14 k hk).2⟩, p15, fun c hc => ⟨(p16 c hc).1, (p16 c hc).2.1, fun hO => by
      obtain ⟨y1, y2⟩ := (p16 c hc).2.2 hO
      exact ⟨hq _ _ (by omega) (by omega) (by omega) (by omega) (by omega) y1, y2⟩⟩, p17, p18, ⟨mo, eo, hq _ _ (by omega) (by omega) (by omega) (by omega) (by omega) o1, o2, o3, o4⟩, ⟨mm, em, hq _ _ (by omega) (by omega) (by omega) (by omega) (by omega) q1, q2, q3, q4, fun c h1 h2 => by
      obtain ⟨y1, y2, y3⟩ := q5 c h1 h2
      exact ⟨y1, hq _ _ (by omega) (by omega) (by omega) (by omega) (by omega) y2, y3⟩, q6⟩⟩
/-- the relation, where the reference has changed elsewhere -/
theorem R8x_cg {h : lHeap} {t T : TS} {nc nk : Nat} {C D M : Nat → Nat} {b : Nat → Option Nat} (r : R8x h t nc nk C D M b) (h1 : ∀ c, c = 1 ∨ c = 600 ∨ c = 606 ∨ c = 612 → T.1 c = t.1 c) (h2 : ∀ c, 158 ≤ c → c ≤ 167 → T.2.2.1 c = t.2.2.1 c) (hM : ∃ M', R8m h T nk nc M') : ∃ M', R8x h T nc nk C D M' b := by
  obtain ⟨⟨nw, hm, lst, p1⟩, p2, p3, p4, p5, p6, p7, p8, p9, p10, p11, p12, p13, p14, p15, p16, p17, p18, ⟨mo, eo, o1, o2, o3, o4⟩, _⟩ := r
  obtain ⟨M', hM⟩ := hM
  have e := fun c a b => h2 c a b
  refine ⟨M', ⟨nw, hm, lst, by rw [h1 606 (by omega), h1 1 (by omega)]; exact p1⟩, p2, p3, p4, p5, p6, by rw [h1 600 (by omega)]; exact p7, p8, by rw [h1 606 (by omega)]; exact p9, p10, by rw [h1 1 (by omega)]; exact p11, by rw [h1 1 (by omega)]; exact p12, by rw [h1 612 (by omega)]; exact p13, ?_, p15, ?_, ?_, ?_, ⟨mo, eo, o1, by rw [e 166 (by omega) (by omega)]; exact o2, o3, o4⟩, hM⟩
  · intro k hk
    unfold carC okCar
    rw [e 158 (by omega) (by omega), e 159 (by omega) (by omega), e 160 (by omega) (by omega), e 161 (by omega) (by omega), e 162 (by omega) (by omega)]
    exact p14 k hk
  · intro c hc
    unfold calC okCall isO
    rw [h1 612 (by omega), e 163 (by omega) (by omega), e 164 (by omega) (by omega), e 165 (by omega) (by omega), e 166 (by omega) (by omega), e 167 (by omega) (by omega)]
    exact p16 c hc
  · unfold isO
    rw [e 166 (by omega) (by omega)]
    exact p17
  · unfold isO
    rw [e 166 (by omega) (by omega), e 167 (by omega) (by omega)]
    exact p18
theorem chs_eq (t : TS) (nc nk : Nat) : chs t nc nk = ((List.range nk).filter (fun c => decide (t.2.2.1 166 c = 1))).filter (fun c => decide (0 < (if t.1 613 = 0 then cob t c nc else 0))) := by
  unfold chs mayG
  rw [List.filter_filter]
  congr 1
  funext c
  rw [Bool.and_comm]
theorem take_flt {α : Type} (p : α → Bool) {l : List α} {i : Nat} (h : i < l.length) : (l.take (i + 1)).filter p = (l.take i).filter p ++ (if p l[i] = true then [l[i]] else []) := by
  rw [List.take_succ, List.getElem?_eq_getElem h, List.filter_append]
  cases hp : p l[i] <;> simp [hp]
theorem c_choose {s : CS} {t : TS} {nc nk : Nat} {C D M : Nat → Nat} {b : Nat → Option Nat} {nw hm : Int32} {lst : Int64} (r : R8x s.1 t nc nk C D M b) (h1 : s.1 162 = some (true, false, 49, [.ref 163, .ref 164, .int (t.1 606), .int nw, .int hm, .int (t.1 1), .ref 165, .ref 166, .ref 167, .ref 168, .long lst, .ref 169])) (hm3 : hm = t.1 613) (hcnt : s.2.2.1 < 3999000000) : Tr (c_531 162 s) (fun S => (∃ mc, S.1 165 = some (true, false, 1013, .int mc :: (chs t nc nk).map (fun c => Value.ref (D c)))) ∧ (∀ q, q ≠ 165 → S.1 q = s.1 q) ∧ S.2.1 = s.2.1 ∧ S.2.2.1 ≤ s.2.2.1 + 8 ∧ S.2.2.2 ≤ s.2.2.2 + 101) := by
  have r0 := r
  rw [← rs_all s.1] at r0
  obtain ⟨mo, eo, o1, o2, o3, o4, o5⟩ := li_len r
  have r' := r
  obtain ⟨_, ⟨m1, p2⟩, ⟨m5, e5, p3⟩, p4, p5, p6, p7, p8, p9, p10, p11, p12, p13, p14, p15, p16, p17, p18, _⟩ := r'
  have hkeys := mp_keys (P := fun c => t.2.2.1 166 c = 1) (f := fun c => .ref (D c)) o2
  have hel : ∀ i (hi : i < eo.length), ∃ hi2 : i < ((List.range nk).filter (fun c => decide (t.2.2.1 166 c = 1))).length, eo[i].2 = Value.ref (D ((List.range nk).filter (fun c => decide (t.2.2.1 166 c = 1)))[i]) := by
    intro i hi
    have hi2 : i < ((List.range nk).filter (fun c => decide (t.2.2.1 166 c = 1))).length := by rw [← hkeys, List.length_map]; exact hi
    refine ⟨hi2, ?_⟩
    have e1 := o2.2.1 eo[i] (List.getElem_mem hi)
    have e2 : ((List.range nk).filter (fun c => decide (t.2.2.1 166 c = 1)))[i] = (rkI eo[i].1).toNat := by
      have : ∀ (l m : List Nat) (h : l = m) (hl : i < l.length) (hm : i < m.length), l[i] = m[i] := by
        intro l m h hl hm; subst h; rfl
      rw [this _ _ hkeys.symm hi2 (by rw [List.length_map]; exact hi), List.getElem_map]
    rw [e2]
    dsimp only at e1
    split at e1
    · exact (Option.some.inj e1).symm
    · cases e1
  generalize hol : (List.range nk).filter (fun c => decide (t.2.2.1 166 c = 1)) = ol at hel hkeys
  have hlen : ol.length = eo.length := by rw [← hkeys, List.length_map]
  have hmem : ∀ c ∈ ol, c < nk ∧ isO t c := by
    intro c hc
    rw [← hol, List.mem_filter, List.mem_range, decide_eq_true_eq] at hc
    exact hc
  unfold c_531
  rw [xN_o h1 rfl rfl, Option.bind_some, if_pos (isK_t p3 rfl)]
  unfold alClear
  rw [alC_l p3, Option.bind_some, Option.bind_some]
  generalize hs2 : cput s 1013 165 0 0 [.int (m5 + 1)] = s2
  have a1 : ∀ q, q ≠ 165 → s2.1 q = s.1 q := fun q hq => by rw [← hs2]; exact cput_ne hq
  have a2 : s2.1 165 = some (true, false, 1013, [.int (m5 + 1)]) := by rw [← hs2]; exact cput_eq ..
  have a3 : s2.2 = s.2 := by rw [← hs2]; rfl
  have g1 : s2.1 162 = _ := (a1 162 (by omega)).trans h1
  have g2 : s2.1 164 = _ := (a1 164 (by omega)).trans o1
  rw [xN_o g1 rfl rfl, Option.bind_some, if_pos (isK_t g2 rfl), tmVw_l g2, Option.bind_some, tmMc_l (s := chg s2 1 1) g2, Option.bind_some]
  refine Tr.bd (P := fun S => (∃ mc, S.1 165 = some (true, false, 1013, .int mc :: (chs t nc nk).map (fun c => Value.ref (D c)))) ∧ (∀ q, q ≠ 165 → S.1 q = s.1 q) ∧ S.2.1 = s.2.1 ∧ S.2.2.1 ≤ s.2.2.1 + 8 ∧ S.2.2.2 ≤ s.2.2.2 + 101) (wh_cnt eo.length (fun i (a : CS × Nat) => a.2 = i ∧ (∃ mc, a.1.1 165 = some (true, false, 1013, .int mc :: ((ol.take i).filter (fun c => decide (0 < (if t.1 613 = 0 then cob t c nc else 0)))).map (fun c => Value.ref (D c)))) ∧ (∀ q, q ≠ 165 → a.1.1 q = s.1 q) ∧ a.1.2.1 = s.2.1 ∧ a.1.2.2.1 ≤ s.2.2.1 + 2 + i ∧ a.1.2.2.2 ≤ s.2.2.2 + 5 + 16 * i) ?_ ?_ ⟨rfl, ⟨m5 + 1, a2⟩, a1, by show s2.2.1 = _; rw [a3], by show s2.2.2.1 + 1 + 1 ≤ _; rw [a3]; omega, by show s2.2.2.2 + 1 + 4 ≤ _; rw [a3]; omega⟩) (fun S hS => ⟨S, rfl, hS⟩)
  · rintro i ⟨S, q⟩ hi ⟨hq, ⟨mc, g3⟩, g4, g5, g6, g7⟩
    dsimp only at hq g3 g4 g5 g6 g7 ⊢
    subst hq
    have u1 : S.1 162 = _ := (g4 162 (by omega)).trans h1
    have u2 : S.1 164 = _ := (g4 164 (by omega)).trans o1
    have hc4 : S.2.2.1 < 4000000000 := by omega
    obtain ⟨hi2, he⟩ := hel q hi
    obtain ⟨w1, w2⟩ := hmem _ (List.getElem_mem hi2)
    have rS : R8x (rs S.1 (fun _ => 8) 8) t nc nk C D M b := by
      rw [rs_all]
      refine R8x_fr r ⟨_, _, _, u1⟩ ⟨_, _, g3⟩ ?_ ?_ ?_ (fun q c _ z _ _ _ e => by rw [g4 q z]; exact e)
      · obtain ⟨x, y, z⟩ := p4; exact ⟨x, y, (g4 166 (by omega)).trans z⟩
      · obtain ⟨x, z⟩ := p5; exact ⟨x, (g4 167 (by omega)).trans z⟩
      · obtain ⟨x, z⟩ := p6; exact ⟨x, (g4 168 (by omega)).trans z⟩
    have hD : S.1 (D ol[q]) = some (calC t C ol[q]) := by
      obtain ⟨y1, y2⟩ := (p16 _ w1).2.2 w2
      rw [g4 _ (by omega)]; exact y1
    have hcars := c_cars rS w1 w2 u1
    rw [hm3] at hcars
    rw [tmIHas_l u2 hc4, Option.bind_some, if_pos hi, if_neg (by decide), tmNx_l u2 hc4 hi, Option.bind_some, tmVal_l u2 hc4 hi, he, Option.bind_some, toN_o hD rfl, Option.bind_some, if_pos (isK_t u1 rfl), hcars, Option.bind_some]
    have hlt := cob_lt t ol[q] nc
    have h16 : 2 ^ nc ≤ 16 := Nat.pow_le_pow_right (n := 2) (by omega) p8
    have hb2 : (if t.1 613 = 0 then cob t ol[q] nc else 0) < 2147483648 := by split <;> omega
    rw [take_flt _ hi2]
    by_cases y : 0 < (if t.1 613 = 0 then cob t ol[q] nc else 0)
    · rw [if_neg (by rw [i_eqL hb2 (by omega)]; omega), xN_o u1 rfl rfl, Option.bind_some, Option.bind_some, toN_o hD rfl, Option.bind_some, if_pos (isK_t g3 rfl), alAdd_l (he := elO_o (show S.1 _ = some (true, false, _, _) from hD)) g3 (by
        have := List.length_filter_le (fun c => decide (0 < (if t.1 613 = 0 then cob t c nc else 0))) (ol.take q)
        rw [List.length_map]
        rw [List.length_take] at this
        omega), Option.bind_some, Option.bind_some]
      refine Or.inr ⟨_, rfl, rfl, ⟨mc + 1, ?_⟩, fun p hp => (cput_ne hp).trans (g4 p hp), g5, ?_, ?_⟩
      · rw [if_pos (by simpa using y), List.map_append]; exact cput_eq ..
      · show S.2.2.1 + 1 ≤ _; omega
      · show S.2.2.2 + 16 ≤ _; omega
    · rw [show (if t.1 613 = 0 then cob t ol[q] nc else 0) = 0 from Nat.eq_zero_of_not_pos y, if_pos (show Int32.ofNat 0 = 0 from rfl), Option.bind_some]
      refine Or.inr ⟨_, rfl, rfl, ⟨mc, ?_⟩, g4, g5, by show S.2.2.1 ≤ _; omega, by show S.2.2.2 ≤ _; omega⟩
      rw [if_neg (by simpa using y), List.append_nil]; exact g3
  · rintro ⟨S, q⟩ ⟨hq, ⟨mc, g3⟩, g4, g5, g6, g7⟩
    dsimp only at hq g3 g4 g5 g6 g7 ⊢
    subst hq
    have u2 : S.1 164 = _ := (g4 164 (by omega)).trans o1
    refine ⟨S, ?_, ⟨mc, ?_⟩, g4, g5, by omega, by omega⟩
    · rw [tmIHas_l u2 (by omega), Option.bind_some, if_neg (Nat.lt_irrefl _), if_pos rfl]
    · rw [chs_eq, hol, ← List.take_of_length_le (Nat.le_of_eq hlen)]; exact g3
