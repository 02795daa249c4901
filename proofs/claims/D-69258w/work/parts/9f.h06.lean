/-! the gate: a card, a right -/
theorem c_since {s : CS} {a : Nat} (hw : wfS s) (h : s.1 a = some (true, false, 83, [.null])) : ∃ S, c_999 a s = some S ∧ wfS S ∧ S.2.1 = s.2.1 + 1 ∧ S.1 a = some (true, false, 83, [.ref s.2.1]) ∧ S.1 s.2.1 = some (true, false, 1042, [.int 0]) ∧ (∀ q, q < s.2.1 → q ≠ a → S.1 q = s.1 q) ∧ S.2.2.1 = s.2.2.1 + 1 ∧ S.2.2.2 = s.2.2.2 + 9 := by
  have la := wf_lt hw h
  unfold c_999
  obtain ⟨S1, e1, a1, a2, a3, a4, a5, a6⟩ := nw_o (s := s) 42 [.null, .null, .null, .null, .int 0, .int 0, .null, .null, .null] hw
  rw [e1]; repeat (first | rw [Option.bind_some] | rw [Sum.elim_inl] | rw [Sum.elim_inr])
  try dsimp only
  rw [if_pos (isK_t a1 rfl), tmInit_o a1]; repeat (first | rw [Option.bind_some] | rw [Sum.elim_inl] | rw [Sum.elim_inr])
  have g1 : (cup S1 s.2.1 (true, false, 1042, [.int 0])).1 a = some (true, false, 83, [.null]) := by rw [cup_ne (by omega), a2 a (by omega)]; exact h
  rw [xP_c (fs' := [.ref s.2.1]) g1 rfl (by simp) rfl]; repeat (first | rw [Option.bind_some] | rw [Sum.elim_inl] | rw [Sum.elim_inr])
  exact ⟨_, rfl, wf_cup (wf_cup a4 (by omega)) (by show a < S1.2.1; omega), a3, cup_eq .., by rw [cup_ne (by omega), cup_eq], fun q h1 h2 => by rw [cup_ne h2, cup_ne (by omega), a2 q (by omega)], a5, a6⟩
/-- one more telling: what stays of cards and rights -/
theorem tl_c {h h' : lHeap} {t U : TS} {nT nS nC k w m c : Nat} {S C CS' CM CT C2 S2 M2 T2 : Nat → Nat} (v : V2c h t nT nS nC S C CS' CM CT) (hc : c < nC) (hne : ¬ (k = 3 ∧ w = c) ∧ ¬ (k = 0 ∧ w = c)) (hk : k < 4 ∧ w < 1000) (hh : hS h h' (fun _ d => d.2.2.1 = 82 ∨ d.2.2.1 = 83 ∨ d.2.2.1 = 1042)) (hU : U.2.2.1 37 = t.2.2.1 37 ∧ U.2.2.1 38 = t.2.2.1 38 ∧ U.2.2.1 39 = t.2.2.1 39 ∧ U.2.2.1 30 c = t.2.2.1 30 c ∧ U.2.2.1 31 c = t.2.2.1 31 c) (e1 : C2 c = C c) (e2 : S2 c = CS' c) (e3 : M2 c = CM c) (e4 : T2 c = CT c) : h' (C2 c) = some (carD (tllT U nT k w m) S S2 T2 c) ∧ 179 ≤ C2 c ∧ 179 ≤ S2 c ∧ 179 ≤ M2 c ∧ bel ((tllT U nT k w m).2.2.1 30 c) nS ∧ Snc h' (tllT U nT k w m) (nT + 1) 3 c (S2 c) (M2 c) ∧ T2 c < nT + 1 ∧ isTl (tllT U nT k w m) 0 c (T2 c) ∧ ∀ j, j < nT + 1 → isTl (tllT U nT k w m) 0 c j → j = T2 c := by
  obtain ⟨d1, d2, d3, d4, d5, d6, d7, d8, d9⟩ := v.2.2.2.1 c hc
  have hc60 : c < 60 := Nat.lt_of_lt_of_le hc v.2.2.1
  have tl : ∀ k' w' j, k' < 4 → w' < 1000 → (isTl (tllT U nT k w m) k' w' j ↔ if j = nT then k' = k ∧ w' = w else isTl t k' w' j) := fun k' w' j h1 h2 => by
    rw [tll_isTl (by omega) (by omega) (by omega) (by omega)]
    unfold isTl
    rw [hU.1, hU.2.1]
  rw [e1, e2, e3, e4]
  have q30 : (tllT U nT k w m).2.2.1 30 c = t.2.2.1 30 c := by rw [tll_r (by omega)]; exact hU.2.2.2.1
  have q31 : (tllT U nT k w m).2.2.1 31 c = t.2.2.1 31 c := by rw [tll_r (by omega)]; exact hU.2.2.2.2
  refine ⟨?_, d2, d3, d4, by rw [q30]; exact d5, ?_, by omega, ?_, fun j hj hT => ?_⟩
  · unfold carD at *
    rw [q30, q31, e2, e4]
    exact hh _ _ (Or.inl rfl) d1
  · have hS : Snc h U nT 3 c (CS' c) (CM c) := Snc_cg d6 (fun _ _ _ h => h) (fun c hc => by simp at hc; rcases hc with rfl | rfl | rfl; exact hU.1; exact hU.2.1; exact hU.2.2.1)
    obtain ⟨x1, mc, es, x2, x3⟩ := hS
    refine Snc_tell (h := h) (by omega) (by omega) (by omega) (by omega) (fun z => hne.1 ⟨z.1.symm, z.2.symm⟩) ⟨x1, mc, es, x2, x3⟩ ?_ ?_
    · rw [x1]; exact hh _ _ (Or.inr (Or.inl rfl)) x1
    · rw [x2]; exact hh _ _ (Or.inr (Or.inr rfl)) x2
  · rw [tl 0 c _ (by omega) (by omega), if_neg (by omega)]; exact d8
  · rw [tl 0 c _ (by omega) (by omega)] at hT
    by_cases y : j = nT
    · rw [if_pos y] at hT; exact absurd ⟨hT.1.symm, hT.2.symm⟩ hne.2
    · rw [if_neg y] at hT; exact d9 j (by omega) hT
theorem tl_r {h h' : lHeap} {t U : TS} {nT nR k w m c : Nat} {E RS RM' RT E2 S2 M2 T2 : Nat → Nat} (v : V2r h t nT nR E RS RM' RT) (hc : c < nR) (hne : ¬ (k = 2 ∧ w = c) ∧ ¬ (k = 1 ∧ w = c)) (hk : k < 4 ∧ w < 1000) (hh : hS h h' (fun _ d => d.2.2.1 = 84 ∨ d.2.2.1 = 83 ∨ d.2.2.1 = 1042)) (hU : U.2.2.1 37 = t.2.2.1 37 ∧ U.2.2.1 38 = t.2.2.1 38 ∧ U.2.2.1 39 = t.2.2.1 39 ∧ U.2.2.1 32 c = t.2.2.1 32 c ∧ U.2.2.1 33 c = t.2.2.1 33 c ∧ U.2.2.1 34 c = t.2.2.1 34 c ∧ U.2.2.1 35 c = t.2.2.1 35 c ∧ U.2.2.1 36 c = t.2.2.1 36 c) (e1 : E2 c = E c) (e2 : S2 c = RS c) (e3 : M2 c = RM' c) (e4 : T2 c = RT c) : h' (E2 c) = some (rigC (tllT U nT k w m) S2 T2 c) ∧ 179 ≤ E2 c ∧ 179 ≤ S2 c ∧ 179 ≤ M2 c ∧ bel ((tllT U nT k w m).2.2.1 36 c) 1000001 ∧ Snc h' (tllT U nT k w m) (nT + 1) 2 c (S2 c) (M2 c) ∧ T2 c < nT + 1 ∧ isTl (tllT U nT k w m) 1 c (T2 c) ∧ ∀ j, j < nT + 1 → isTl (tllT U nT k w m) 1 c j → j = T2 c := by
  obtain ⟨d1, d2, d3, d4, d5, d6, d7, d8, d9⟩ := v.2.2.2.1 c hc
  have hc60 : c < 60 := Nat.lt_of_lt_of_le hc (Nat.le_trans v.2.2.1 (by omega))
  have tl : ∀ k' w' j, k' < 4 → w' < 1000 → (isTl (tllT U nT k w m) k' w' j ↔ if j = nT then k' = k ∧ w' = w else isTl t k' w' j) := fun k' w' j h1 h2 => by
    rw [tll_isTl (by omega) (by omega) (by omega) (by omega)]
    unfold isTl
    rw [hU.1, hU.2.1]
  rw [e1, e2, e3, e4]
  have q32 : (tllT U nT k w m).2.2.1 32 c = t.2.2.1 32 c := by rw [tll_r (by omega)]; exact hU.2.2.2.1
  have q33 : (tllT U nT k w m).2.2.1 33 c = t.2.2.1 33 c := by rw [tll_r (by omega)]; exact hU.2.2.2.2.1
  have q34 : (tllT U nT k w m).2.2.1 34 c = t.2.2.1 34 c := by rw [tll_r (by omega)]; exact hU.2.2.2.2.2.1
  have q35 : (tllT U nT k w m).2.2.1 35 c = t.2.2.1 35 c := by rw [tll_r (by omega)]; exact hU.2.2.2.2.2.2.1
  have q36 : (tllT U nT k w m).2.2.1 36 c = t.2.2.1 36 c := by rw [tll_r (by omega)]; exact hU.2.2.2.2.2.2.2
  refine ⟨?_, d2, d3, d4, by rw [q36]; exact d5, ?_, by omega, ?_, fun j hj hT => ?_⟩
  · unfold rigC at *
    rw [q32, q33, q34, q35, q36, e2, e4]
    exact hh _ _ (Or.inl rfl) d1
  · have hS : Snc h U nT 2 c (RS c) (RM' c) := Snc_cg d6 (fun _ _ _ h => h) (fun c hc => by simp at hc; rcases hc with rfl | rfl | rfl; exact hU.1; exact hU.2.1; exact hU.2.2.1)
    obtain ⟨x1, mc, es, x2, x3⟩ := hS
    refine Snc_tell (h := h) (by omega) (by omega) (by omega) (by omega) (fun z => hne.1 ⟨z.1.symm, z.2.symm⟩) ⟨x1, mc, es, x2, x3⟩ ?_ ?_
    · rw [x1]; exact hh _ _ (Or.inr (Or.inl rfl)) x1
    · rw [x2]; exact hh _ _ (Or.inr (Or.inr rfl)) x2
  · rw [tl 1 c _ (by omega) (by omega), if_neg (by omega)]; exact d8
  · rw [tl 1 c _ (by omega) (by omega)] at hT
    by_cases y : j = nT
    · rw [if_pos y] at hT; exact absurd ⟨hT.1.symm, hT.2.symm⟩ hne.2
    · rw [if_neg y] at hT; exact d9 j (by omega) hT
theorem tl_p {h : lHeap} {t : TS} {nT nP nC nL nC' : Nat} {P C G D L C2 : Nat → Nat} {RW : Nat → Nat → Nat} (v : V3 h t nT nP nC nL P C G D L RW) (h1 : nC ≤ nC') (h2 : ∀ c, c < nC → C2 c = C c) (h3 : nC ≤ 60) : V3 h t (nT + 1) nP nC' nL P C2 G D L RW := by
  obtain ⟨x1, x2, x3, x4, x5⟩ := v
  refine ⟨x1, x2, x3, fun p hp => ⟨(x4 p hp).1, (x4 p hp).2.1, ?_⟩, x5⟩
  obtain ⟨a1, a2, a3, a4, a5, a6, a7, a8, ⟨n, b1, b2, b3, b4⟩, a10⟩ := (x4 p hp).2.2
  refine ⟨a1, a2, a3, a4, a5, a6, a7, ?_, ⟨n, b1, b2, b3, fun i hi => ?_⟩, a10⟩
  · rcases a8 with z | ⟨v, z1, z2⟩
    · exact Or.inl z
    · exact Or.inr ⟨v, by omega, z2⟩
  · obtain ⟨c1, c2, ⟨v, c3, c3'⟩, c4⟩ := b4 i hi
    have hb : bN (t.2.2.1 17 (20 * p + i)) = v := by rw [c3', bN_of (by omega)]
    refine ⟨?_, c2, ⟨v, by omega, c3'⟩, c4⟩
    unfold rowG at *
    rw [hb] at c1 ⊢
    rw [h2 v c3]; exact c1
