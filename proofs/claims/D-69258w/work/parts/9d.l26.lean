/-! the lifts: give on both sides -/
theorem R8x_fin {h h' : lHeap} {t T : TS} {nc nk : Nat} {C D M M' : Nat → Nat} {b : Nat → Option Nat} (r : R8x h t nc nk C D M b) (h1 : ∃ nw hm : Int32, ∃ lst : Int64, h' 162 = some (true, false, 49, [.ref 163, .ref 164, .int (t.1 606), .int nw, .int hm, .int (t.1 1), .ref 165, .ref 166, .ref 167, .ref 168, .long lst, .ref 169])) (h2 : ∃ mc es, h' 165 = some (true, false, 1013, .int mc :: es)) (h3 : ∃ mc es, h' 166 = some (true, false, 1013, .int mc :: es)) (h4 : ∃ f : Nat → Int32, h' 167 = some (true, true, 0, rowC (fun i => .int (f i)) 4)) (h5 : ∃ f : Nat → Int32, h' 168 = some (true, true, 0, rowC (fun i => .int (f i)) 4))
    (hq : ∀ q c, q ≠ 162 → q ≠ 165 → q ≠ 166 → q ≠ 167 → q ≠ 168 → q ≠ 169 → h q = some c → h' q = some c) (g1 : ∀ c, c = 1 ∨ c = 600 ∨ c = 606 ∨ c = 612 → T.1 c = t.1 c) (g2 : ∀ c, 158 ≤ c → c ≤ 167 → T.2.2.1 c = t.2.2.1 c) (hM : R8m h' T nk nc M') : R8x h' T nc nk C D M' b := by
  obtain ⟨_, ⟨m1, p2⟩, _, _, _, _, p7, p8, p9, p10, p11, p12, p13, p14, p15, p16, p17, p18, ⟨mo, eo, o1, o2, o3, o4⟩, _⟩ := r
  have e := fun c a b => g2 c a b
  have hk : ∀ q c, 179 ≤ q → h q = some c → h' q = some c := fun q c hq1 e => hq q c (by omega) (by omega) (by omega) (by omega) (by omega) (by omega) e
  obtain ⟨nw, hm, lst, h1⟩ := h1
  refine ⟨⟨nw, hm, lst, by rw [g1 606 (by omega), g1 1 (by omega)]; exact h1⟩, ⟨m1, hq _ _ (by omega) (by omega) (by omega) (by omega) (by omega) (by omega) p2⟩, h2, h3, h4, h5, by rw [g1 600 (by omega)]; exact p7, p8, by rw [g1 606 (by omega)]; exact p9, p10, by rw [g1 1 (by omega)]; exact p11, by rw [g1 1 (by omega)]; exact p12, by rw [g1 612 (by omega)]; exact p13, ?_, p15, ?_, ?_, ?_, ⟨mo, eo, hq _ _ (by omega) (by omega) (by omega) (by omega) (by omega) (by omega) o1, by rw [e 166 (by omega) (by omega)]; exact o2, o3, o4⟩, hM⟩
  · intro k hk1
    unfold carC okCar
    rw [e 158 (by omega) (by omega), e 159 (by omega) (by omega), e 160 (by omega) (by omega), e 161 (by omega) (by omega), e 162 (by omega) (by omega)]
    obtain ⟨y1, y2, y3⟩ := p14 k hk1
    exact ⟨hk _ _ y3 y1, y2, y3⟩
  · intro c hc
    unfold calC okCall isO
    rw [g1 612 (by omega), e 163 (by omega) (by omega), e 164 (by omega) (by omega), e 165 (by omega) (by omega), e 166 (by omega) (by omega), e 167 (by omega) (by omega)]
    obtain ⟨y1, y2, y3⟩ := p16 c hc
    exact ⟨y1, y2, fun hO => ⟨hk _ _ (y3 hO).2 (y3 hO).1, (y3 hO).2⟩⟩
  · unfold isO
    rw [e 166 (by omega) (by omega)]
    exact p17
  · unfold isO
    rw [e 166 (by omega) (by omega), e 167 (by omega) (by omega)]
    exact p18
theorem R8m_mono {h h' : lHeap} {T : TS} {nk nc : Nat} {M : Nat → Nat} (r : R8m h T nk nc M) (h1 : ∀ x, h 169 = some x → h' 169 = some x) (h2 : ∀ c x, c < nk → ¬ T.2.2.1 172 c = -1 → h (M c) = some x → h' (M c) = some x) : R8m h' T nk nc M := by
  obtain ⟨mm, em, q1, q2, q3, q4, q5, q6⟩ := r
  exact ⟨mm, em, h1 _ q1, q2, q3, q4, fun c a1 a2 => ⟨(q5 c a1 a2).1, h2 c _ a1 a2 (q5 c a1 a2).2.1, (q5 c a1 a2).2.2⟩, q6⟩
theorem R8m_cg {h : lHeap} {t T : TS} {nk nc : Nat} {M : Nat → Nat} (r : R8m h t nk nc M) (g : ∀ c j, 172 ≤ c → c ≤ 175 → T.2.2.1 c j = t.2.2.1 c j) : R8m h T nk nc M := by
  obtain ⟨mm, em, q1, q2, q3, q4, q5, q6⟩ := r
  have e := fun j => g 172 j (by omega) (by omega)
  refine ⟨mm, em, q1, by simp only [e]; exact q2, q3, q4, fun c a1 a2 => ?_, fun c a1 a2 => by rw [e]; exact q6 c a1 a2⟩
  rw [e] at a2
  unfold toC
  rw [e, g 173 c (by omega) (by omega), g 174 c (by omega) (by omega), g 175 c (by omega) (by omega)]
  exact q5 c a1 a2
theorem mayG_cg {t T : TS} (h : Chl t T) (nc c : Nat) : mayG T nc c = mayG t nc c := by
  unfold mayG
  rw [h.2.2.2 166 c (by omega), h.1 613 (by omega), cob_cg h]
theorem chs_cg {t T : TS} (h : Chl t T) (nc nk : Nat) : chs T nc nk = chs t nc nk := by
  unfold chs
  congr 1
  funext c
  exact mayG_cg h nc c
theorem cob_pos {t : TS} {c nc : Nat} (h : 0 < cob t c nc) : ∃ k, k < nc ∧ fit t k c = true := by
  induction nc with
  | zero => exact absurd h (Nat.lt_irrefl 0)
  | succ m ih =>
    by_cases y : fit t m c = true
    · exact ⟨m, by omega, y⟩
    · unfold cob at h
      rw [if_neg y, Nat.add_zero] at h
      obtain ⟨k, h1, h2⟩ := ih h
      exact ⟨k, by omega, h2⟩
theorem chs_get {t : TS} {nc nk i : Nat} (hi : i < (chs t nc nk).length) : (chs t nc nk).getD i 0 < nk ∧ mayG t nc ((chs t nc nk).getD i 0) = true := by
  rw [List.getD_eq_getElem?_getD, List.getElem?_eq_getElem hi]
  have := List.getElem_mem hi
  show (chs t nc nk)[i] < nk ∧ mayG t nc (chs t nc nk)[i] = true
  unfold chs at this ⊢
  rw [List.mem_filter, List.mem_range] at this
  exact this
theorem chs_mono {t : TS} {nc nk i j : Nat} (hij : i < j) (hj : j < (chs t nc nk).length) : (chs t nc nk).getD i 0 < (chs t nc nk).getD j 0 := by
  rw [List.getD_eq_getElem?_getD, List.getElem?_eq_getElem (show i < _ by omega), List.getD_eq_getElem?_getD, List.getElem?_eq_getElem hj]
  have hp : (chs t nc nk).Pairwise (· < ·) := List.pairwise_lt_range.sublist List.filter_sublist
  exact List.pairwise_iff_getElem.mp hp i j (by omega) hj hij
theorem mayG_e {t : TS} {nc c : Nat} (h : mayG t nc c = true) : isO t c ∧ t.1 613 = 0 ∧ 0 < cob t c nc := by
  unfold mayG at h
  rw [Bool.and_eq_true, decide_eq_true_eq, decide_eq_true_eq] at h
  refine ⟨h.1, ?_⟩
  by_cases y : t.1 613 = 0
  · rw [if_pos y] at h; exact ⟨y, h.2⟩
  · rw [if_neg y] at h; exact absurd h.2 (Nat.lt_irrefl 0)
/-- what stands behind the choice -/
theorem lv_of {h : lHeap} {t T : TS} {nc nk : Nat} {C D M : Nat → Nat} {b : Nat → Option Nat} (r : R8x h t nc nk C D M b) (hT : Chl t T) (h14 : T.1 614 = Int32.ofNat (chs T nc nk).length) (h168 : ∀ j, j < (chs T nc nk).length → T.2.2.1 168 j = Int32.ofNat ((chs T nc nk).getD j 0)) : Lv T nc (chs T nc nk).length (fun i => (chs T nc nk).getD i 0) := by
  obtain ⟨mo, eo, _, _, _, _, o5⟩ := li_len r
  obtain ⟨_, _, _, _, _, _, p7, p8, p9, p10, p11, p12, p13, p14, p15, p16, p17, p18, _⟩ := r
  have hr := fun c (hc : c ≠ 168) => funext (fun j => hT.2.2.2 c j hc)
  refine ⟨(hT.1 600 (by omega)).trans p7, p8, ?_, ?_, fun k hk => ?_, fun i hi => ?_, fun i j hij hj => chs_mono hij hj, h14, h168⟩
  · rw [chs_cg hT]; exact Nat.le_trans (chs_len t nc nk) o5
  · rw [hT.1 612 (by omega)]
    obtain ⟨tm, y1, y2⟩ := p13
    rw [y2, bN_of (by omega)]; exact ⟨rfl, y1⟩
  · have := okCar_n (p14 k hk).2.1
    unfold nCar at this ⊢
    rw [hr 158 (by omega), hr 159 (by omega), hr 160 (by omega)]
    exact this
  · obtain ⟨y1, y2⟩ := chs_get hi
    obtain ⟨_, ⟨z1, z2, ⟨v, z3, z4⟩, z5⟩, _⟩ := p16 _ y1
    obtain ⟨tm, w1, w2⟩ := p13
    have hle : bN (t.1 612) = tm := by rw [w2, bN_of (by omega)]
    refine ⟨Nat.lt_of_lt_of_le y1 p10, ?_, by rw [hr 167 (by omega)]; exact z5⟩
    unfold nCal
    rw [hr 163 (by omega), hr 164 (by omega), hr 165 (by omega), hT.1 612 (by omega)]
    refine ⟨flr_n z1, flr_n z2, ?_⟩
    rw [z4, bN_of (by omega)]
    exact ⟨rfl, z3⟩
