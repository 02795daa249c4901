/-! the bus: a station's own numbers change -/
def sRow (c : Nat) : Prop := c = 143 ∨ c = 145 ∨ c = 148 ∨ c = 149 ∨ c = 150 ∨ c = 151 ∨ c = 152 ∨ c = 153 ∨ c = 154
def sOk (t : TS) (k n m : Nat) : Prop := v01 (t.2.2.1 145 k) ∧ (∃ a, a < 65536 ∧ t.2.2.1 143 k = Int32.ofNat a) ∧
  (t.2.2.1 148 k = -1 ∨ ∃ p, t.2.2.1 148 k = Int32.ofNat p ∧ 0 < n ∧ p + 2 < 13 * m) ∧ (t.2.2.1 149 k = -1 ∨ 0 < n ∧ ∃ p, p < 1000000 ∧ t.2.2.1 149 k = Int32.ofNat p) ∧ (t.2.2.1 150 k = -1 ∨ byt (t.2.2.1 150 k) ∧ ∃ p, p < 11 ∧ t.2.2.1 151 k = Int32.ofNat p) ∧ hdO t k n
theorem hdO_cg {t t' : TS} {k n : Nat} (h : hdO t k n) (h1 : t'.2.2.1 148 k = t.2.2.1 148 k) (h2 : t'.2.2.1 149 k = t.2.2.1 149 k) (h3 : ∀ j, j < n → tl t' k j 23 = tl t k j 23) : hdO t' k n := by
  obtain ⟨a, b, c⟩ := h
  refine ⟨fun hn => ?_, fun j q1 q2 => by rw [h3 j q2]; exact b j q1 q2, by rw [h1, h2]; exact c⟩
  rw [h3 0 hn, h2]
  exact a hn
theorem R6g_cg {h h' : lHeap} {t t' : TS} {N M : Nat} (r : R6g h t N M) (c1 : h' 120 = h 120) (c2 : h' 121 = h 121) (c3 : h' 125 = h 125) (c4 : h' 126 = h 126) (r1 : ∀ j, t'.2.2.1 141 j = t.2.2.1 141 j) (r2 : ∀ j, t'.2.2.1 142 j = t.2.2.1 142 j) (r3 : ∀ j, t'.2.2.1 156 j = t.2.2.1 156 j) (r4 : ∀ j, t'.2.2.1 157 j = t.2.2.1 157 j) (hn : ∀ c, c ≠ 0 → (mI c = 6 ∨ c = 1) → t'.1 c = t.1 c) : R6g h' t' N M := by
  have n1 := hn 1 (by decide) (Or.inr rfl)
  have n500 := hn 500 (by decide) (Or.inl rfl)
  have n521 := hn 521 (by decide) (Or.inl rfl)
  have n523 := hn 523 (by decide) (Or.inl rfl)
  have n524 := hn 524 (by decide) (Or.inl rfl)
  have n525 := hn 525 (by decide) (Or.inl rfl)
  have n526 := hn 526 (by decide) (Or.inl rfl)
  unfold R6g R6i at r ⊢
  simp only [r1, r2, r3, r4, n1, n500, n521, n523, n524, n525, n526, c1, c2, c3, c4]
  exact r
theorem lett_cg {t t' : TS} (r : ∀ j, t'.2.2.1 141 j = t.2.2.1 141 j) (q c : Nat) : lett t' q c = lett t q c := by
  induction c with
  | zero => rfl
  | succ c ih => simp only [lett, ih, r]
theorem R6e_cg {h h' : lHeap} {t t' : TS} {N : Nat} (r : R6e h t N) (c1 : h' 122 = h 122) (c2 : h' 123 = h 123) (r1 : ∀ j, t'.2.2.1 141 j = t.2.2.1 141 j) (r2 : ∀ j, t'.2.2.1 155 j = t.2.2.1 155 j) (r3 : ∀ j, t'.2.2.1 157 j = t.2.2.1 157 j) (hn : ∀ c, c ≠ 0 → (mI c = 6 ∨ c = 1) → t'.1 c = t.1 c) : R6e h' t' N := by
  have n516 := hn 516 (by decide) (Or.inl rfl)
  have n517 := hn 517 (by decide) (Or.inl rfl)
  have n519 := hn 519 (by decide) (Or.inl rfl)
  have n520 := hn 520 (by decide) (Or.inl rfl)
  have n528 := hn 528 (by decide) (Or.inl rfl)
  unfold R6e at r ⊢
  simp only [lett_cg r1, r2, r3, n516, n517, n519, n520, n528, c1, c2]
  exact r
theorem R6d_cg {h h' : lHeap} {t t' : TS} {N : Nat} (r : R6d h t N) (c1 : h' 124 = h 124) (r1 : ∀ j, t'.2.2.1 142 j = t.2.2.1 142 j) (hn : t'.1 503 = t.1 503) : R6d h' t' N := by
  unfold R6d at r ⊢
  simp only [r1, hn, c1]
  exact r
theorem R6t_cg {h h' : lHeap} {t t' : TS} {k j a b m : Nat} (r : R6t h t k j a b m) (c1 : h' a = h a) (c2 : h' b = h b) (r1 : ∀ i, i < 24 → tl t' k j i = tl t k j i) : R6t h' t' k j a b m := by
  obtain ⟨q1, q2, q3, q4, q5, q6, q7, q8⟩ := r
  refine ⟨by rw [c1, q1, r1 22 (by omega), r1 23 (by omega)], by rw [c2, q2]; congr 4; exact rowC_congr (fun i hi => by rw [r1 i (by omega)]), by rw [r1 21 (by omega), q3], q4, q5, fun i hi => by rw [r1 i (by omega), r1 23 (by omega)]; exact q6 i hi, q7, q8⟩
theorem R6s_cg {h h' : lHeap} {t t' : TS} {k n : Nat} {ti bi m : Nat → Nat} (r : R6s h t k n ti bi m) (c1 : h' (127 + 3 * k) = h (127 + 3 * k)) (c2 : h' (128 + 3 * k) = h (128 + 3 * k)) (c3 : h' (129 + 3 * k) = h (129 + 3 * k)) (c4 : ∀ j, j < n → h' (ti j) = h (ti j) ∧ h' (bi j) = h (bi j)) (r0 : ∀ c, 143 ≤ c → c ≤ 154 → c ≠ 144 → c ≠ 147 → t'.2.2.1 c k = t.2.2.1 c k) (r1 : ∀ g, g < 256 → t'.2.2.1 144 (256 * k + g) = t.2.2.1 144 (256 * k + g)) (r2 : ∀ j i, j < n → i < 24 → tl t' k j i = tl t k j i) : R6s h' t' k n ti bi m := by
  obtain ⟨s1, s2, s3, s4, ⟨xs, s5, s5'⟩, s6, s7⟩ := r
  refine ⟨?_, by rw [c3, s2], by rw [r0 146 (by omega) (by omega) (by omega) (by omega), s3], s4, ⟨xs, by rw [c2, s5], fun g hg => by rw [r1 g hg]; exact s5' g hg⟩, fun j hj => R6t_cg (s6 j hj) (c4 j hj).1 (c4 j hj).2 (fun i hi => r2 j i hj hi), ?_⟩
  · rw [c1, s1]
    simp only [sC, r0 143 (by omega) (by omega) (by omega) (by omega), r0 145 (by omega) (by omega) (by omega) (by omega), r0 148 (by omega) (by omega) (by omega) (by omega), r0 149 (by omega) (by omega) (by omega) (by omega), r0 150 (by omega) (by omega) (by omega) (by omega), r0 151 (by omega) (by omega) (by omega) (by omega), r0 152 (by omega) (by omega) (by omega) (by omega), r0 153 (by omega) (by omega) (by omega) (by omega), r0 154 (by omega) (by omega) (by omega) (by omega)]
  · simp only [r0 143 (by omega) (by omega) (by omega) (by omega), r0 145 (by omega) (by omega) (by omega) (by omega), r0 148 (by omega) (by omega) (by omega) (by omega), r0 149 (by omega) (by omega) (by omega) (by omega), r0 150 (by omega) (by omega) (by omega) (by omega), r0 151 (by omega) (by omega) (by omega) (by omega)]
    obtain ⟨u1, u2, u3, u4, u5, u6⟩ := s7
    exact ⟨u1, u2, u3, u4, u5, hdO_cg u6 (r0 148 (by omega) (by omega) (by omega) (by omega)) (r0 149 (by omega) (by omega) (by omega) (by omega)) (fun j hj => r2 j 23 hj (by omega))⟩
theorem R6_cg {h : lHeap} {t t' : TS} {N Ne Nd M : Nat} (r : R6x h t N Ne Nd M) (hr : ∀ c j, mR c = 6 → t'.2.2.1 c j = t.2.2.1 c j) (hn : ∀ c, c ≠ 0 → (mI c = 6 ∨ c = 1) → t'.1 c = t.1 c) : R6x h t' N Ne Nd M := by
  obtain ⟨g, e, d, n, ti, bi, m, i1, i2, r⟩ := r
  refine ⟨R6g_cg g rfl rfl rfl rfl (fun j => hr _ j rfl) (fun j => hr _ j rfl) (fun j => hr _ j rfl) (fun j => hr _ j rfl) hn, R6e_cg e rfl rfl (fun j => hr _ j rfl) (fun j => hr _ j rfl) (fun j => hr _ j rfl) hn, R6d_cg d rfl (fun j => hr _ j rfl) (hn _ (by decide) (Or.inl rfl)), n, ti, bi, m, i1, i2, fun k hk => R6s_cg (r k hk) rfl rfl rfl (fun _ _ => ⟨rfl, rfl⟩) ?_ (fun g _ => hr _ _ rfl) (fun j i _ _ => hr _ _ rfl)⟩
  intro c h1 h2 _ _
  refine hr c k ?_
  unfold mR
  rw [if_neg (by omega), if_neg (by omega), if_neg (by omega), if_neg (by omega), if_neg (by omega), if_neg (by omega), if_neg (by omega), if_pos (by omega)]
theorem R6_st {h : lHeap} {t t' : TS} {N Ne Nd M k : Nat} (hk : k < 8) (r : R6x h t N Ne Nd M) (hr : ∀ c j, mR c = 6 → ¬ (sRow c ∧ j = k) → t'.2.2.1 c j = t.2.2.1 c j) (hn : ∀ c, c ≠ 0 → (mI c = 6 ∨ c = 1) → t'.1 c = t.1 c) (hv : ∀ n m, t.2.2.1 146 k = Int32.ofNat n → n ≤ 6 → (0 < n → 8 ≤ m ∧ m ≤ 21 ∧ tl t k 0 21 = Int32.ofNat m) → sOk t k n m → sOk t' k n m) : R6x (lUpd h (127 + 3 * k) (sC t' k)) t' N Ne Nd M := by
  obtain ⟨g, e, d, n, ti, bi, m, i1, i2, r⟩ := r
  have hN : ∀ c, ¬ sRow c → mR c = 6 → ∀ j, t'.2.2.1 c j = t.2.2.1 c j := fun c hc h6 j => hr c j h6 (fun q => hc q.1)
  have ne : ∀ q, q ≠ 127 + 3 * k → lUpd h (127 + 3 * k) (sC t' k) q = h q := fun q hq => by rw [lUpd_at, if_neg hq]
  have m6 : ∀ c, 143 ≤ c → c ≤ 154 → mR c = 6 := fun c h1 h2 => by
    unfold mR
    rw [if_neg (by omega), if_neg (by omega), if_neg (by omega), if_neg (by omega), if_neg (by omega), if_neg (by omega), if_neg (by omega), if_pos (by omega)]
  refine ⟨R6g_cg g (ne _ (by omega)) (ne _ (by omega)) (ne _ (by omega)) (ne _ (by omega)) (hN _ (by unfold sRow; omega) rfl) (hN _ (by unfold sRow; omega) rfl) (hN _ (by unfold sRow; omega) rfl) (hN _ (by unfold sRow; omega) rfl) hn, R6e_cg e (ne _ (by omega)) (ne _ (by omega)) (hN _ (by unfold sRow; omega) rfl) (hN _ (by unfold sRow; omega) rfl) (hN _ (by unfold sRow; omega) rfl) hn, R6d_cg d (ne _ (by omega)) (hN _ (by unfold sRow; omega) rfl) (hn _ (by decide) (Or.inl rfl)), n, ti, bi, m, i1, i2, fun k' hk' => ?_⟩
  have r' := r k' hk'
  by_cases hkk : k' = k
  · subst hkk
    obtain ⟨s1, s2, s3, s4, ⟨xs, s5, s5'⟩, s6, s7⟩ := r'
    refine ⟨by rw [lUpd_at, if_pos rfl], by rw [ne _ (by omega), s2], by rw [hN 146 (by unfold sRow; omega) rfl, s3], s4, ⟨xs, by rw [ne _ (by omega), s5], fun g hg => by rw [hN 144 (by unfold sRow; omega) rfl]; exact s5' g hg⟩, fun j hj => R6t_cg (s6 j hj) (ne _ ?_) (ne _ ?_) (fun i _ => hN 147 (by unfold sRow; omega) rfl _), hv _ _ s3 s4 (fun q => ⟨(s6 0 q).2.2.2.1, (s6 0 q).2.2.2.2.1, (s6 0 q).2.2.1⟩) s7⟩
    · have := (s6 j hj).2.2.2.2.2.2.1; omega
    · have := (s6 j hj).2.2.2.2.2.2.2; omega
  · refine R6s_cg r' (ne _ (by omega)) (ne _ (by omega)) (ne _ (by omega)) (fun j hj => ⟨ne _ ?_, ne _ ?_⟩) (fun c h1 h2 _ _ => hr c k' (m6 c h1 h2) (fun q => hkk q.2)) (fun g _ => hN 144 (by unfold sRow; omega) rfl _) (fun j i _ _ => hN 147 (by unfold sRow; omega) rfl _)
    · have := (r'.2.2.2.2.2.1 j hj).2.2.2.2.2.2.1; omega
    · have := (r'.2.2.2.2.2.1 j hj).2.2.2.2.2.2.2; omega
/-- which cells a part has are in the store -/
theorem rs_in {s : CS} {own : Nat → Nat} {X a : Nat} {c : lCell} (h : rs s.1 own X a = some c) : s.1 a = some c ∧ own a = X := ⟨(rs_some.mp h).2, (rs_some.mp h).1⟩
theorem stOf {s : CS} {t : TS} {own : Nat → Nat} {N Ne Nd M : Nat} (r : R6x (rs s.1 own 6) t N Ne Nd M) (v : Int32) : c_1135 120 v s = if inB v 8 = true then some (.inl (127 + 3 * v.toNatClampNeg, s)) else some (.inr (s.2.1, exs s 11)) := by
  obtain ⟨⟨⟨d, _, g1⟩, ⟨mc, g2⟩, _⟩, _, _, n, ti, bi, m, _, _, rr⟩ := r
  have h1 := (rs_in g1).1
  have h2 := (rs_in g2).1
  unfold c_1135
  rw [orB]
  cases hr : inB v 8 with
  | true =>
    obtain ⟨k, hk, rfl⟩ := inB_nat 8 (by omega) hr
    have h3 := (rs_in (rr k hk).1).1
    simp [need_eq, xN, xV, h1, toP, lLook, isK, kdo, h2, alGet_r h2 hk (by omega), toN, h3, sC, i_clamp (show k < 2147483648 by omega)]
  | false => simp [need_eq]
