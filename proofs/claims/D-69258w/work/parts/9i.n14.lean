/-! the plan: where lines are cut, how many points and pieces there are -/
section
variable {L : PLn} {nl : Nat}
theorem on_a {l x y : Nat} (h : onL L l x y) : ∃ d, d ≤ pN L l ∧ x = aX L l d ∧ y = aY L l d := by
  unfold onL at h
  cases hF : pFl L l with
  | true =>
    have := pHX_t hF
    refine ⟨x - pX L l, by omega, ?_⟩
    have := aX_t (d := x - pX L l) hF
    omega
  | false =>
    have := pHX_f hF
    refine ⟨y - pY L l, by omega, ?_⟩
    have := aX_f (d := y - pY L l) hF
    omega
theorem a_inj {l d e : Nat} (h1 : aX L l d = aX L l e) (h2 : aY L l d = aY L l e) : d = e := by
  cases hF : pFl L l with
  | true => have := aX_t (d := d) hF; have := aX_t (d := e) hF; omega
  | false => have := aX_f (d := d) hF; have := aX_f (d := e) hF; omega
theorem cts_i (hg : gdL L nl) {l d : Nat} (hl : l < nl) : d ∈ cts L nl l ↔ d = 0 ∨ d = pN L l ∨ (d ≤ pN L l ∧ ∃ m, m < nl ∧ pFl L m ≠ pFl L l ∧ onL L m (aX L l d) (aY L l d)) := by
  constructor
  · intro h
    obtain ⟨h1, l', hl', h2, h3⟩ := cts_mem.mp h
    by_cases z0 : d = 0
    · exact Or.inl z0
    by_cases zN : d = pN L l
    · exact Or.inr (Or.inl zN)
    refine Or.inr (Or.inr ⟨h1, ?_⟩)
    by_cases e : l' = l
    · subst e
      rcases h3 with h3 | ⟨m, h4, h5, h6⟩
      · exfalso
        unfold endL at h3
        cases hF : pFl L l' with
        | true => have := pHX_t hF; have := aX_t (d := d) hF; omega
        | false => have := pHX_f hF; have := aX_f (d := d) hF; omega
      · exact ⟨m, h4, h5, h6⟩
    · by_cases e2 : pFl L l' = pFl L l
      · exfalso
        have := hg.2.2 l' l hl' hl e e2
        unfold onL at h2
        cases hF : pFl L l with
        | true =>
          have hF' : pFl L l' = true := by rw [e2]; exact hF
          rw [if_pos hF'] at this
          have := pHX_t hF; have := pHX_t hF'; have := aX_t (d := d) hF
          omega
        | false =>
          have hF' : pFl L l' = false := by rw [e2]; exact hF
          rw [if_neg (by rw [hF']; decide)] at this
          have := pHX_f hF; have := pHX_f hF'; have := aX_f (d := d) hF
          omega
      · exact ⟨l', hl', e2, h2⟩
  · rintro (rfl | rfl | ⟨h1, m, h2, h3, h4⟩)
    · exact cts_0 hl
    · exact cts_N hl
    · exact cts_mem.mpr ⟨h1, cr_pt hl h2 h3 (a_on h1) h4⟩
theorem cts_len (hg : gdL L nl) {l : Nat} (hl : l < nl) : (cts L nl l).length ≤ nl + 1 := by
  have h1 : cts L nl l ⊆ pN L l :: (List.range nl).map (fun m => if pFl L l = true then pX L m - pX L l else pY L m - pY L l) := by
    intro d hd
    rcases (cts_i hg hl).mp hd with h | h | ⟨h1, m, h2, h3, h4⟩
    · refine List.mem_cons_of_mem _ (List.mem_map.mpr ⟨l, List.mem_range.mpr hl, ?_⟩)
      rw [h]
      split <;> omega
    · rw [h]; exact List.mem_cons_self
    · refine List.mem_cons_of_mem _ (List.mem_map.mpr ⟨m, List.mem_range.mpr h2, ?_⟩)
      unfold onL at h4
      cases hF : pFl L l with
      | true =>
        have hm : pFl L m = false := by cases e : pFl L m with
          | true => rw [hF, e] at h3; exact absurd rfl h3
          | false => rfl
        have := pHX_f hm; have := aX_t (d := d) hF
        rw [if_pos rfl]; omega
      | false =>
        have hm : pFl L m = true := by cases e : pFl L m with
          | false => rw [hF, e] at h3; exact absurd rfl h3
          | true => rfl
        have := pHX_t hm; have := aX_f (d := d) hF
        rw [if_neg (by decide)]; omega
  have := List.Nodup.length_le_of_subset ((cts_pw (L := L) (nl := nl) l).imp (fun z => Nat.ne_of_lt z)) h1
  simp at this
  exact this
theorem nP_le (hg : gdL L nl) : nP L nl ≤ 400 := by
  have key : ∀ n, n ≤ nl → (PC L nl n).length ≤ n * nl := by
    intro n
    induction n with
    | zero => intro _; simp [PC]
    | succ n ih =>
      intro hn
      rw [PC_succ, List.length_append, Nat.succ_mul]
      have h1 := ih (by omega)
      have h2 := cts_len hg (show n < nl by omega)
      have h3 : (pcL L nl n).length = (cts L nl n).length - 1 := by unfold pcL; rw [List.length_map, prs_len]
      omega
  have h1 := key nl (Nat.le_refl _)
  have h2 : nl * nl ≤ 20 * 20 := Nat.mul_le_mul hg.1 hg.1
  unfold nP
  omega
/-- a point by its number -/
def isQ (L : PLn) (nl q : Nat) : Prop := q < 625 ∧ isPt L nl (q / 25) (q % 25)
theorem pt_lt (hg : gdL L nl) {x y : Nat} (h : isPt L nl x y) : x < 25 ∧ y < 25 := by
  obtain ⟨l, h1, h2, _⟩ := h
  have := pX_le hg h1
  unfold onL at h2
  omega
theorem isQ_of (hg : gdL L nl) {x y : Nat} (h : isPt L nl x y) : isQ L nl (25 * x + y) := by
  have := pt_lt hg h
  exact ⟨by omega, by rw [show (25 * x + y) / 25 = x by omega, show (25 * x + y) % 25 = y by omega]; exact h⟩
theorem pts_len (hg : gdL L nl) {ps : List Nat} (hp : ps.Pairwise (· < ·)) (h : ∀ q ∈ ps, isQ L nl q) : ps.length ≤ 420 := by
  have key : ∀ n, n ≤ nl → ((List.range n).flatMap (fun l => (cts L nl l).map (fun d => 25 * aX L l d + aY L l d))).length ≤ n * (nl + 1) := by
    intro n
    induction n with
    | zero => intro _; simp
    | succ n ih =>
      intro hn
      rw [List.range_succ, List.flatMap_append, List.length_append, Nat.succ_mul]
      have h1 := ih (by omega)
      have h2 := cts_len hg (show n < nl by omega)
      have h3 : ([n].flatMap (fun l => (cts L nl l).map (fun d => 25 * aX L l d + aY L l d))).length = (cts L nl n).length := by simp
      omega
  have h1 := key nl (Nat.le_refl _)
  have h2 : nl * (nl + 1) ≤ 20 * 21 := Nat.mul_le_mul hg.1 (by have := hg.1; omega)
  have h3 : ps ⊆ (List.range nl).flatMap (fun l => (cts L nl l).map (fun d => 25 * aX L l d + aY L l d)) := by
    intro q hq
    obtain ⟨a1, a2⟩ := h q hq
    have a3 := a2
    obtain ⟨l, hl, ho, _⟩ := a3
    obtain ⟨d, d1, d2, d3⟩ := on_a ho
    refine List.mem_flatMap.mpr ⟨l, List.mem_range.mpr hl, List.mem_map.mpr ⟨d, cts_mem.mpr ⟨d1, ?_⟩, by rw [← d2, ← d3]; omega⟩⟩
    rw [← d2, ← d3]
    exact a2
  have := List.Nodup.length_le_of_subset (hp.imp (fun z => Nat.ne_of_lt z)) h3
  omega
end
