/-! building: how many places lie upon lines -/
section
variable {L : PLn} {nl : Nat}
/-- the j-th place lies upon a line (j = 4 * cell + way) -/
def ctP (L : PLn) (n j : Nat) : Prop := ∃ l, l < n ∧ cvP L (j % 4) (j / 4 % 24) (j / 96) l
theorem flt_or {p q r : Nat → Bool} {l : List Nat} (h : ∀ x, r x = true → p x = true ∨ q x = true) : (l.filter r).length ≤ (l.filter p).length + (l.filter q).length := by
  induction l with
  | nil => exact Nat.le_refl _
  | cons x l ih =>
    by_cases z : r x = true
    · rw [List.filter_cons_of_pos z, List.length_cons]
      rcases h x z with a | a
      · rw [List.filter_cons_of_pos a, List.length_cons]
        by_cases b : q x = true
        · rw [List.filter_cons_of_pos b, List.length_cons]; omega
        · rw [List.filter_cons_of_neg b]; omega
      · rw [List.filter_cons_of_pos a, List.length_cons]
        by_cases b : p x = true
        · rw [List.filter_cons_of_pos b, List.length_cons]; omega
        · rw [List.filter_cons_of_neg b]; omega
    · rw [List.filter_cons_of_neg z]
      have h1 : (l.filter p).length ≤ ((x :: l).filter p).length := List.Sublist.length_le (List.Sublist.filter _ (List.sublist_cons_self _ _))
      have h2 : (l.filter q).length ≤ ((x :: l).filter q).length := List.Sublist.length_le (List.Sublist.filter _ (List.sublist_cons_self _ _))
      omega
theorem cv_48 (l J : Nat) (hJ : J ≤ 2304) : by classical exact (((List.range J).filter (fun j => decide (cvP L (j % 4) (j / 4 % 24) (j / 96) l))).length ≤ 48) := by
  classical
  have key : ∀ f g : Nat → Nat, (∀ j, j < 2304 → cvP L (j % 4) (j / 4 % 24) (j / 96) l → ∃ y, y < 24 ∧ (j = f y ∨ j = g y)) → ((List.range J).filter (fun j => decide (cvP L (j % 4) (j / 4 % 24) (j / 96) l))).length ≤ 48 := by
    intro f g h
    have := List.Nodup.length_le_of_subset (List.nodup_range.sublist List.filter_sublist : ((List.range J).filter (fun j => decide (cvP L (j % 4) (j / 4 % 24) (j / 96) l))).Nodup) (l₂ := (List.range 24).map f ++ (List.range 24).map g) (fun j hj => by
      obtain ⟨h1, h2⟩ := List.mem_filter.mp hj
      have h1 := List.mem_range.mp h1
      obtain ⟨y, h3, h4⟩ := h j (by omega) (of_decide_eq_true h2)
      rcases h4 with h4 | h4
      · exact List.mem_append.mpr (Or.inl (List.mem_map.mpr ⟨y, List.mem_range.mpr h3, h4.symm⟩))
      · exact List.mem_append.mpr (Or.inr (List.mem_map.mpr ⟨y, List.mem_range.mpr h3, h4.symm⟩)))
    rw [List.length_append, List.length_map, List.length_map, List.length_range] at this
    exact this
  by_cases z : pFl L l = true
  · refine key (fun x => 4 * (24 * (pY L l - 1) + x) + 2) (fun x => 4 * (24 * pY L l + x) + 3) (fun j hj h => ?_)
    unfold cvP at h
    by_cases w : j % 4 < 2
    · rw [if_pos w, z] at h; exact absurd h.1 (by decide)
    · rw [if_neg w] at h
      refine ⟨j / 4 % 24, by omega, ?_⟩
      obtain ⟨_, h2, _⟩ := h
      by_cases v : j % 4 = 2
      · rw [if_pos v] at h2; left; omega
      · rw [if_neg v] at h2; right; omega
  · refine key (fun y => 4 * (24 * y + (pX L l - 1))) (fun y => 4 * (24 * y + pX L l) + 1) (fun j hj h => ?_)
    unfold cvP at h
    by_cases w : j % 4 < 2
    · rw [if_pos w] at h
      refine ⟨j / 96, by omega, ?_⟩
      obtain ⟨_, h2, _⟩ := h
      by_cases v : j % 4 = 0
      · rw [if_pos v] at h2; left; omega
      · rw [if_neg v] at h2; right; omega
    · rw [if_neg w] at h; exact absurd h.1 z
noncomputable def ctN (L : PLn) (n J : Nat) : Nat := by classical exact (((List.range J).filter (fun j => decide (ctP L n j))).length)
theorem ctN_s (n J : Nat) : by classical exact (ctN L n (J + 1) = ctN L n J + if ctP L n J then 1 else 0) := by
  classical
  unfold ctN
  rw [flt_s]
  congr 1
  by_cases z : ctP L n J
  · rw [if_pos z, if_pos (decide_eq_true z)]
  · rw [if_neg z, if_neg (fun w => z (of_decide_eq_true w))]
theorem ctN_le (n J : Nat) (hJ : J ≤ 2304) : ctN L n J ≤ 48 * n := by
  classical
  induction n with
  | zero =>
    unfold ctN
    rw [List.filter_eq_nil_iff.mpr (fun j _ w => by obtain ⟨l, hl, _⟩ := of_decide_eq_true w; exact absurd hl (Nat.not_lt_zero _))]
    exact Nat.le_refl _
  | succ n ih =>
    have h := flt_or (l := List.range J) (r := fun j => decide (ctP L (n + 1) j)) (p := fun j => decide (ctP L n j)) (q := fun j => decide (cvP L (j % 4) (j / 4 % 24) (j / 96) n)) (fun j hj => by
      obtain ⟨l, hl, h⟩ := of_decide_eq_true hj
      by_cases z : l = n
      · rw [z] at h; exact Or.inr (decide_eq_true h)
      · exact Or.inl (decide_eq_true ⟨l, by omega, h⟩))
    have h2 := cv_48 (L := L) n J hJ
    unfold ctN at ih ⊢
    omega
end
