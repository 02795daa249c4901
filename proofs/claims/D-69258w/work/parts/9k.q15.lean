/-! permits: rows of steps are well made -/
section
/-- every operation finds two fractions; n stand on the pile -/
def okS : List (Int32 × Int64) → Nat → Prop
  | [], n => n ≤ 1
  | e :: l, n => if e.1 = 0 ∨ e.1 = 1 then okS l (n + 1) else ((e.1 = 2 ∨ e.1 = 3 ∨ e.1 = 4 ∨ e.1 = 5) ∧ 2 ≤ n) ∧ okS l (n - 1)
theorem okS_PT {h : lHeap} {d a : Nat} {l : List (Int32 × Int64)} (r : PT h d a l) : ∀ {l' : List (Int32 × Int64)} {n : Nat}, okS l' (n + 1) → okS (l ++ l') n := by
  induction d generalizing a l with
  | zero => exact absurd r id
  | succ d ih =>
    unfold PT at r
    intro l' n h'
    rcases r with ⟨v, r1, rfl⟩ | ⟨b, w, xs, r1, r2, r3, rfl⟩ | ⟨c, k, b1, b2, l1, l2, r1, r2, r3, r4, rfl⟩
    · show okS ((0, v.toInt64) :: l') n
      unfold okS
      rw [if_pos (Or.inl rfl)]; exact h'
    · show okS ((1, nmL xs) :: l') n
      unfold okS
      rw [if_pos (Or.inr rfl)]; exact h'
    · rw [List.append_assoc, List.append_assoc]
      refine ih r3 (ih r4 ?_)
      show okS ((k, 0) :: l') (n + 1 + 1)
      unfold okS
      have k01 : ¬ (k = 0 ∨ k = 1) ∧ (k = 2 ∨ k = 3 ∨ k = 4 ∨ k = 5) := by
        rcases r2 with ⟨_, z⟩ | ⟨_, z⟩ | ⟨_, z⟩ | ⟨_, z⟩ <;> rw [z] <;> decide
      rw [if_neg k01.1]
      exact ⟨⟨k01.2, by omega⟩, h'⟩
theorem okS_le {l : List (Int32 × Int64)} {n : Nat} (h : okS l n) : n ≤ 1 + l.length := by
  induction l generalizing n with
  | nil => exact Nat.le_trans h (by simp)
  | cons e l ih =>
    unfold okS at h
    rw [List.length_cons]
    by_cases z : e.1 = 0 ∨ e.1 = 1
    · rw [if_pos z] at h
      have := ih h
      omega
    · rw [if_neg z] at h
      have := ih h.2
      omega
end
