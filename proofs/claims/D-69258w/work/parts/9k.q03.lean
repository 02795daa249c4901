/-! permits: the greatest divisor -/
section
variable {s : CS} {t : TS}
theorem l_rem {x y : Int64} (hy : y ≠ 0) : (x - x / y * y).toInt = x.toInt.tmod y.toInt := by
  rw [Int64.toInt_sub, Int64.toInt_mul, Int64.toInt_div, Int.bmod_mul_bmod, Int.sub_bmod_bmod]
  have e : x.toInt - x.toInt.tdiv y.toInt * y.toInt = x.toInt.tmod y.toInt := by
    have := Int.mul_tdiv_add_tmod x.toInt y.toInt
    have cm : y.toInt * x.toInt.tdiv y.toInt = x.toInt.tdiv y.toInt * y.toInt := Int.mul_comm ..
    omega
  rw [e]
  have ry := l_rng y
  have h0 := l_n0 hy
  rcases Int.lt_or_gt_of_ne h0 with z | z
  · have h1 := Int.tmod_lt_of_pos x.toInt (b := -y.toInt) (by omega)
    have h2 := Int.lt_tmod_of_pos x.toInt (b := -y.toInt) (by omega)
    rw [Int.tmod_neg] at h1 h2
    exact Int.bmod_eq_of_le (by omega) (by omega)
  · have h1 := Int.tmod_lt_of_pos x.toInt (b := y.toInt) z
    have h2 := Int.lt_tmod_of_pos x.toInt (b := y.toInt) z
    exact Int.bmod_eq_of_le (by omega) (by omega)
theorem gd_ok (u l : Int64) : ∃ g, wh (S := Int64 × Int64) (X := Int64) (fun p4 => (if (lg_cmp p4.2 0) = 0 then some (.inr p4.1) else (if p4.2 = 0 then none else some (.inl (p4.2, p4.1 - p4.1 / p4.2 * p4.2))))) (u, l) = some g ∧ (l ≠ 0 → g ≠ 0) := by
  refine wh_ind (P := fun p => l ≠ 0 → p.1 ≠ 0 ∨ p.2 ≠ 0) (fun p => p.2.toInt.natAbs) ?_ (fun h => Or.inr h)
  rintro ⟨x, y⟩ h
  dsimp only at h ⊢
  by_cases z : y = 0
  · left
    rw [if_pos ((lc_0 _ _).mpr z)]
    refine ⟨_, rfl, fun w => ?_⟩
    rcases h w with v | v
    · exact v
    · exact absurd z v
  · right
    rw [if_neg (fun w => z ((lc_0 _ _).mp w)), if_neg z]
    refine ⟨_, rfl, fun _ => Or.inl z, ?_⟩
    rw [l_rem z]
    have h0 := l_n0 z
    rcases Int.lt_or_gt_of_ne h0 with v | v
    · have h1 := Int.tmod_lt_of_pos x.toInt (b := -y.toInt) (by omega)
      have h2 := Int.lt_tmod_of_pos x.toInt (b := -y.toInt) (by omega)
      rw [Int.tmod_neg] at h1 h2
      omega
    · have h1 := Int.tmod_lt_of_pos x.toInt (b := y.toInt) v
      have h2 := Int.lt_tmod_of_pos x.toInt (b := y.toInt) v
      omega
noncomputable def gdv (u l : Int64) : Int64 := (wh (S := Int64 × Int64) (X := Int64) (fun p4 => (if (lg_cmp p4.2 0) = 0 then some (.inr p4.1) else (if p4.2 = 0 then none else some (.inl (p4.2, p4.1 - p4.1 / p4.2 * p4.2))))) (u, l)).getD 0
noncomputable def gda (u l : Int64) : Int64 := if gdv u l < 0 then -gdv u l else gdv u l
theorem gdv_eq (u l : Int64) : wh (S := Int64 × Int64) (X := Int64) (fun p4 => (if (lg_cmp p4.2 0) = 0 then some (.inr p4.1) else (if p4.2 = 0 then none else some (.inl (p4.2, p4.1 - p4.1 / p4.2 * p4.2))))) (u, l) = some (gdv u l) := by
  obtain ⟨g, e, _⟩ := gd_ok u l
  unfold gdv
  rw [e]; rfl
theorem gda_ne {u l : Int64} (h : l ≠ 0) : gda u l ≠ 0 := by
  obtain ⟨g, e, h2⟩ := gd_ok u l
  have e2 : gdv u l = g := by unfold gdv; rw [e]; rfl
  have h3 := h2 h
  unfold gda
  rw [e2]
  split
  · intro w
    have e3 : - -g = g := Int64.neg_neg
    rw [w] at e3
    exact h3 (e3.symm.trans rfl)
  · exact h3
theorem c_gd (u l : Int64) : c_960 u l s = some (gda u l) := by
  unfold c_960 gda
  rw [gdv_eq, Option.bind_some]
  by_cases h : gdv u l < 0
  · rw [if_pos ((lc_neg _ _).mpr h), if_pos h]
  · rw [if_neg (fun w => h ((lc_neg _ _).mp w)), if_neg h]
end
