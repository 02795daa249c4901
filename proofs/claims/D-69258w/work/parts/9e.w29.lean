/-! the warden: a zone's number in a row -/
section
variable {s : CS} {U : TS} {r sz wc w np b0 mx zm am rl nr : Nat} {bg en Z ZP A RW : Nat → Nat}
theorem nu_in {a : Int32} {n : Nat} (hn : n < 2147483648) (h1 : ¬ a < 0) (h2 : ¬ Int32.ofNat n < a) : ∃ k, k ≤ n ∧ a = Int32.ofNat k := by
  obtain ⟨k, h3, rfl⟩ := i_of h1
  refine ⟨k, ?_, rfl⟩
  rcases Nat.lt_or_ge n k with z | z
  · exact absurd ((i_lt (by omega) (by omega)).mpr z) h2
  · exact z
/-- the twin takes a zone -/
theorem t_tkZ (h : TWd U sz wc w bg en) (h3 : U.1 311 < 0) (v1 : Int32) (hv : ∀ z, z < 20 → v01 (U.2.2.1 105 (20 + z))) : (∃ z, z < 20 ∧ inN U bg en wc w 0 19 ∧ nuW U bg en w = Int32.ofNat z ∧ U.2.2.1 105 (20 + z) = 1 ∧ Int32.ofNat z ≠ v1 ∧ t_788 v1 U = some (Int32.ofNat z, ptI U 310 (Int32.ofNat (w + 1)))) ∨ ((¬ inN U bg en wc w 0 19 ∨ ∃ z, z < 20 ∧ inN U bg en wc w 0 19 ∧ nuW U bg en w = Int32.ofNat z ∧ ¬ (U.2.2.1 105 (20 + z) = 1 ∧ Int32.ofNat z ≠ v1)) ∧ ∃ x, t_788 v1 U = some (x, ptI U 311 (Int32.ofNat w))) := by
  have h' := h
  obtain ⟨t1, t2, t3, t4, t5, t6, t7, t8⟩ := h
  unfold t_788
  rw [t_lokW h' h3 0 19, Option.bind_some]
  by_cases y : inN U bg en wc w 0 19
  · obtain ⟨z, hz, ez⟩ := nu_in (n := 19) (by omega) y.2.1 y.2.2
    have e1 : (20 : Int32) + Int32.ofNat z = Int32.ofNat (20 + z) := i_add 20 z
    rw [if_pos y, if_pos h3]
    dsimp only
    rw [ez, e1, rdI_n (by omega) (by omega), Option.bind_some]
    rcases hv z (by omega) with k | k
    · refine Or.inr ⟨Or.inr ⟨z, by omega, y, rfl, fun q => by rw [k] at q; exact absurd q.1 (by decide)⟩, Int32.ofNat z, ?_⟩
      rw [k, if_pos rfl, Option.bind_some, tw_no h3 t2 (by omega), Option.bind_some, if_pos rfl]
    · by_cases x : Int32.ofNat z = v1
      · refine Or.inr ⟨Or.inr ⟨z, by omega, y, rfl, fun q => q.2 x⟩, Int32.ofNat z, ?_⟩
        rw [k, if_neg (show ¬ (1 : Int32) = 0 by decide), if_pos x, Option.bind_some, tw_no h3 t2 (by omega), Option.bind_some, if_pos rfl]
      · refine Or.inl ⟨z, by omega, y, rfl, k, x, ?_⟩
        rw [k, if_neg (show ¬ (1 : Int32) = 0 by decide), if_neg x, Option.bind_some, tw_ok h3, Option.bind_some, if_neg (show ¬ (1 : Int32) = 0 by decide), Option.bind_some, t2, i_suc]
  · refine Or.inr ⟨Or.inl y, -1, ?_⟩
    rw [if_neg y, if_neg (show ¬ (ptI U 311 (Int32.ofNat w)).1 311 < 0 by rw [pt_1, if_pos rfl]; exact i_nlt0 (by omega))]
end
