/-! cells: leave -/
section
variable {own : Nat → Nat} {s : CS} {t : TS} {nl nr nd sm : Nat} {W : Nat → Nat} {e q g wn : Nat → Int32} {sc : Nat → Nat}
theorem t_lvc {nS : Nat} (h27 : t.1 27 = Int32.ofNat nS) (hn : nS ≤ 40) {A : Type} (f : TS → Option A) : ∃ T, Option.bind (wh (S := TS × Int32) (X := TS) (fun p2 => (if p2.2 < 120 then Option.bind (stI p2.1 48 120 p2.2 0) (fun s1 => some (.inl (s1, p2.2 + 1))) else some (.inr p2.1))) (t, 0)) (fun v12 => Option.bind (wh (S := TS × Int32) (X := TS) (fun p14 => (if p14.2 < (p14.1.1 27) then Option.bind (stI p14.1 49 40 p14.2 ((0 : Int32) &&& 1)) (fun s2 => some (.inl (s2, p14.2 + 1))) else some (.inr p14.1))) (v12, 0)) f) = f T ∧ T.1 = t.1 ∧ (∀ c, c ≠ 48 → c ≠ 49 → T.2.2.1 c = t.2.2.1 c) ∧ (∀ i, i < 120 → T.2.2.1 48 i = 0) ∧ (∀ k, k < nS → T.2.2.1 49 k = 0) ∧ (∀ Z, Z ≠ 9 → rt T Z = rt t Z) := by
  obtain ⟨V, e1, v1, v2, v3, v4⟩ := wh_cnt (f := ((fun p2 => (if p2.2 < 120 then Option.bind (stI p2.1 48 120 p2.2 0) (fun s1 => some (.inl (s1, p2.2 + 1))) else some (.inr p2.1))) : TS × Int32 → Option (Sum (TS × Int32) TS))) (a := (t, 0)) (Q := fun V => V.1 = t.1 ∧ (∀ c, c ≠ 48 → V.2.2.1 c = t.2.2.1 c) ∧ (∀ i, i < 120 → V.2.2.1 48 i = 0) ∧ (∀ Z, Z ≠ 9 → rt V Z = rt t Z)) 120 (fun k a => a.2 = Int32.ofNat k ∧ a.1.1 = t.1 ∧ (∀ c, c ≠ 48 → a.1.2.2.1 c = t.2.2.1 c) ∧ (∀ i, i < k → a.1.2.2.1 48 i = 0) ∧ (∀ Z, Z ≠ 9 → rt a.1 Z = rt t Z)) (by
    rintro k ⟨T, _⟩ hk ⟨rfl, h1, h2, h3, h4⟩
    right
    dsimp only at h1 h2 h3 h4 ⊢
    rw [if_pos ((i_ltL (by omega) (by omega)).mpr hk), stI_n (by omega) (by omega), Option.bind_some, i_suc]
    refine ⟨_, rfl, rfl, h1, fun c hc => funext (fun j => (wr_ne hc j).trans (congrFun (h2 c hc) j)), fun i hi => ?_, fun Z hZ => ?_⟩
    · dsimp only
      by_cases w : i = k
      · rw [w, wr_at, if_pos ⟨rfl, rfl⟩]
      · rw [wr_nk w]; exact h3 i (by omega)
    · dsimp only
      rw [rt_wrI (by show (9 : Nat) ≠ Z; omega)]; exact h4 Z hZ) (by
    rintro ⟨T, _⟩ ⟨rfl, h1, h2, h3, h4⟩
    dsimp only at h1 h2 h3 h4 ⊢
    exact ⟨T, by rw [if_neg (show ¬ Int32.ofNat 120 < (120 : Int32) by decide)], h1, h2, h3, h4⟩) ⟨rfl, rfl, fun _ _ => rfl, fun i hi => absurd hi (by omega), fun _ _ => rfl⟩
  obtain ⟨T, e2, t1, t2, t3, t4⟩ := wh_cnt (f := ((fun p14 => (if p14.2 < (p14.1.1 27) then Option.bind (stI p14.1 49 40 p14.2 ((0 : Int32) &&& 1)) (fun s2 => some (.inl (s2, p14.2 + 1))) else some (.inr p14.1))) : TS × Int32 → Option (Sum (TS × Int32) TS))) (a := (V, 0)) (Q := fun T => T.1 = V.1 ∧ (∀ c, c ≠ 49 → T.2.2.1 c = V.2.2.1 c) ∧ (∀ i, i < nS → T.2.2.1 49 i = 0) ∧ (∀ Z, Z ≠ 9 → rt T Z = rt V Z)) nS (fun k a => a.2 = Int32.ofNat k ∧ a.1.1 = V.1 ∧ (∀ c, c ≠ 49 → a.1.2.2.1 c = V.2.2.1 c) ∧ (∀ i, i < k → a.1.2.2.1 49 i = 0) ∧ (∀ Z, Z ≠ 9 → rt a.1 Z = rt V Z)) (by
    rintro k ⟨T, _⟩ hk ⟨rfl, h1, h2, h3, h4⟩
    right
    dsimp only at h1 h2 h3 h4 ⊢
    rw [h1, v1, h27, if_pos ((i_lt (by omega) (by omega)).mpr hk), show (0 : Int32) &&& 1 = 0 from rfl, stI_n (show k < 40 by omega) (by omega), Option.bind_some, i_suc]
    refine ⟨_, rfl, rfl, by show T.1 = t.1; rw [h1, v1], fun c hc => funext (fun j => (wr_ne hc j).trans (congrFun (h2 c hc) j)), fun i hi => ?_, fun Z hZ => ?_⟩
    · dsimp only
      by_cases w : i = k
      · rw [w, wr_at, if_pos ⟨rfl, rfl⟩]
      · rw [wr_nk w]; exact h3 i (by omega)
    · dsimp only
      rw [rt_wrI (by show (9 : Nat) ≠ Z; omega)]; exact h4 Z hZ) (by
    rintro ⟨T, _⟩ ⟨rfl, h1, h2, h3, h4⟩
    dsimp only at h1 h2 h3 h4 ⊢
    exact ⟨T, by rw [h1, v1, h27, if_neg (fun z => by have := (i_lt (by omega) (by omega)).mp z; omega)], by rw [h1], h2, h3, h4⟩) ⟨rfl, rfl, fun _ _ => rfl, fun i hi => absurd hi (by omega), fun _ _ => rfl⟩
  refine ⟨T, by rw [e1, Option.bind_some, e2, Option.bind_some], t1.trans v1, fun c h1 h2 => (t2 c h2).trans (v2 c h1), fun i hi => ?_, t3, fun Z hZ => (t4 Z hZ).trans (v4 Z hZ)⟩
  rw [t2 48 (by decide)]; exact v3 i hi
end
