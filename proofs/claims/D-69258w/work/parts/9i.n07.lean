/-! the plan in the reference: a number comes into a row -/
theorem getD_lt {xs : List Nat} {k : Nat} (h : k < xs.length) : xs.getD k 0 = xs[k] := by
  rw [List.getD_eq_getElem?_getD, List.getElem?_eq_getElem h]; rfl
theorem pw_lt {xs : List Nat} (h : xs.Pairwise (· < ·)) {j k : Nat} (hjk : j < k) (hk : k < xs.length) : xs.getD j 0 < xs.getD k 0 := by
  rw [getD_lt hk, getD_lt (by omega)]
  exact List.pairwise_iff_getElem.mp h j k _ _ hjk
/-- where it comes -/
theorem ins_at {xs : List Nat} (v : Nat) : ∃ k, k ≤ xs.length ∧ (∀ j, j < k → xs.getD j 0 < v) ∧ (k < xs.length → v ≤ xs.getD k 0) := by
  induction xs with
  | nil => exact ⟨0, Nat.le_refl _, fun j hj => absurd hj (Nat.not_lt_zero _), fun h => absurd h (Nat.not_lt_zero _)⟩
  | cons x r ih =>
    by_cases z : x < v
    · obtain ⟨k, h1, h2, h3⟩ := ih
      refine ⟨k + 1, by simpa using h1, fun j hj => ?_, fun h => h3 (by simpa using h)⟩
      cases j with
      | zero => exact z
      | succ j => exact h2 j (by omega)
    · exact ⟨0, Nat.zero_le _, fun j hj => absurd hj (Nat.not_lt_zero _), fun _ => by show v ≤ x; omega⟩
theorem t_ins {t : TS} {c v : Nat} {xs : List Nat} (h : rwR t c xs) (hn : xs.length < 40) (hv : v < 1000) (hx : ∀ x ∈ xs, x < 1000) : ∃ T, t_687 c (Int32.ofNat xs.length) (Int32.ofNat v) t = some (Int32.ofNat (insS v xs).length, T) ∧ rwR T c (insS v xs) ∧ agr [] [c] t T := by
  obtain ⟨k, h1, h2, h3⟩ := ins_at (xs := xs) v
  have hx' : ∀ j, j < xs.length → xs.getD j 0 < 1000 := fun j hj => by rw [getD_lt hj]; exact hx _ (List.getElem_mem hj)
  unfold t_687
  obtain ⟨p, e, rfl⟩ := wh_cnt (f := (fun p2 : Int32 => (if p2 < Int32.ofNat xs.length then Option.bind (rdI t c 40 p2) (fun x1 => (if x1 < Int32.ofNat v then some (Sum.inl (β := Int32) (p2 + 1)) else some (.inr p2))) else some (.inr p2)))) (a := (0 : Int32)) (Q := fun p => p = Int32.ofNat k) k (fun i a => a = Int32.ofNat i) (by
    rintro i _ hi rfl
    right
    refine ⟨_, ?_, rfl⟩
    rw [if_pos ((i_lt (by omega) (by omega)).mpr (by omega)), rdI_n (by omega) (by omega), h i (by omega)]; repeat (first | rw [Option.bind_some] | rw [Sum.elim_inl] | rw [Sum.elim_inr])
    have := hx' i (by omega)
    rw [if_pos ((i_lt (by omega) (by omega)).mpr (h2 i hi)), i_suc]) (by
    rintro _ rfl
    refine ⟨_, ?_, rfl⟩
    by_cases z : k < xs.length
    · rw [if_pos ((i_lt (by omega) (by omega)).mpr z), rdI_n (by omega) (by omega), h k z]; repeat (first | rw [Option.bind_some] | rw [Sum.elim_inl] | rw [Sum.elim_inr])
      have := h3 z
      have := hx' k z
      rw [if_neg (fun q => by have := (i_lt (by omega) (by omega)).mp q; omega)]
    · rw [if_neg (fun q => z ((i_lt (by omega) (by omega)).mp q))]) rfl
  rw [e]; repeat (first | rw [Option.bind_some] | rw [Sum.elim_inl] | rw [Sum.elim_inr])
  rw [insS_eq h1 h2 h3]
  by_cases z : k < xs.length ∧ xs.getD k 0 = v
  · have := hx' k z.1
    rw [if_pos ((i_lt (by omega) (by omega)).mpr z.1), rdI_n (by omega) (by omega), h k z.1]; repeat (first | rw [Option.bind_some] | rw [Sum.elim_inl] | rw [Sum.elim_inr])
    rw [if_pos (by rw [z.2])]; repeat (first | rw [Option.bind_some] | rw [Sum.elim_inl] | rw [Sum.elim_inr])
    rw [if_pos z]
    exact ⟨t, rfl, h, agr_refl⟩
  have z1 : (if Int32.ofNat k < Int32.ofNat xs.length then Option.bind (rdI t c 40 (Int32.ofNat k)) (fun x2 => (if x2 = Int32.ofNat v then some (Sum.inr (α := Unit) (Int32.ofNat xs.length, t)) else some (.inl ()))) else some (.inl ())) = some (.inl ()) := by
    by_cases w : k < xs.length
    · have := hx' k w
      rw [if_pos ((i_lt (by omega) (by omega)).mpr w), rdI_n (by omega) (by omega), h k w]; repeat (first | rw [Option.bind_some] | rw [Sum.elim_inl] | rw [Sum.elim_inr])
      rw [if_neg (fun q => z ⟨w, (i_inj (by omega) (by omega)).mp q⟩)]
    · rw [if_neg (fun q => w ((i_lt (by omega) (by omega)).mp q))]
  rw [z1, if_neg z]; repeat (first | rw [Option.bind_some] | rw [Sum.elim_inl] | rw [Sum.elim_inr])
  obtain ⟨T, e2, g1, g2⟩ := wh_cnt (f := (fun p24 : TS × Int32 => (if Int32.ofNat k < p24.2 then Option.bind (rdI p24.1 c 40 (p24.2 - 1)) (fun x3 => Option.bind (stI p24.1 c 40 p24.2 x3) (fun s4 => some (Sum.inl (β := TS) (s4, p24.2 - 1)))) else some (.inr p24.1)))) (a := (t, Int32.ofNat xs.length)) (Q := fun T => (∀ j, T.2.2.1 c j = if k < j ∧ j ≤ xs.length then t.2.2.1 c (j - 1) else t.2.2.1 c j) ∧ agr [] [c] t T) (xs.length - k) (fun i a => a.2 = Int32.ofNat (xs.length - i) ∧ (∀ j, a.1.2.2.1 c j = if xs.length - i < j ∧ j ≤ xs.length then t.2.2.1 c (j - 1) else t.2.2.1 c j) ∧ agr [] [c] t a.1) (by
    rintro i ⟨T, _⟩ hi ⟨rfl, q1, q2⟩
    right
    dsimp only at q1 q2 ⊢
    rw [if_pos ((i_lt (by omega) (by omega)).mpr (by omega)), i_subL (show 1 ≤ xs.length - i by omega), rdI_n (by omega) (by omega)]; repeat (first | rw [Option.bind_some] | rw [Sum.elim_inl] | rw [Sum.elim_inr])
    rw [stI_n (by omega) (by omega)]; repeat (first | rw [Option.bind_some] | rw [Sum.elim_inl] | rw [Sum.elim_inr])
    refine ⟨_, rfl, by rw [show xs.length - i - 1 = xs.length - (i + 1) by omega], fun j => ?_, agr_w q2 (by simp)⟩
    dsimp only
    rw [wr_at]
    by_cases w : j = xs.length - i
    · rw [if_pos ⟨rfl, w⟩, if_pos (by omega), q1, if_neg (by omega), w]
    · rw [if_neg (fun y => w y.2), q1]
      by_cases y : xs.length - i < j ∧ j ≤ xs.length
      · rw [if_pos y, if_pos (by omega)]
      · rw [if_neg y, if_neg (by omega)]) (by
    rintro ⟨T, _⟩ ⟨rfl, q1, q2⟩
    dsimp only at q1 q2 ⊢
    refine ⟨T, by rw [if_neg (fun q => by have := (i_lt (by omega) (by omega)).mp q; omega)], ?_, q2⟩
    rw [show xs.length - (xs.length - k) = k by omega] at q1
    exact q1) ⟨rfl, fun j => by rw [if_neg (by omega)], agr_refl⟩
  rw [e2]; repeat (first | rw [Option.bind_some] | rw [Sum.elim_inl] | rw [Sum.elim_inr])
  rw [stI_n (by omega) (by omega)]; repeat (first | rw [Option.bind_some] | rw [Sum.elim_inl] | rw [Sum.elim_inr])
  have len : (xs.take k ++ v :: xs.drop k).length = xs.length + 1 := by simp; omega
  refine ⟨_, by rw [len, i_suc], fun j hj => ?_, agr_w g2 (by simp)⟩
  rw [len] at hj
  rw [wr_at]
  by_cases w : j = k
  · rw [if_pos ⟨rfl, w⟩, w, List.getD_eq_getElem?_getD, List.getElem?_append_right (by simp; omega)]
    simp [Nat.min_eq_left h1]
  · rw [if_neg (fun y => w y.2), g1]
    by_cases y : k < j
    · rw [if_pos ⟨y, by omega⟩, h (j - 1) (by omega), List.getD_eq_getElem?_getD, List.getD_eq_getElem?_getD, List.getElem?_append_right (by simp; omega)]
      obtain ⟨d, rfl⟩ : ∃ d, j = k + d + 1 := ⟨j - k - 1, by omega⟩
      simp only [List.length_take, Nat.min_eq_left h1]
      rw [show k + d + 1 - k = d + 1 by omega, List.getElem?_cons_succ, List.getElem?_drop, show k + d + 1 - 1 = k + d by omega]
    · rw [if_neg (fun q => y q.1), h j (by omega), List.getD_eq_getElem?_getD, List.getD_eq_getElem?_getD, List.getElem?_append_left (by simp; omega), List.getElem?_take, if_pos (by omega)]
