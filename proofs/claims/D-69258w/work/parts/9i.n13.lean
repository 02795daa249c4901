/-! the plan in the reference: points, in their order (25 x + y) -/
def ptR (t : TS) (ps : List Nat) : Prop := t.1 127 = Int32.ofNat ps.length ∧ ∀ k, k < ps.length → t.2.2.1 66 k = Int32.ofNat (ps.getD k 0 / 25) ∧ t.2.2.1 67 k = Int32.ofNat (ps.getD k 0 % 25)
section
variable {t : TS} {ps : List Nat}
theorem ptR_cg {T : TS} {I R : List Nat} (h : ptR t ps) (a : agr I R t T) (h0 : 127 ∉ I) (h1 : 66 ∉ R ∧ 67 ∉ R) : ptR T ps := by
  unfold ptR
  rw [a.1 _ h0, a.2.2.1 _ h1.1, a.2.2.1 _ h1.2]
  exact h
theorem t_ptA (h : ptR t ps) (hl : ps.length < 460) (hv : ∀ p ∈ ps, p < 625) {x y : Nat} (hx : x < 25) (hy : y < 25) : ∃ k, t_693 (Int32.ofNat x) (Int32.ofNat y) t = some (Int32.ofNat k) ∧ k ≤ ps.length ∧ (k < ps.length → ps.getD k 0 = 25 * x + y) ∧ (k = ps.length → 25 * x + y ∉ ps) := by
  have hb : ∀ k, k < ps.length → ps.getD k 0 < 625 := fun k hk => by rw [getD_lt hk]; exact hv _ (List.getElem_mem hk)
  unfold t_693
  have key : Tr (wh (S := Int32) (X := Int32) (fun p2 => (if p2 < (t.1 127) then Option.bind (rdI t 66 460 p2) (fun x1 => Option.bind ((if x1 = Int32.ofNat x then Option.bind (rdI t 67 460 p2) (fun x2 => (if x2 = Int32.ofNat y then some (Sum.inr (α := Unit) (Sum.inr (α := Int32) p2)) else some (.inl ()))) else some (.inl ()))) (Sum.elim (fun v18 => some (.inl (p2 + 1))) (fun z => some z))) else some (.inr p2))) 0) (fun v => ∃ k, v = Int32.ofNat k ∧ k ≤ ps.length ∧ (k < ps.length → ps.getD k 0 = 25 * x + y) ∧ (k = ps.length → 25 * x + y ∉ ps)) := by
    refine wh_cnt ps.length (fun k a => a = Int32.ofNat k ∧ ∀ j, j < k → ps.getD j 0 ≠ 25 * x + y) ?_ ?_ ⟨rfl, fun j hj => absurd hj (Nat.not_lt_zero _)⟩
    · rintro k _ hk ⟨rfl, q⟩
      have := hb k hk
      rw [h.1, if_pos ((i_lt (by omega) (by omega)).mpr hk), rdI_n (by omega) (by omega), (h.2 k hk).1]; repeat (first | rw [Option.bind_some] | rw [Sum.elim_inl] | rw [Sum.elim_inr])
      by_cases e : ps.getD k 0 = 25 * x + y
      · left
        rw [if_pos (by rw [e]; congr 1; omega), rdI_n (by omega) (by omega), (h.2 k hk).2]; repeat (first | rw [Option.bind_some] | rw [Sum.elim_inl] | rw [Sum.elim_inr])
        rw [if_pos (by rw [e]; congr 1; omega)]; repeat (first | rw [Option.bind_some] | rw [Sum.elim_inl] | rw [Sum.elim_inr])
        exact ⟨_, rfl, k, rfl, Nat.le_of_lt hk, fun _ => e, fun z => by omega⟩
      · right
        rw [i_suc]
        refine ⟨Int32.ofNat (k + 1), ?_, rfl, fun j hj => ?_⟩
        · by_cases e2 : ps.getD k 0 / 25 = x
          · rw [if_pos (by rw [e2]), rdI_n (by omega) (by omega), (h.2 k hk).2]; repeat (first | rw [Option.bind_some] | rw [Sum.elim_inl] | rw [Sum.elim_inr])
            rw [if_neg (fun z => by have := (i_inj (by omega) (by omega)).mp z; omega)]; repeat (first | rw [Option.bind_some] | rw [Sum.elim_inl] | rw [Sum.elim_inr])
          · rw [if_neg (fun z => e2 ((i_inj (by omega) (by omega)).mp z))]; repeat (first | rw [Option.bind_some] | rw [Sum.elim_inl] | rw [Sum.elim_inr])
        · by_cases e3 : j = k
          · rw [e3]; exact e
          · exact q j (by omega)
    · rintro _ ⟨rfl, q⟩
      refine ⟨_, by rw [h.1, if_neg (fun z => by have := (i_lt (by omega) (by omega)).mp z; omega)], ps.length, rfl, Nat.le_refl _, fun z => absurd z (Nat.lt_irrefl _), fun _ hm => ?_⟩
      obtain ⟨j, hj, e⟩ := List.getElem_of_mem hm
      rw [← getD_lt hj] at e
      exact q j hj e
  obtain ⟨v, e, k, rfl, h1⟩ := key
  rw [e]
  exact ⟨k, rfl, h1⟩
theorem insS_in {v : Nat} {xs : List Nat} (hp : xs.Pairwise (· < ·)) (h : v ∈ xs) : insS v xs = xs := by
  obtain ⟨k, hk, e⟩ := List.getElem_of_mem h
  rw [← getD_lt hk] at e
  rw [insS_eq (k := k) (by omega) (fun j hj => by rw [← e]; exact pw_lt hp hj hk) (fun _ => by omega), if_pos ⟨hk, e⟩]
theorem t_poi (h : ptR t ps) (hp : ps.Pairwise (· < ·)) (hl : ps.length < 460) (hv : ∀ p ∈ ps, p < 625) {x y : Nat} (hx : x < 25) (hy : y < 25) : ∃ T, t_692 (Int32.ofNat x) (Int32.ofNat y) t = some T ∧ ptR T (insS (25 * x + y) ps) ∧ agr [127] [66, 67] t T := by
  have hb : ∀ k, k < ps.length → ps.getD k 0 < 625 := fun k hk => by rw [getD_lt hk]; exact hv _ (List.getElem_mem hk)
  obtain ⟨m, e0, m1, m2, m3⟩ := t_ptA h hl hv hx hy
  unfold t_692
  rw [e0]; repeat (first | rw [Option.bind_some] | rw [Sum.elim_inl] | rw [Sum.elim_inr])
  rw [h.1]
  by_cases z : m < ps.length
  · rw [if_pos ((i_lt (by omega) (by omega)).mpr z), insS_in hp (by rw [← m2 z, getD_lt z]; exact List.getElem_mem z)]
    exact ⟨t, rfl, h, agr_refl⟩
  rw [if_neg (fun q => z ((i_lt (by omega) (by omega)).mp q))]
  have hn := m3 (by omega)
  obtain ⟨k, h1, h2, h3⟩ := ins_at (xs := ps) (25 * x + y)
  have hgt : ∀ j, k ≤ j → j < ps.length → 25 * x + y < ps.getD j 0 := by
    intro j hj hj2
    have a : 25 * x + y ≤ ps.getD j 0 := by
      by_cases e : j = k
      · rw [e]; exact h3 (by omega)
      · have := pw_lt hp (show k < j by omega) hj2
        have := h3 (by omega)
        omega
    have b : ps.getD j 0 ≠ 25 * x + y := fun e => hn (by rw [← e, getD_lt hj2]; exact List.getElem_mem hj2)
    omega
  refine Tr.bd (P := fun (r : TS × Int32) => r.2 = Int32.ofNat k ∧ (∀ j, r.1.2.2.1 66 j = (if k < j ∧ j ≤ ps.length then t.2.2.1 66 (j - 1) else t.2.2.1 66 j) ∧ r.1.2.2.1 67 j = if k < j ∧ j ≤ ps.length then t.2.2.1 67 (j - 1) else t.2.2.1 67 j) ∧ agr [] [66, 67] t r.1) (wh_cnt (ps.length - k) (fun i a => a.2 = Int32.ofNat (ps.length - i) ∧ (∀ j, a.1.2.2.1 66 j = (if ps.length - i < j ∧ j ≤ ps.length then t.2.2.1 66 (j - 1) else t.2.2.1 66 j) ∧ a.1.2.2.1 67 j = if ps.length - i < j ∧ j ≤ ps.length then t.2.2.1 67 (j - 1) else t.2.2.1 67 j) ∧ agr [] [66, 67] t a.1) ?_ ?_ ⟨rfl, fun j => ⟨by rw [if_neg (by omega)], by rw [if_neg (by omega)]⟩, agr_refl⟩) ?_
  · rintro i ⟨T, _⟩ hi ⟨rfl, q, a⟩
    right
    dsimp only at q a ⊢
    have hb1 := hb (ps.length - i - 1) (by omega)
    have hg1 := hgt (ps.length - i - 1) (by omega) (by omega)
    rw [if_pos ((i_Llt (by omega) (by omega)).mpr (by omega)), i_subL (show 1 ≤ ps.length - i by omega), rdI_n (by omega) (by omega), (q _).1, if_neg (by omega), (h.2 _ (by omega)).1]; repeat (first | rw [Option.bind_some] | rw [Sum.elim_inl] | rw [Sum.elim_inr])
    have ec : (if Int32.ofNat x < Int32.ofNat (ps.getD (ps.length - i - 1) 0 / 25) then some (Sum.inl (β := Sum (TS × Int32) (TS × Int32)) ()) else (if Int32.ofNat (ps.getD (ps.length - i - 1) 0 / 25) = Int32.ofNat x then Option.bind (rdI T 67 460 (Int32.ofNat (ps.length - i - 1))) (fun x4 => (if Int32.ofNat y < x4 then some (.inl ()) else some (.inr (.inr (T, Int32.ofNat (ps.length - i)))))) else some (.inr (.inr (T, Int32.ofNat (ps.length - i)))))) = some (.inl ()) := by
      by_cases w : x < ps.getD (ps.length - i - 1) 0 / 25
      · rw [if_pos ((i_lt (by omega) (by omega)).mpr w)]
      · rw [if_neg (fun z => w ((i_lt (by omega) (by omega)).mp z)), if_pos (by congr 1; omega), rdI_n (by omega) (by omega), (q _).2, if_neg (by omega), (h.2 _ (by omega)).2, Option.bind_some, if_pos ((i_lt (by omega) (by omega)).mpr (by omega))]
    rw [ec]; repeat (first | rw [Option.bind_some] | rw [Sum.elim_inl] | rw [Sum.elim_inr])
    rw [stI_n (by omega) (by omega)]; repeat (first | rw [Option.bind_some] | rw [Sum.elim_inl] | rw [Sum.elim_inr])
    rw [rdI_n (by omega) (by omega)]; repeat (first | rw [Option.bind_some] | rw [Sum.elim_inl] | rw [Sum.elim_inr])
    rw [stI_n (by omega) (by omega)]; repeat (first | rw [Option.bind_some] | rw [Sum.elim_inl] | rw [Sum.elim_inr])
    refine ⟨_, rfl, by rw [show ps.length - i - 1 = ps.length - (i + 1) by omega], fun j => ?_, agr_w (agr_w a (by simp)) (by simp)⟩
    dsimp only
    have p1 : ∀ c : Nat, (wrI T 66 (ps.length - i) (Int32.ofNat (ps.getD (ps.length - i - 1) 0 / 25))).2.2.1 67 c = T.2.2.1 67 c := fun c => by rw [wr_at, if_neg (by omega)]
    rw [p1, (q _).2, if_neg (show ¬ (ps.length - i < ps.length - i - 1 ∧ _) by omega)]
    by_cases w : j = ps.length - i
    · constructor
      · rw [wr_at, if_neg (by omega), wr_at, if_pos ⟨rfl, w⟩, if_pos (by omega), w, (h.2 _ (by omega)).1]
      · rw [wr_at, if_pos ⟨rfl, w⟩, if_pos (by omega), w]
    · constructor
      · rw [wr_at, if_neg (by omega), wr_at, if_neg (fun y => w y.2), (q _).1]
        by_cases y : ps.length - i < j ∧ j ≤ ps.length
        · rw [if_pos y, if_pos (by omega)]
        · rw [if_neg y, if_neg (by omega)]
      · rw [wr_at, if_neg (fun y => w y.2), p1, (q _).2]
        by_cases y : ps.length - i < j ∧ j ≤ ps.length
        · rw [if_pos y, if_pos (by omega)]
        · rw [if_neg y, if_neg (by omega)]
  · rintro ⟨T, _⟩ ⟨rfl, q, a⟩
    rw [show ps.length - (ps.length - k) = k by omega] at *
    dsimp only at q a ⊢
    refine ⟨(T, Int32.ofNat k), ?_, rfl, q, a⟩
    by_cases w : 0 < k
    · have hb1 := hb (k - 1) (by omega)
      have hl1 := h2 (k - 1) (by omega)
      rw [if_pos ((i_Llt (by omega) (by omega)).mpr w), i_subL (show 1 ≤ k by omega), rdI_n (by omega) (by omega), (q _).1, if_neg (by omega), (h.2 _ (by omega)).1]; repeat (first | rw [Option.bind_some] | rw [Sum.elim_inl] | rw [Sum.elim_inr])
      rw [if_neg (fun z => by have := (i_lt (by omega) (by omega)).mp z; omega)]; repeat (first | rw [Option.bind_some] | rw [Sum.elim_inl] | rw [Sum.elim_inr])
      by_cases e : ps.getD (k - 1) 0 / 25 = x
      · rw [if_pos (by rw [e]), rdI_n (by omega) (by omega), (q _).2, if_neg (by omega), (h.2 _ (by omega)).2]; repeat (first | rw [Option.bind_some] | rw [Sum.elim_inl] | rw [Sum.elim_inr])
        rw [if_neg (fun z => by have := (i_lt (by omega) (by omega)).mp z; omega)]; repeat (first | rw [Option.bind_some] | rw [Sum.elim_inl] | rw [Sum.elim_inr])
      · rw [if_neg (fun z => e ((i_inj (by omega) (by omega)).mp z))]; repeat (first | rw [Option.bind_some] | rw [Sum.elim_inl] | rw [Sum.elim_inr])
    · rw [if_neg (fun z => w ((i_Llt (by omega) (by omega)).mp z))]
  · rintro ⟨T, _⟩ ⟨rfl, q, a⟩
    dsimp only at q a ⊢
    rw [stI_n (by omega) (by omega)]; repeat (first | rw [Option.bind_some] | rw [Sum.elim_inl] | rw [Sum.elim_inr])
    rw [stI_n (by omega) (by omega)]; repeat (first | rw [Option.bind_some] | rw [Sum.elim_inl] | rw [Sum.elim_inr])
    have e127 : (wrI (wrI T 66 k (Int32.ofNat x)) 67 k (Int32.ofNat y)).1 127 = Int32.ofNat ps.length := by
      show T.1 127 = _
      rw [a.1 127 (by simp), h.1]
    rw [e127, i_suc]
    have len : (ps.take k ++ (25 * x + y) :: ps.drop k).length = ps.length + 1 := by simp; omega
    have ei : insS (25 * x + y) ps = ps.take k ++ (25 * x + y) :: ps.drop k := by
      rw [insS_eq h1 h2 h3, if_neg]
      rintro ⟨g1, g2⟩
      exact hn (by rw [← g2, getD_lt g1]; exact List.getElem_mem g1)
    refine ⟨_, rfl, ?_, agr_p (agr_w (agr_w (agr_mono a (by simp) (by simp)) (by simp)) (by simp)) (by simp)⟩
    rw [ei]
    refine ⟨by rw [len]; rfl, fun j hj => ?_⟩
    rw [len] at hj
    have r6 : (ptI (wrI (wrI T 66 k (Int32.ofNat x)) 67 k (Int32.ofNat y)) 127 (Int32.ofNat (ps.length + 1))).2.2.1 66 j = if j = k then Int32.ofNat x else T.2.2.1 66 j := by
      rw [pt_2, wr_at, if_neg (by omega), wr_at]
      simp only [true_and]
    have r7 : (ptI (wrI (wrI T 66 k (Int32.ofNat x)) 67 k (Int32.ofNat y)) 127 (Int32.ofNat (ps.length + 1))).2.2.1 67 j = if j = k then Int32.ofNat y else T.2.2.1 67 j := by
      rw [pt_2, wr_at, wr_at]
      simp only [true_and]
      rw [if_neg (show ¬ ((67 : Nat) = 66 ∧ j = k) by omega)]
    rw [r6, r7]
    by_cases w : j = k
    · rw [if_pos w, if_pos w]
      have : (ps.take k ++ (25 * x + y) :: ps.drop k).getD j 0 = 25 * x + y := by
        rw [w, List.getD_eq_getElem?_getD, List.getElem?_append_right (by simp; omega)]
        simp [Nat.min_eq_left h1]
      rw [this]
      exact ⟨by congr 1; omega, by congr 1; omega⟩
    · rw [if_neg w, if_neg w, (q j).1, (q j).2]
      by_cases y' : k < j
      · have : (ps.take k ++ (25 * x + y) :: ps.drop k).getD j 0 = ps.getD (j - 1) 0 := by
          rw [List.getD_eq_getElem?_getD, List.getD_eq_getElem?_getD, List.getElem?_append_right (by simp; omega)]
          obtain ⟨d, rfl⟩ : ∃ d, j = k + d + 1 := ⟨j - k - 1, by omega⟩
          simp only [List.length_take, Nat.min_eq_left h1]
          rw [show k + d + 1 - k = d + 1 by omega, List.getElem?_cons_succ, List.getElem?_drop, show k + d + 1 - 1 = k + d by omega]
        rw [if_pos ⟨y', by omega⟩, if_pos ⟨y', by omega⟩, this]
        exact h.2 (j - 1) (by omega)
      · have : (ps.take k ++ (25 * x + y) :: ps.drop k).getD j 0 = ps.getD j 0 := by
          rw [List.getD_eq_getElem?_getD, List.getD_eq_getElem?_getD, List.getElem?_append_left (by simp; omega), List.getElem?_take, if_pos (by omega)]
        rw [if_neg (fun q => y' q.1), if_neg (fun q => y' q.1), this]
        exact h.2 j (by omega)
end
