/-! the lifts: the next row -/
/-- the row after a change of two places and a turn of what is behind -/
def nxR (p : List Nat) (k j : Nat) : List Nat := ((p.set k (p.getD j 0)).set j (p.getD k 0)).take (k + 1) ++ (((p.set k (p.getD j 0)).set j (p.getD k 0)).drop (k + 1)).reverse
theorem nxR_len (p : List Nat) (k j : Nat) : (nxR p k j).length = p.length := by
  unfold nxR
  simp only [List.length_append, List.length_take, List.length_reverse, List.length_drop, List.length_set]
  omega
theorem nx_of : ∀ (p : List Nat) (k j : Nat), k < j → j < p.length → p.Nodup → p.getD k 0 < p.getD j 0 → (∀ i, k < i → i + 1 < p.length → p.getD (i + 1) 0 < p.getD i 0) → (∀ i, j < i → i < p.length → p.getD i 0 < p.getD k 0) → Nx p (nxR p k j)
  | [], _, _, _, h, _, _, _, _ => by simp at h
  | z :: p, k + 1, 0, h, _, _, _, _, _ => by omega
  | z :: p, k + 1, j + 1, h1, h2, h3, h4, h5, h6 => by
    have ih := nx_of p k j (by omega) (by simpa using h2) (List.nodup_cons.mp h3).2 (by simpa using h4) (fun i a b => by simpa using h5 (i + 1) (by omega) (by simpa using b)) (fun i a b => by simpa using h6 (i + 1) (by omega) (by simpa using b))
    have : nxR (z :: p) (k + 1) (j + 1) = z :: nxR p k j := by
      unfold nxR
      simp
    rw [this]
    exact nx_cons ih
  | x :: d, 0, 0, h, _, _, _, _, _ => by omega
  | x :: d, 0, j + 1, h1, h2, h3, h4, h5, h6 => by
    have hj : j < d.length := by simpa using h2
    have hy : d.getD j 0 = d[j] := by rw [List.getD_eq_getElem?_getD, List.getElem?_eq_getElem hj]; rfl
    have hd : d = d.take j ++ d[j] :: d.drop (j + 1) := by
      rw [← List.drop_eq_getElem_cons hj, List.take_append_drop]
    have e : nxR (x :: d) 0 (j + 1) = d[j] :: (d.take j ++ x :: d.drop (j + 1)).reverse := by
      unfold nxR
      simp only [List.getD_cons_succ, List.getD_cons_zero, List.set_cons_zero, List.set_cons_succ, hy, List.take_succ_cons, List.take_zero, List.drop_succ_cons, List.drop_zero, List.cons_append, List.nil_append]
      rw [List.set_eq_take_append_cons_drop, if_pos hj]
    rw [e]
    unfold Nx
    refine Or.inr ⟨d.take j, d.drop (j + 1), hd, rfl, ?_, ?_, ?_⟩
    · have h4 := h4
      simp only [List.getD_cons_succ, List.getD_cons_zero] at h4
      rwa [hy] at h4
    · unfold Dsc
      have : ∀ (l : List Nat), (∀ i, i + 1 < l.length → l.getD (i + 1) 0 < l.getD i 0) → l.Pairwise (fun a b => b < a) := by
        intro l
        induction l with
        | nil => intro _; exact List.Pairwise.nil
        | cons a l ih =>
          intro hl
          have hl2 := ih (fun i hi => by simpa using hl (i + 1) (by simpa using hi))
          refine List.pairwise_cons.mpr ⟨?_, hl2⟩
          cases l with
          | nil => intro b hb; cases hb
          | cons b l =>
            have h0 : b < a := by simpa using hl 0 (by simp)
            intro c hc
            rcases List.mem_cons.mp hc with rfl | hc
            · exact h0
            · exact Nat.lt_trans ((List.pairwise_cons.mp hl2).1 c hc) h0
      exact this d (fun i hi => by simpa using h5 (i + 1) (by omega) (by simpa using hi))
    · intro z hz
      obtain ⟨i, hi, rfl⟩ := List.getElem_of_mem hz
      rw [List.getElem_drop]
      rw [List.length_drop] at hi
      have := h6 (j + 1 + i + 1) (by omega) (by simp; omega)
      simp only [List.getD_cons_succ, List.getD_cons_zero] at this
      rwa [List.getD_eq_getElem?_getD, List.getElem?_eq_getElem (by omega)] at this
theorem nxR_at {p : List Nat} {k j i : Nat} (hk : k < j) (hj : j < p.length) (hi : i < p.length) : (nxR p k j).getD i 0 = (if i ≤ k then (if i = k then p.getD j 0 else p.getD i 0) else if p.length + k - i = j then p.getD k 0 else p.getD (p.length + k - i) 0) := by
  unfold nxR
  rw [List.getD_eq_getElem?_getD, List.getElem?_append]
  simp only [List.length_take, List.length_set]
  by_cases h : i ≤ k
  · rw [if_pos (by omega), if_pos h, List.getElem?_take_of_lt (by omega), List.getElem?_set, List.getElem?_set]
    by_cases e : i = k
    · rw [if_neg (by omega), if_pos e.symm, if_pos (by omega), if_pos e]; rfl
    · rw [if_neg (by omega), if_neg (fun z => e z.symm), if_neg e, List.getD_eq_getElem?_getD]
  · rw [if_neg (by omega), if_neg h, List.getElem?_reverse (by simp; omega), List.getElem?_drop]
    simp only [List.length_drop, List.length_set]
    have e : k + 1 + (p.length - (k + 1) - 1 - (i - min (k + 1) p.length)) = p.length + k - i := by omega
    rw [e, List.getElem?_set, List.getElem?_set]
    by_cases e2 : j = p.length + k - i
    · rw [if_pos e2, if_pos (by rw [List.length_set]; omega), if_pos e2.symm]; rfl
    · rw [if_neg e2, if_neg (by omega), if_neg (fun z => e2 z.symm), List.getD_eq_getElem?_getD]
theorem dsc_of {p : List Nat} (h : ∀ i, i + 1 < p.length → p.getD (i + 1) 0 < p.getD i 0) : Dsc p := by
  unfold Dsc
  induction p with
  | nil => exact List.Pairwise.nil
  | cons a l ih =>
    have hl2 := ih (fun i hi => by simpa using h (i + 1) (by simpa using hi))
    refine List.pairwise_cons.mpr ⟨?_, hl2⟩
    cases l with
    | nil => intro b hb; cases hb
    | cons b l =>
      have h0 : b < a := by simpa using h 0 (by simp)
      intro c hc
      rcases List.mem_cons.mp hc with rfl | hc
      · exact h0
      · exact Nat.lt_trans ((List.pairwise_cons.mp hl2).1 c hc) h0
/-- all but the row -/
def Rw (T U : TS) : Prop := U.1 = T.1 ∧ U.2.1 = T.2.1 ∧ (∀ c, c ≠ 169 → U.2.2.1 c = T.2.2.1 c) ∧ U.2.2.2 = T.2.2.2
theorem Rw.wr {T U : TS} {j : Nat} {v : Int32} (h : Rw T U) : Rw T (wrI U 169 j v) := ⟨h.1, h.2.1, fun c hc => by funext q; rw [wr_ne hc]; rw [h.2.2.1 c hc], h.2.2.2⟩
theorem t_next {T : TS} {n : Nat} {f : Nat → Nat} {p : List Nat} (hn : n ≤ 6) (hf : ∀ i, i < n → f i < 400) (hm : ∀ i j, i < j → j < n → f i < f j) (hp : p.length ≤ 6) (hpn : ∀ x ∈ p, x < n) (hnd : p.Nodup) (hs : T.1 616 = Int32.ofNat p.length) (hr : ∀ i, i < p.length → T.2.2.1 169 i = Int32.ofNat (f (p.getD i 0))) :
    (Dsc p ∧ t_860 T = some (0, T)) ∨ (∃ q U, Nx p q ∧ q.length = p.length ∧ Rw T U ∧ (∀ i, i < q.length → U.2.2.1 169 i = Int32.ofNat (f (q.getD i 0))) ∧ t_860 T = some (1, U)) := by
  have hx : ∀ i, i < p.length → p.getD i 0 < n := fun i hi => by
    rw [List.getD_eq_getElem?_getD, List.getElem?_eq_getElem hi]
    exact hpn _ (List.getElem_mem hi)
  have hlt : ∀ i j, i < p.length → j < p.length → (T.2.2.1 169 i < T.2.2.1 169 j ↔ p.getD i 0 < p.getD j 0) := by
    intro i j hi hj
    have h1 := hx i hi
    have h2 := hx j hj
    have h3 := hf _ h1
    have h4 := hf _ h2
    rw [hr i hi, hr j hj, i_lt (by omega) (by omega)]
    constructor
    · intro z
      rcases Nat.lt_trichotomy (p.getD i 0) (p.getD j 0) with w | w | w
      · exact w
      · rw [w] at z; omega
      · have := hm _ _ w h1; omega
    · intro z; exact hm _ _ z h2
  have hne : ∀ i j, i < p.length → j < p.length → i ≠ j → p.getD i 0 ≠ p.getD j 0 := by
    intro i j hi hj hij e
    rw [List.getD_eq_getElem?_getD, List.getD_eq_getElem?_getD, List.getElem?_eq_getElem hi, List.getElem?_eq_getElem hj] at e
    have hpw := List.pairwise_iff_getElem.mp hnd
    rcases Nat.lt_or_gt_of_ne hij with z | z
    · exact hpw i j hi hj z e
    · exact hpw j i hj hi z e.symm
  generalize hL : p.length = m at *
  unfold t_860
  -- the first loop
  have l1 : Tr (wh (S := Int32) (X := Int32) (fun p5 => (if p5 < 0 then some (.inr p5) else Option.bind (rdI T 169 6 p5) (fun x1 => Option.bind (rdI T 169 6 (p5 + 1)) (fun x2 => (if x2 < x1 then some (.inl (p5 - 1)) else some (.inr p5)))))) ((T.1 616) - 2)) (fun x => (x < 0 ∧ Dsc p) ∨ ∃ k, k + 1 < m ∧ x = Int32.ofNat k ∧ p.getD k 0 < p.getD (k + 1) 0 ∧ ∀ i, k < i → i + 1 < m → p.getD (i + 1) 0 < p.getD i 0) := by
    rw [hs]
    by_cases h2 : m < 2
    · have e : Int32.ofNat m - 2 < 0 := by
        have : m = 0 ∨ m = 1 := by omega
        rcases this with rfl | rfl <;> decide
      refine ⟨Int32.ofNat m - 2, wh_inr (if_pos e), Or.inl ⟨e, dsc_of (fun i hi => by omega)⟩⟩
    · rw [i_subL (by omega)]
      refine wh_cnt (m - 1) (fun i a => a = (if i < m - 1 then Int32.ofNat (m - 2 - i) else -1) ∧ ∀ j, m - 1 - i ≤ j → j + 1 < m → p.getD (j + 1) 0 < p.getD j 0) ?_ ?_ ⟨by rw [if_pos (by omega)]; rfl, fun j h1 h2 => by omega⟩
      · rintro i a hi ⟨rfl, h⟩
        rw [if_pos hi]
        rw [if_neg (i_nlt0 (by omega)), rdI_n (by omega) (by omega), Option.bind_some, i_suc, rdI_n (by omega) (by omega), Option.bind_some]
        by_cases z : p.getD (m - 2 - i + 1) 0 < p.getD (m - 2 - i) 0
        · refine Or.inr ⟨_, by rw [if_pos ((hlt _ _ (by omega) (by omega)).mpr z)], ?_, fun j h1 h2 => ?_⟩
          · by_cases y : i + 1 < m - 1
            · rw [if_pos y, i_subL (by omega)]; rfl
            · rw [if_neg y, show m - 2 - i = 0 by omega]; rfl
          · by_cases y : j = m - 2 - i
            · rw [y]; exact z
            · exact h j (by omega) h2
        · refine Or.inl ⟨_, by rw [if_neg (fun w => z ((hlt _ _ (by omega) (by omega)).mp w))], Or.inr ⟨m - 2 - i, by omega, rfl, ?_, fun j h1 h2 => h j (by omega) h2⟩⟩
          have := hne (m - 2 - i) (m - 2 - i + 1) (by omega) (by omega) (by omega)
          omega
      · rintro a ⟨rfl, h⟩
        rw [if_neg (show ¬ m - 1 < m - 1 by omega)]
        exact ⟨-1, if_pos (by decide), Or.inl ⟨by decide, dsc_of (fun i hi => h i (by omega) (by omega))⟩⟩
  obtain ⟨x, e1, h1⟩ := l1
  rw [e1, Option.bind_some]
  rcases h1 with ⟨h1, h2⟩ | ⟨k, hk, rfl, hkk, hdec⟩
  · exact Or.inl ⟨h2, if_pos h1⟩
  · refine Or.inr ?_
    rw [if_neg (i_nlt0 (by omega))]
    -- the second loop
    have l2 : Tr (wh (S := Int32) (X := Int32) (fun p29 => Option.bind (rdI T 169 6 p29) (fun x3 => Option.bind (rdI T 169 6 (Int32.ofNat k)) (fun x4 => (if x3 < x4 then some (.inl (p29 - 1)) else some (.inr p29))))) ((T.1 616) - 1)) (fun x => ∃ j, k < j ∧ j < m ∧ x = Int32.ofNat j ∧ p.getD k 0 < p.getD j 0 ∧ ∀ i, j < i → i < m → p.getD i 0 < p.getD k 0) := by
      rw [hs, i_subL (by omega)]
      refine wh_cnt (m - 2 - k) (fun i a => a = Int32.ofNat (m - 1 - i) ∧ ∀ j, m - 1 - i < j → j < m → p.getD j 0 < p.getD k 0) ?_ ?_ ⟨rfl, fun j h1 h2 => by omega⟩
      · rintro i a hi ⟨rfl, h⟩
        rw [rdI_n (by omega) (by omega), Option.bind_some, rdI_n (by omega) (by omega), Option.bind_some]
        by_cases z : p.getD (m - 1 - i) 0 < p.getD k 0
        · refine Or.inr ⟨_, by rw [if_pos ((hlt _ _ (by omega) (by omega)).mpr z)], by rw [i_subL (by omega)]; rfl, fun j h1 h2 => ?_⟩
          by_cases y : j = m - 1 - i
          · rw [y]; exact z
          · exact h j (by omega) h2
        · have := hne (m - 1 - i) k (by omega) (by omega) (by omega)
          exact Or.inl ⟨_, by rw [if_neg (fun w => z ((hlt _ _ (by omega) (by omega)).mp w))], m - 1 - i, by omega, by omega, rfl, by omega, h⟩
      · rintro a ⟨rfl, h⟩
        rw [show m - 1 - (m - 2 - k) = k + 1 by omega] at h ⊢
        refine ⟨_, ?_, k + 1, by omega, by omega, rfl, hkk, h⟩
        rw [rdI_n (by omega) (by omega), Option.bind_some, rdI_n (by omega) (by omega), Option.bind_some, if_neg]
        intro w
        have := (hlt _ _ (by omega) (by omega)).mp w
        omega
    obtain ⟨x, e2, j, hkj, hjm, rfl, hjk, hbel⟩ := l2
    rw [e2, Option.bind_some, rdI_n (by omega) (by omega), Option.bind_some, rdI_n (by omega) (by omega), Option.bind_some, stI_n (by omega) (by omega), Option.bind_some, stI_n (by omega) (by omega), Option.bind_some]
    generalize hT1 : wrI (wrI T 169 k (T.2.2.1 169 j)) 169 j (T.2.2.1 169 k) = T1
    have r1 : Rw T T1 := by
      rw [← hT1]
      exact Rw.wr (Rw.wr ⟨rfl, rfl, fun _ _ => rfl, rfl⟩)
    have g1 : ∀ i, T1.2.2.1 169 i = if i = j then T.2.2.1 169 k else if i = k then T.2.2.1 169 j else T.2.2.1 169 i := by
      intro i
      rw [← hT1, wr_at, wr_at]
      simp only [true_and]
    have l3 : Tr (wh (S := TS × Int32 × Int32) (X := TS) (fun p67 => (if p67.2.1 < p67.2.2 then Option.bind (rdI p67.1 169 6 p67.2.1) (fun x9 => Option.bind (rdI p67.1 169 6 p67.2.2) (fun x10 => Option.bind (stI p67.1 169 6 p67.2.1 x10) (fun s11 => Option.bind (stI s11 169 6 p67.2.2 x9) (fun s12 => some (.inl (s12, p67.2.1 + 1, p67.2.2 - 1)))))) else some (.inr p67.1))) (T1, Int32.ofNat k + 1, (T1.1 616) - 1)) (fun U => Rw T U ∧ ∀ i, i < m → U.2.2.1 169 i = if i ≤ k then T1.2.2.1 169 i else T1.2.2.1 169 (m + k - i)) := by
      rw [r1.1, hs, i_suc, i_subL (by omega)]
      refine wh_cnt ((m - 1 - k) / 2) (fun i a => Rw T a.1 ∧ a.2 = (Int32.ofNat (k + 1 + i), Int32.ofNat (m - 1 - i)) ∧ ∀ q, q < m → a.1.2.2.1 169 q = if (k < q ∧ q < k + 1 + i) ∨ m - 1 - i < q then T1.2.2.1 169 (m + k - q) else T1.2.2.1 169 q) ?_ ?_ ⟨r1, rfl, fun q hq => by rw [if_neg (by omega)]⟩
      · rintro i ⟨U, a⟩ hi ⟨hU, ha, hq⟩
        dsimp only at hU ha hq ⊢
        subst ha
        refine Or.inr ⟨(wrI (wrI U 169 (k + 1 + i) (U.2.2.1 169 (m - 1 - i))) 169 (m - 1 - i) (U.2.2.1 169 (k + 1 + i)), Int32.ofNat (k + 1 + (i + 1)), Int32.ofNat (m - 1 - (i + 1))), ?_, Rw.wr (Rw.wr hU), rfl, fun q hqm => ?_⟩
        · dsimp only
          rw [if_pos ((i_lt (by omega) (by omega)).mpr (by omega)), rdI_n (by omega) (by omega), Option.bind_some, rdI_n (by omega) (by omega), Option.bind_some, stI_n (by omega) (by omega), Option.bind_some, stI_n (by omega) (by omega), Option.bind_some, i_suc, i_subL (by omega), show m - 1 - i - 1 = m - 1 - (i + 1) by omega]; rfl
        · dsimp only
          rw [wr_at, wr_at]
          simp only [true_and]
          by_cases y1 : q = m - 1 - i
          · rw [if_pos y1, hq _ (by omega), if_neg (by omega), if_pos (by omega), show m + k - q = k + 1 + i by omega]
          · rw [if_neg y1]
            by_cases y2 : q = k + 1 + i
            · rw [if_pos y2, hq _ (by omega), if_neg (by omega), if_pos (by omega), show m + k - q = m - 1 - i by omega]
            · rw [if_neg y2, hq q hqm]
              by_cases y3 : (k < q ∧ q < k + 1 + i) ∨ m - 1 - i < q
              · rw [if_pos y3, if_pos (by omega)]
              · rw [if_neg y3, if_neg (by omega)]
      · rintro ⟨U, a⟩ ⟨hU, ha, hq⟩
        dsimp only at hU ha hq ⊢
        subst ha
        refine ⟨U, ?_, hU, fun q hqm => ?_⟩
        · rw [if_neg (by rw [i_lt (by omega) (by omega)]; omega)]
        · rw [hq q hqm]
          by_cases y : q ≤ k
          · rw [if_neg (by omega), if_pos y]
          · rw [if_neg y]
            by_cases y3 : (k < q ∧ q < k + 1 + (m - 1 - k) / 2) ∨ m - 1 - (m - 1 - k) / 2 < q
            · rw [if_pos y3]
            · rw [if_neg y3, show m + k - q = q by omega]
    obtain ⟨U, e3, hU, hq⟩ := l3
    rw [e3, Option.bind_some]
    have hql : (nxR p k j).length = p.length := nxR_len ..
    refine ⟨nxR p k j, U, nx_of p k j hkj (by omega) hnd hjk (fun i a b => hdec i a (by omega)) (fun i a b => hbel i a (by omega)), by omega, hU, fun i hi => ?_, rfl⟩
    rw [hq i (by omega), nxR_at hkj (by omega) (by omega), hL]
    by_cases y : i ≤ k
    · rw [if_pos y, if_pos y, g1, if_neg (by omega)]
      by_cases y2 : i = k
      · rw [if_pos y2, if_pos y2, hr j (by omega)]
      · rw [if_neg y2, if_neg y2, hr i (by omega)]
    · rw [if_neg y, if_neg y, g1]
      by_cases y2 : m + k - i = j
      · rw [if_pos y2, if_pos y2, hr k (by omega)]
      · rw [if_neg y2, if_neg y2, if_neg (by omega), hr _ (by omega)]
