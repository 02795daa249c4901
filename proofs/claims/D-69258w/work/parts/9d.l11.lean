/-! the lifts: which calls are to be given -/
def mayG (t : TS) (nc c : Nat) : Bool := decide (t.2.2.1 166 c = 1) && decide (0 < (if t.1 613 = 0 then cob t c nc else 0))
def chs (t : TS) (nc nk : Nat) : List Nat := (List.range nk).filter (mayG t nc)
theorem chs_len (t : TS) (nc nk : Nat) : (chs t nc nk).length ≤ opn t nk := by
  unfold chs opn
  induction nk with
  | zero => exact Nat.le_refl _
  | succ k ih =>
    rw [flen_suc, flen_suc]
    by_cases hm : mayG t nc k = true
    · have h : decide (t.2.2.1 166 k = 1) = true := by
        unfold mayG at hm
        rw [Bool.and_eq_true] at hm
        exact hm.1
      rw [if_pos hm, if_pos h]; omega
    · rw [if_neg hm]; omega
/-- all but the choice -/
def Chl (t T : TS) : Prop := (∀ c, c ≠ 614 → T.1 c = t.1 c) ∧ T.2.1 = t.2.1 ∧ T.2.2.2 = t.2.2.2 ∧ ∀ c j, c ≠ 168 → T.2.2.1 c j = t.2.2.1 c j
theorem cob_cg {t T : TS} (h : Chl t T) (c k : Nat) : cob T c k = cob t c k := by
  have hf : ∀ k, fit T k c = fit t k c := by
    intro k
    unfold fit rch
    rw [h.2.2.2 167 c (by omega), h.2.2.2 163 c (by omega), h.2.2.2 164 c (by omega), h.2.2.2 161 k (by omega), h.2.2.2 162 k (by omega)]
  induction k with
  | zero => rfl
  | succ k ih => simp only [cob, ih, hf]
theorem t_choose {t : TS} {nc nk : Nat} (h6 : t.1 600 = Int32.ofNat nc) (hn : nc ≤ 4) (h606 : t.1 606 = Int32.ofNat nk) (hk4 : nk ≤ 400) (hv : ∀ c, c < nk → v01 (t.2.2.1 166 c)) (hb : ∀ c, c < nk → t.2.2.1 167 c = -1 ∨ ∃ k, k < nc ∧ t.2.2.1 167 c = Int32.ofNat k) (ho : opn t nk ≤ 6) : Tr (t_852 t) (fun T => Chl t T ∧ T.1 614 = Int32.ofNat (chs t nc nk).length ∧ ∀ j, j < (chs t nc nk).length → T.2.2.1 168 j = Int32.ofNat ((chs t nc nk).getD j 0)) := by
  unfold t_852
  rw [Option.bind_some]
  refine Tr.bd (P := fun T => Chl t T ∧ T.1 614 = Int32.ofNat (chs t nc nk).length ∧ ∀ j, j < (chs t nc nk).length → T.2.2.1 168 j = Int32.ofNat ((chs t nc nk).getD j 0)) (wh_cnt nk (fun i (a : TS × Int32) => a.2 = Int32.ofNat i ∧ Chl t a.1 ∧ a.1.1 614 = Int32.ofNat (chs t nc i).length ∧ ∀ j, j < (chs t nc i).length → a.1.2.2.1 168 j = Int32.ofNat ((chs t nc i).getD j 0)) ?_ ?_ ⟨rfl, ⟨fun c hc => by rw [pt_1, if_neg hc], rfl, rfl, fun _ _ _ => rfl⟩, rfl, fun j hj => by simp [chs] at hj⟩) ?_
  · rintro i ⟨T, q⟩ hi ⟨hq, hT, h614, hrow⟩
    dsimp only at hq hT h614 hrow ⊢
    subst hq
    have e606 : T.1 606 = Int32.ofNat nk := (hT.1 606 (by omega)).trans h606
    have e600 : T.1 600 = Int32.ofNat nc := (hT.1 600 (by omega)).trans h6
    have e166 := hT.2.2.2 166 i (by omega)
    have e167 := hT.2.2.2 167 i (by omega)
    have ecars := t_cars (t := T) (nk := nk) (c := i) e600 hn (by omega) (by rw [e167]; exact hb i hi)
    rw [cob_cg hT, hT.1 613 (by omega)] at ecars
    have hlt := cob_lt t i nc
    have h16 : 2 ^ nc ≤ 16 := Nat.pow_le_pow_right (n := 2) (by omega) hn
    have hs : chs t nc (i + 1) = chs t nc i ++ (if mayG t nc i = true then [i] else []) := by
      unfold chs
      rw [List.range_succ, List.filter_append]
      cases hm : mayG t nc i <;> simp [hm]
    have hle : (chs t nc i).length + (if mayG t nc i = true then 1 else 0) ≤ 6 := by
      have h1 := chs_len t nc (i + 1)
      have h2 : opn t (i + 1) ≤ opn t nk := List.Sublist.length_le (List.Sublist.filter _ (List.range_sublist.mpr (by omega)))
      rw [hs, List.length_append] at h1
      split at h1 <;> simp_all <;> omega
    rw [e606, if_pos ((i_lt (by omega) (by omega)).mpr hi), rdI_n (by omega) (by omega), Option.bind_some, e166, i_suc]
    rcases hv i hi with z | z
    · have hm : mayG t nc i = false := by unfold mayG; rw [z]; rfl
      rw [hs, hm]
      refine Or.inr ⟨(T, Int32.ofNat (i + 1)), by rw [z, if_pos rfl, Option.bind_some], rfl, hT, by simpa using h614, by simpa using hrow⟩
    · rw [z, if_neg (by decide), ecars, Option.bind_some]
      by_cases y : 0 < (if t.1 613 = 0 then cob t i nc else 0)
      · have hm : mayG t nc i = true := by unfold mayG; rw [z]; simp [y]
        rw [hm] at hle
        simp only [if_true] at hle
        have hb2 : (if t.1 613 = 0 then cob t i nc else 0) < 2147483648 := by split <;> omega
        rw [hs, hm, if_pos rfl]
        refine Or.inr ⟨(ptI (wrI T 168 (chs t nc i).length (Int32.ofNat i)) 614 (Int32.ofNat ((chs t nc i).length + 1)), Int32.ofNat (i + 1)), ?_, rfl, ⟨fun c hc => by rw [pt_1, if_neg hc]; exact hT.1 c hc, hT.2.1, hT.2.2.1, fun c j hc => (wr_ne hc j).trans (hT.2.2.2 c j hc)⟩, by simp [pt_1], ?_⟩
        · rw [if_pos ((i_Llt hb2 (by omega)).mpr y), h614, stI_n (by omega) (by omega), Option.bind_some, wr_1, h614, i_suc, Option.bind_some, Option.bind_some]
        · intro j hj
          simp only [List.length_append, List.length_cons, List.length_nil] at hj
          show (wrI T 168 (chs t nc i).length (Int32.ofNat i)).2.2.1 168 j = _
          rw [wr_at]
          by_cases w : j = (chs t nc i).length
          · rw [if_pos ⟨rfl, w⟩, w]; simp
          · rw [if_neg (fun x => w x.2), hrow j (by omega), getD_app (by omega)]
      · have hm : mayG t nc i = false := by unfold mayG; simp [y]
        rw [hs, hm]
        have hz : (if t.1 613 = 0 then cob t i nc else 0) = 0 := by omega
        refine Or.inr ⟨(T, Int32.ofNat (i + 1)), by rw [hz, if_neg (by decide), Option.bind_some], rfl, hT, by simpa using h614, by simpa using hrow⟩
  · rintro ⟨T, q⟩ ⟨hq, hT, h614, hrow⟩
    dsimp only at hq hT h614 hrow ⊢
    subst hq
    refine ⟨T, ?_, hT, h614, hrow⟩
    rw [hT.1 606 (by omega), h606, if_neg (by rw [i_lt (by omega) (by omega)]; omega)]
  · rintro T hT
    exact ⟨T, rfl, hT⟩
