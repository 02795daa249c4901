/-! the lifts: begin -/
def rch (t : TS) (k c : Nat) : Bool := decide (¬ t.2.2.1 163 c < t.2.2.1 161 k ∧ ¬ t.2.2.1 162 k < t.2.2.1 163 c ∧ ¬ t.2.2.1 164 c < t.2.2.1 161 k ∧ ¬ t.2.2.1 162 k < t.2.2.1 164 c)
theorem rch_m (F T L G : Int32) : (if (if T < F then T else F) < L then some (0 : Int32) else if G < (if F < T then T else F) then some 0 else some 1) = some (if decide (¬ F < L ∧ ¬ G < F ∧ ¬ T < L ∧ ¬ G < T) = true then 1 else 0) := by
  by_cases h1 : T < F
  · have h2 : ¬ F < T := fun z => Int32.lt_irrefl (Int32.lt_trans h1 z)
    rw [if_pos h1, if_neg h2]
    rw [Int32.lt_iff_toInt_lt] at h1
    by_cases h3 : T < L
    · rw [if_pos h3, if_neg (by simp [h3])]
    · rw [if_neg h3]
      by_cases h4 : G < F
      · rw [if_pos h4, if_neg (by simp [h4])]
      · rw [if_neg h4, if_pos]
        rw [decide_eq_true_eq]
        rw [Int32.lt_iff_toInt_lt] at h3 h4
        refine ⟨?_, ?_, ?_, ?_⟩ <;> rw [Int32.lt_iff_toInt_lt] <;> omega
  · rw [if_neg h1]
    by_cases h3 : F < L
    · rw [if_pos h3, if_neg (by simp [h3])]
    · rw [if_neg h3]
      by_cases h2 : F < T
      · rw [if_pos h2]
        by_cases h4 : G < T
        · rw [if_pos h4, if_neg (by simp [h4])]
        · rw [if_neg h4, if_pos]
          rw [decide_eq_true_eq]
          rw [Int32.lt_iff_toInt_lt] at h1 h2 h3 h4
          refine ⟨?_, ?_, ?_, ?_⟩ <;> rw [Int32.lt_iff_toInt_lt] <;> omega
      · rw [if_neg h2]
        by_cases h4 : G < F
        · rw [if_pos h4, if_neg (by simp [h4])]
        · rw [if_neg h4, if_pos]
          rw [decide_eq_true_eq]
          rw [Int32.lt_iff_toInt_lt] at h1 h2 h3 h4
          refine ⟨?_, ?_, ?_, ?_⟩ <;> rw [Int32.lt_iff_toInt_lt] <;> omega
theorem c_rch {s : CS} {t : TS} {k c : Nat} {C D : Nat → Nat} {b : Option Nat} (h1 : s.1 (C k) = some (carC t C D b k)) (h2 : s.1 (D c) = some (calC t C c)) : c_1073 (C k) (D c) s = some (if rch t k c = true then 1 else 0) := by
  unfold c_1073
  rw [xI_o (x := t.2.2.1 163 c) h2 rfl rfl, Option.bind_some, xI_o (x := t.2.2.1 164 c) h2 rfl rfl, Option.bind_some, xI_o (x := t.2.2.1 161 k) h1 rfl rfl, xI_o (x := t.2.2.1 162 k) h1 rfl rfl]
  unfold c_48 c_47
  simp only [iteS, Option.bind_some]
  have := rch_m (t.2.2.1 163 c) (t.2.2.1 164 c) (t.2.2.1 161 k) (t.2.2.1 162 k)
  simp only [iteS] at this
  exact this
theorem t_rch {t : TS} {k c : Nat} (hk : k < 4) (hc : c < 400) : t_850 (Int32.ofNat k) (Int32.ofNat c) t = some (if rch t k c = true then 1 else 0) := by
  unfold t_850 rch
  simp only [rdI_n hk (show 4 < 2147483648 by omega), rdI_n hc (show 400 < 2147483648 by omega), Option.bind_some, decide_eq_true_eq]
  by_cases h1 : t.2.2.1 163 c < t.2.2.1 161 k
  · rw [if_pos h1, if_neg (fun z => z.1 h1)]
  · rw [if_neg h1]
    by_cases h2 : t.2.2.1 162 k < t.2.2.1 163 c
    · rw [if_pos h2, if_neg (fun z => z.2.1 h2)]
    · rw [if_neg h2]
      by_cases h3 : t.2.2.1 164 c < t.2.2.1 161 k
      · rw [if_pos h3, if_neg (fun z => z.2.2.1 h3)]
      · rw [if_neg h3]
        by_cases h4 : t.2.2.1 162 k < t.2.2.1 164 c
        · rw [if_pos h4, if_neg (fun z => z.2.2.2 h4)]
        · rw [if_neg h4, if_pos ⟨h1, h2, h3, h4⟩]
/-- no other call has the car -/
def fre (t : TS) (k c o : Nat) : Bool := o == c || t.2.2.1 166 o == 0 || !(t.2.2.1 167 o == Int32.ofNat k)
theorem t_beg {t : TS} {nk k c : Nat} (h : t.1 606 = Int32.ofNat nk) (hn : nk ≤ 400) (hk : k < 4) (hc : c < nk) : t_849 (Int32.ofNat c) (Int32.ofNat k) t = some (if (rch t k c && (List.range nk).all (fre t k c)) = true then (1, wrI t 167 c (Int32.ofNat k)) else (0, t)) := by
  suffices h : Tr (t_849 (Int32.ofNat c) (Int32.ofNat k) t) (fun v => v = (if (rch t k c && (List.range nk).all (fre t k c)) = true then (1, wrI t 167 c (Int32.ofNat k)) else (0, t))) by
    obtain ⟨x, h1, h2⟩ := h
    rw [h1, h2]
  have hk0 : ¬ Int32.ofNat k < 0 := i_nlt0 (by omega)
  unfold t_849
  rw [if_neg hk0, t_rch hk (by omega), Option.bind_some]
  have e1 : (if (if rch t k c = true then (1 : Int32) else 0) = 0 then some (0 : Int32) else some 1) = some (if rch t k c = true then 1 else 0) := by cases rch t k c <;> rfl
  rw [e1, Option.bind_some]
  refine Tr.bd (P := fun v => v = if (rch t k c && (List.range nk).all (fre t k c)) = true then (1 : Int32) else 0) (wh_cnt nk (fun i a => a = (if (rch t k c && (List.range i).all (fre t k c)) = true then (1 : Int32) else 0, Int32.ofNat i)) ?_ ?_ (by simp)) ?_
  · rintro i _ hi rfl
    refine Or.inr ⟨_, ?_, rfl⟩
    dsimp only
    rw [h, if_pos ((i_lt (by omega) (by omega)).mpr hi), all_suc, i_suc]
    cases hg : (rch t k c && (List.range i).all (fre t k c)) with
    | false => simp [← Bool.and_assoc, hg]
    | true =>
      rw [← Bool.and_assoc, hg, Bool.true_and, if_pos rfl, if_neg (by decide), if_neg hk0]
      by_cases z : i = c
      · rw [if_pos (by rw [z])]; simp [fre, z]
      · rw [if_neg (fun w => z ((i_inj (by omega) (by omega)).mp w)), rdI_n (by omega) (by omega), Option.bind_some]
        by_cases z2 : t.2.2.1 166 i = 0
        · rw [if_pos z2]; simp [fre, z2]
        · rw [if_neg z2, rdI_n (by omega) (by omega), Option.bind_some]
          by_cases z3 : t.2.2.1 167 i = Int32.ofNat k
          · rw [if_pos z3]; simp [fre, z, z2, z3]
          · rw [if_neg z3]; simp [fre, z3]
  · rintro _ rfl
    refine ⟨_, ?_, rfl⟩
    dsimp only
    rw [h, if_neg (by rw [i_lt (by omega) (by omega)]; omega)]
  · rintro _ rfl
    cases (rch t k c && (List.range nk).all (fre t k c)) with
    | true =>
      refine ⟨_, ?_, rfl⟩
      rw [if_pos rfl, if_neg (by decide), Option.bind_some, stI_n (by omega) (by omega), Option.bind_some, if_pos (Or.inr rfl)]; rfl
    | false =>
      refine ⟨_, ?_, rfl⟩
      rw [show (if false = true then (1 : Int32) else 0) = 0 from rfl, if_pos rfl, rdI_n (by omega) (by omega), Option.bind_some, Option.bind_some, stI_n (by omega) (by omega), Option.bind_some, if_pos (Or.inl rfl), wr_id]; rfl
theorem t_beg0 {t : TS} {nk c : Nat} (h : t.1 606 = Int32.ofNat nk) (hn : nk ≤ 400) (hc : c < nk) : t_849 (Int32.ofNat c) (-1) t = some (1, wrI t 167 c (-1)) := by
  suffices h : Tr (t_849 (Int32.ofNat c) (-1) t) (fun v => v = (1, wrI t 167 c (-1))) by
    obtain ⟨x, h1, h2⟩ := h
    rw [h1, h2]
  unfold t_849
  rw [if_pos (by decide), Option.bind_some]
  refine Tr.bd (P := fun v => v = 1) (wh_cnt nk (fun i a => a = (1, Int32.ofNat i)) ?_ ?_ rfl) ?_
  · rintro i _ hi rfl
    refine Or.inr ⟨_, ?_, rfl⟩
    dsimp only
    rw [h, if_pos ((i_lt (by omega) (by omega)).mpr hi), if_neg (by decide), if_pos (by decide), Option.bind_some, i_suc]
  · rintro _ rfl
    refine ⟨_, ?_, rfl⟩
    dsimp only
    rw [h, if_neg (by rw [i_lt (by omega) (by omega)]; omega)]
  · rintro _ rfl
    refine ⟨_, ?_, rfl⟩
    rw [if_neg (by decide), Option.bind_some, stI_n (by omega) (by omega), Option.bind_some, if_pos (Or.inr rfl)]
