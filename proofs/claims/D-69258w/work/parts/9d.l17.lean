/-! the lifts: the reference deals out and tells -/
theorem i_mod {a b : Nat} (ha : a < 2147483648) (hb : b < 2147483648) : Int32.ofNat a - Int32.ofNat a / Int32.ofNat b * Int32.ofNat b = Int32.ofNat (a % b) := by
  rw [i_div ha hb, i_mul, i_sub (Nat.div_mul_le_self a b)]
  congr 1
  have := Nat.div_add_mod a b
  rw [Nat.mul_comm] at this
  omega
theorem or_low {m B e : Nat} (he : e < 2) : 2 ^ (m + 1) * B ||| e * 2 ^ m = 2 ^ m * (2 * B + e) := by
  rw [← Nat.two_pow_add_eq_or_of_lt (by rw [Nat.pow_succ]; have := Nat.mul_le_mul_right (2 ^ m) (show e ≤ 1 by omega); have := Nat.two_pow_pos m; omega)]
  rw [Nat.pow_succ, Nat.mul_add, Nat.mul_assoc, Nat.mul_comm e]
theorem t_bits {T : TS} {nc n w c : Nat} (h6 : T.1 600 = Int32.ofNat nc) (hn0 : 0 < nc) (hn : nc ≤ 4) (h14 : T.1 614 = Int32.ofNat n) (hn6 : n ≤ 6) (hw : w < 1000000) (hc : c < 4) : t_862 (Int32.ofNat w) (Int32.ofNat c) T = some (Int32.ofNat (bitW nc n w c)) := by
  suffices q : Tr (t_862 (Int32.ofNat w) (Int32.ofNat c) T) (fun x => x = Int32.ofNat (bitW nc n w c)) by
    obtain ⟨x, h1, h2⟩ := q
    rw [h1, h2]
  have hz : ¬ T.1 600 = 0 := by rw [h6, i_eqL (by omega) (by omega)]; omega
  unfold t_862
  refine Tr.bd (P := fun x => x = Int32.ofNat (bitW nc n w c)) (wh_cnt n (fun i st => ∃ B r, st = (Int32.ofNat (2 ^ (n - i) * B), Int32.ofNat r, if i < n then Int32.ofNat (n - 1 - i) else -1) ∧ r < 1000000 ∧ bitW nc n w c = 2 ^ (n - i) * B + bitW nc (n - i) r c) ?_ ?_ ⟨0, w, ?_, hw, by simp⟩) ?_
  · rintro i _ hi ⟨B, r, rfl, hr, e⟩
    obtain ⟨m, hm⟩ : ∃ m, n - i = m + 1 := ⟨n - i - 1, by omega⟩
    have hm2 : n - 1 - i = m := by omega
    have hm3 : n - (i + 1) = m := by omega
    rw [hm] at e
    have e2 : bitW nc (m + 1) r c = bitW nc m (r / nc) c + (if r % nc = c then 1 else 0) * 2 ^ m := rfl
    have hdiv : r / nc ≤ r := Nat.div_le_self _ _
    have hmod : r % nc < nc := Nat.mod_lt _ hn0
    refine Or.inr ⟨(Int32.ofNat (2 ^ m * (2 * B + (if r % nc = c then 1 else 0))), Int32.ofNat (r / nc), if i + 1 < n then Int32.ofNat (n - 1 - (i + 1)) else -1), ?_, 2 * B + (if r % nc = c then 1 else 0), r / nc, by rw [hm3], by omega, ?_⟩
    · dsimp only
      rw [if_pos hi, if_neg (i_nlt0 (by omega)), if_neg hz, h6, i_mod (by omega) (by omega), i_div (by omega) (by omega), hm, hm2]
      have e3 : (if i + 1 < n then Int32.ofNat (n - 1 - (i + 1)) else -1) = Int32.ofNat m - 1 := by
        by_cases y : i + 1 < n
        · rw [if_pos y, i_subL (show 1 ≤ m by omega), show n - 1 - (i + 1) = m - 1 by omega]
        · rw [if_neg y, show m = 0 by omega]; rfl
      rw [e3]
      have e4 : (if Int32.ofNat (r % nc) = Int32.ofNat c then some ((1 : Int32) <<< (Int32.ofNat m &&& 31)) else some 0) = some (Int32.ofNat ((if r % nc = c then 1 else 0) * 2 ^ m)) := by
        by_cases y : r % nc = c
        · rw [if_pos (by rw [y]), if_pos y, i_and31, Nat.mod_eq_of_lt (by omega), show (1 : Int32) = Int32.ofNat 1 from rfl, i_shl (by omega)]
        · rw [if_neg (fun z => y ((i_inj (by omega) (by omega)).mp z)), if_neg y]; simp
      rw [e4, Option.bind_some, if_neg (by rw [i_eqL (by omega) (by omega)]; omega), i_or, or_low (by split <;> omega)]
    · rw [e, e2, hm3, Nat.mul_add, ← Nat.mul_assoc, Nat.pow_succ, Nat.mul_comm (2 ^ m) (if r % nc = c then 1 else 0)]
      omega
  · rintro _ ⟨B, r, rfl, hr, e⟩
    refine ⟨_, ?_, rfl⟩
    dsimp only
    rw [if_neg (show ¬ n < n by omega), if_pos (by decide), e, Nat.sub_self]; rfl
  · by_cases y : 0 < n
    · rw [if_pos y, h14, i_subL (by omega), Nat.mul_zero]; rfl
    · rw [if_neg y, h14, show n = 0 by omega]; rfl
  · rintro _ rfl
    exact ⟨_, rfl, rfl⟩
/-- costs of all rows stand -/
def Cst (t T : TS) (nc n : Nat) (f : Nat → Nat) : Prop := ∀ c σ, c < nc → σ < 2 ^ n → Fnd T f (64 * c + σ) (bstR t n f c σ)
noncomputable def smW (t : TS) (nc n : Nat) (f : Nat → Nat) (w : Nat) : Nat := sumN (fun c => (bstR t n f c (bitW nc n w c)).1) nc
theorem bsr_le (w : Cw) (be : Nat → Bool) (sec a : Nat) (L : List Nat) (b : Nat × List Nat) : (bsr w be sec a L b).1 ≤ b.1 := by
  unfold bsr
  generalize lexP L.length L = K
  induction K generalizing b with
  | nil => exact Nat.le_refl _
  | cons p K ih =>
    rw [List.foldl_cons]
    refine Nat.le_trans (ih _) ?_
    split
    · rename_i h; exact Nat.le_of_lt h.2
    · exact Nat.le_refl _
theorem bstR_le (t : TS) (n : Nat) (f : Nat → Nat) (k σ : Nat) : (bstR t n f k σ).1 ≤ 1152921504606846976 := by
  unfold bstR
  split
  · exact bsr_le ..
  · exact Nat.le_refl _
theorem pow_n6 {n : Nat} (h : n ≤ 6) : 2 ^ n ≤ 64 := Nat.pow_le_pow_right (n := 2) (by omega) h
theorem pow_46 {nc n : Nat} (h : nc ≤ 4) (hn : n ≤ 6) : nc ^ n ≤ 4096 := Nat.le_trans (Nat.pow_le_pow_left h n) (Nat.pow_le_pow_right (n := 4) (by omega) hn)
theorem t_sum {t T : TS} {nc n w : Nat} {f : Nat → Nat} (v : Lv t nc n f) (h : Sr t T) (hw : w < 1000000) (hC : Cst t T nc n f) : t_861 (Int32.ofNat w) T = some (Int64.ofNat (smW t nc n f w)) := by
  suffices q : Tr (t_861 (Int32.ofNat w) T) (fun x => x = Int64.ofNat (smW t nc n f w)) by
    obtain ⟨x, h1, h2⟩ := q
    rw [h1, h2]
  have hn := v.2.1
  have hn6 := v.2.2.1
  have h6 : T.1 600 = Int32.ofNat nc := (h.1 600 (by omega)).trans v.1
  have h14 : T.1 614 = Int32.ofNat n := (h.1 614 (by omega)).trans v.2.2.2.2.2.2.2.1
  have hp := pow_n6 hn6
  unfold t_861
  refine Tr.bd (P := fun x => x = Int64.ofNat (smW t nc n f w)) (wh_cnt nc (fun i st => st = (Int64.ofNat (sumN (fun c => (bstR t n f c (bitW nc n w c)).1) i), Int32.ofNat i)) ?_ ?_ rfl) ?_
  · rintro i _ hi rfl
    have hb := bitW_lt nc n w i
    refine Or.inr ⟨_, ?_, rfl⟩
    dsimp only
    rw [h6, if_pos ((i_lt (by omega) (by omega)).mpr hi), t_bits h6 (by omega) hn h14 hn6 hw (by omega), Option.bind_some, at_of, rdL_n (by omega) (by omega), (hC i _ hi hb).1, Option.bind_some, l_add, i_suc]; rfl
  · rintro _ rfl
    refine ⟨_, ?_, rfl⟩
    dsimp only
    rw [h6, if_neg (by rw [i_lt (by omega) (by omega)]; omega)]; rfl
  · rintro _ rfl
    exact ⟨_, rfl, rfl⟩
theorem bsr_len6 {w : Cw} {be : Nat → Bool} {sec a : Nat} {L : List Nat} (hp : L.Pairwise (· < ·)) {b : Nat × List Nat} : (bsr w be sec a L b).2.length ≤ max b.2.length L.length := by
  unfold bsr
  have hm := lexP_mem L.length L rfl hp
  generalize lexP L.length L = K at hm
  induction K generalizing b with
  | nil => exact Nat.le_max_left _ _
  | cons p K ih =>
    rw [List.foldl_cons]
    refine Nat.le_trans (ih (fun q hq => hm q (List.mem_cons_of_mem _ hq))) ?_
    have := (hm p (by simp)).1
    split
    · simp only; omega
    · omega
theorem bstR_len (t : TS) (n : Nat) (f : Nat → Nat) (k σ : Nat) : (bstR t n f k σ).2.length ≤ n := by
  unfold bstR
  split
  · refine Nat.le_trans (bsr_len6 (plL_pw n σ)) ?_
    have := plL_len n σ
    simp; omega
  · exact Nat.zero_le _
/-- all sets of all cars -/
theorem t_sets {t : TS} {nc n : Nat} {f : Nat → Nat} (v : Lv t nc n f) (h0 : 0 < n → t.1 613 = 0) : Tr (wh (S := TS × Int32) (X := TS) (fun p19 => (if p19.2 < (p19.1.1 600) then Option.bind (α := TS) (wh (S := TS × Int32) (X := TS) (fun p25 => (if p25.2 < ((1 : Int32) <<< ((p25.1.1 614) &&& 31)) then Option.bind (α := TS) (t_854 p19.2 p25.2 p25.1) (fun x2 => some (.inl (x2, p25.2 + 1))) else some (.inr p25.1))) (p19.1, 0)) (fun v37 => some (.inl (v37, p19.2 + 1))) else some (.inr p19.1))) (t, 0)) (fun T => Sr t T ∧ Cst t T nc n f) := by
  have hn := v.2.1
  have hn6 := v.2.2.1
  have hp := pow_n6 hn6
  refine wh_cnt nc (fun i a => a.2 = Int32.ofNat i ∧ Sr t a.1 ∧ ∀ c σ, c < i → σ < 2 ^ n → Fnd a.1 f (64 * c + σ) (bstR t n f c σ)) ?_ ?_ ⟨rfl, Sr.refl t, fun c σ hc => by omega⟩
  · rintro i ⟨T, a⟩ hi ⟨ha, g1, g2⟩
    dsimp only at ha g1 g2 ⊢
    subst ha
    have hin : Tr (wh (S := TS × Int32) (X := TS) (fun p25 => (if p25.2 < ((1 : Int32) <<< ((p25.1.1 614) &&& 31)) then Option.bind (α := TS) (t_854 (Int32.ofNat i) p25.2 p25.1) (fun x2 => some (.inl (x2, p25.2 + 1))) else some (.inr p25.1))) (T, 0)) (fun V => Sr t V ∧ ∀ c σ, c < i + 1 → σ < 2 ^ n → Fnd V f (64 * c + σ) (bstR t n f c σ)) := by
      have e14 : ∀ V : TS, Sr t V → (1 : Int32) <<< ((V.1 614) &&& 31) = Int32.ofNat (2 ^ n) := by
        intro V hV
        rw [hV.1 614 (by omega), v.2.2.2.2.2.2.2.1, i_and31, Nat.mod_eq_of_lt (by omega), show (1 : Int32) = Int32.ofNat 1 from rfl, i_shl (by omega), Nat.one_mul]
      refine wh_cnt (2 ^ n) (fun j a => a.2 = Int32.ofNat j ∧ Sr t a.1 ∧ (∀ c σ, c < i → σ < 2 ^ n → Fnd a.1 f (64 * c + σ) (bstR t n f c σ)) ∧ ∀ σ, σ < j → Fnd a.1 f (64 * i + σ) (bstR t n f i σ)) ?_ ?_ ⟨rfl, g1, g2, fun σ hσ => by omega⟩
      · rintro j ⟨V, a⟩ hj ⟨ha, k1, k2, k3⟩
        dsimp only at ha k1 k2 k3 ⊢
        subst ha
        obtain ⟨W, e, x1, x2, x3⟩ := t_find v h0 k1 hi (show j < 64 by omega)
        refine Or.inr ⟨(W, Int32.ofNat (j + 1)), by rw [e14 V k1, if_pos ((i_lt (by omega) (by omega)).mpr hj), e, Option.bind_some, i_suc], rfl, x1, fun c σ hc hσ => ⟨?_, fun q hq => ?_⟩, fun σ hσ => ?_⟩
        · rw [x2.1 _ (by omega)]; exact (k2 c σ hc hσ).1
        · have hq6 : q < 6 := by
            have := bstR_len t n f c σ
            omega
          rw [x2.2 _ (by omega)]; exact (k2 c σ hc hσ).2 q hq
        · by_cases y : σ = j
          · subst y; exact x3
          · have k3 := k3 σ (by omega)
            refine ⟨by rw [x2.1 _ (by omega)]; exact k3.1, fun q hq => ?_⟩
            have hq6 : q < 6 := by
              have := bstR_len t n f i σ
              omega
            rw [x2.2 _ (by omega)]; exact k3.2 q hq
      · rintro ⟨V, a⟩ ⟨ha, k1, k2, k3⟩
        dsimp only at ha k1 k2 k3 ⊢
        subst ha
        refine ⟨V, by rw [e14 V k1, if_neg (by rw [i_lt (by omega) (by omega)]; omega)], k1, fun c σ hc hσ => ?_⟩
        by_cases y : c = i
        · subst y; exact k3 σ hσ
        · exact k2 c σ (by omega) hσ
    obtain ⟨V, e, k1, k2⟩ := hin
    refine Or.inr ⟨(V, Int32.ofNat (i + 1)), by rw [g1.1 600 (by omega), v.1, if_pos ((i_lt (by omega) (by omega)).mpr hi), e, Option.bind_some, i_suc], rfl, k1, k2⟩
  · rintro ⟨T, a⟩ ⟨ha, g1, g2⟩
    dsimp only at ha g1 g2 ⊢
    subst ha
    exact ⟨T, by rw [g1.1 600 (by omega), v.1, if_neg (by rw [i_lt (by omega) (by omega)]; omega)], g1, g2⟩
