/-! the program: kinds of the reference -/
def allW (t : TS) (k m : Nat) : Bool := (List.range m).all (fun i => !(wire t k i == -1))
theorem allW_0 (t : TS) (k : Nat) : allW t k 0 = true := rfl
theorem allW_1 (t : TS) (k : Nat) : allW t k 1 = !(wire t k 0 == -1) := by unfold allW; rw [all_suc]; simp
theorem allW_2 (t : TS) (k : Nat) : allW t k 2 = (!(wire t k 0 == -1) && !(wire t k 1 == -1)) := by unfold allW; rw [all_suc, all_suc]; simp
theorem allW_3 (t : TS) (k : Nat) : allW t k 3 = (!(wire t k 0 == -1) && !(wire t k 1 == -1) && !(wire t k 2 == -1)) := by unfold allW; rw [all_suc, all_suc, all_suc]; simp
section
variable {t : TS} {n k K : Nat}
theorem t_wl (ho : okW t n) (hk : k < n) (hK : K < 26) : wh (S := Int32) (X := Sum (Unit) (Sum (Unit) (Int32))) (fun p7 => Option.bind (α := Int32) (t_809 (Int32.ofNat K) t) (fun x2 => (if p7 < x2 then (if Int32.ofNat K = 16 then some (.inr (.inr (.inl ()))) else Option.bind (α := Int32) (rdI t 129 120 ((3 * Int32.ofNat k) + p7)) (fun x3 => (if x3 < 0 then some (.inr (.inl ())) else some (.inl (p7 + 1))))) else some (.inr (.inr (.inl ())))))) 0 = some (if K = 16 ∨ allW t k (inp K) = true then .inr (.inl ()) else .inl ()) := by
  have hn := ho.1
  have hwi := (ho.2.2 k hk).2
  have h3 := inp_3 K
  simp only [t_inp hK, Option.bind_some]
  by_cases h16 : K = 16
  · subst h16
    rw [wh_inr (x := .inr (.inl ())) rfl]
    rfl
  · have h16' : ¬ Int32.ofNat K = 16 := by rw [i_eqL (by omega) (by omega)]; exact h16
    simp only [h16', if_false, h16, false_or]
    suffices h : Tr (wh (S := Int32) (X := Sum (Unit) (Sum (Unit) (Int32))) (fun p7 => (if p7 < Int32.ofNat (inp K) then Option.bind (α := Int32) (rdI t 129 120 ((3 * Int32.ofNat k) + p7)) (fun x3 => (if x3 < 0 then some (.inr (.inl ())) else some (.inl (p7 + 1)))) else some (.inr (.inr (.inl ()))))) 0) (fun v => v = if allW t k (inp K) = true then .inr (.inl ()) else .inl ()) by
      obtain ⟨x, h1, h2⟩ := h
      rw [h1, h2]
    refine wh_cnt (inp K) (fun i a => a = Int32.ofNat i ∧ allW t k i = true) ?_ ?_ ⟨rfl, rfl⟩
    · rintro i _ hi ⟨rfl, ha⟩
      rw [if_pos ((i_lt (by omega) (by omega)).mpr hi), i_mulL, i_add, rdI_n (by omega) (by omega), Option.bind_some]
      rcases hwi i (by omega) with e | ⟨w, hw, e⟩
      · have e' : t.2.2.1 129 (3 * k + i) = -1 := e
        refine Or.inl ⟨_, by rw [e', if_pos (by decide)], ?_⟩
        rw [if_neg]
        intro z
        unfold allW at z
        rw [List.all_eq_true] at z
        have := z i (List.mem_range.mpr hi)
        simp [e] at this
      · have e' : t.2.2.1 129 (3 * k + i) = Int32.ofNat w := e
        refine Or.inr ⟨_, by rw [e', if_neg (i_nlt0 (by omega))], i_suc i, ?_⟩
        unfold allW at ha ⊢
        rw [all_suc, ha]
        simp [e, i_ne1 (show w < 2147483648 by omega)]
    · rintro _ ⟨rfl, ha⟩
      exact ⟨_, by rw [if_neg (by rw [i_lt (by omega) (by omega)]; omega)], by rw [if_pos ha]⟩
theorem t_in {i : Nat} {x : Int32} (ho : okW t n) (hk : k < n) (hi : i < 3) (hx : inV t k i = some x) : t_814 (Int32.ofNat k) (Int32.ofNat i) t = some x := by
  have hn := ho.1
  unfold inV at hx
  rcases (ho.2.2 k hk).2 i hi with e | ⟨w, hw, e⟩
  · rw [if_pos e] at hx; cases hx
  · rw [e, if_neg (i_ne1 (by omega)), bN, i_clamp (by omega)] at hx
    unfold t_814
    have e' : t.2.2.1 129 (3 * k + i) = Int32.ofNat w := e
    rw [i_mulL, i_add, rdI_n (by omega) (by omega), Option.bind_some, e', rdI_n (by omega) (by omega), Option.bind_some]
    exact hx
theorem inV_w {i : Nat} : (wire t k i == -1) = (inV t k i).isNone := by
  unfold inV
  by_cases e : wire t k i = -1
  · simp [e]
  · simp [e]
theorem t_fail {w : Nat} (ho : okW t n) (hk : k < n) (hw : 0 < w ∧ w < 4) (hf : t_813 (Int32.ofNat k) t = some (Int32.ofNat w)) : t_812 (Int32.ofNat k) t = some (app t k (.inr (Int32.ofNat w))) := by
  have hn := ho.1
  unfold t_812
  rw [hf, Option.bind_some, if_pos ((i_Llt (by omega) (by omega)).mpr hw.1)]
  unfold t_815
  rw [rdI_0 (a := 0) (by decide) (by decide), Option.bind_some, stI_0 (a := 0) (by decide) (by decide), Option.bind_some, rdI_n (by omega) (by omega), Option.bind_some, wr_nk (show w ≠ 0 by omega), stI_n (by omega) (by omega), Option.bind_some, rdI_n (by omega) (by omega), Option.bind_some, wr_ne (by omega), wr_ne (by omega), stI_n (by omega) (by omega), Option.bind_some, Option.bind_some, Option.bind_some, rdI_n (by omega) (by omega), Option.bind_some]
  have hbw : bN (Int32.ofNat w) = w := i_clamp (by omega)
  rw [show app t k (.inr (Int32.ofNat w)) = wrI (wrI (wrI t 140 0 (t.2.2.1 140 0 + 1)) 140 (bN (Int32.ofNat w)) (t.2.2.1 140 (bN (Int32.ofNat w)) + 1)) 131 k (if t.2.2.1 134 k = 0 then t.2.2.1 128 k else t.2.2.1 135 k) from rfl, hbw]
  by_cases h : t.2.2.1 134 k = 0
  · have : (wrI (wrI (wrI t 140 0 (t.2.2.1 140 0 + 1)) 140 w (t.2.2.1 140 w + 1)) 131 k (t.2.2.1 128 k)).2.2.1 134 k = 0 := by rw [wr_ne (by omega), wr_ne (by omega), wr_ne (by omega)]; exact h
    rw [if_pos this, if_pos h, rdI_n (by omega) (by omega), Option.bind_some, Option.bind_some, stI_n (by omega) (by omega), Option.bind_some, wr_wr]
    congr 2
    rw [wr_at, if_pos ⟨rfl, rfl⟩]
  · have : ¬ (wrI (wrI (wrI t 140 0 (t.2.2.1 140 0 + 1)) 140 w (t.2.2.1 140 w + 1)) 131 k (t.2.2.1 128 k)).2.2.1 134 k = 0 := by rw [wr_ne (by omega), wr_ne (by omega), wr_ne (by omega)]; exact h
    rw [if_neg this, if_neg h, rdI_n (by omega) (by omega), Option.bind_some, Option.bind_some, stI_n (by omega) (by omega), Option.bind_some, wr_wr]
    congr 2
/-- the end of a block's second: by hand, or as it was reckoned -/
theorem t_hand {U : TS} {o : Int32} (hk : k < 40) (h4 : U.2.2.1 134 k = t.2.2.1 134 k) (h5 : U.2.2.1 135 k = t.2.2.1 135 k) : Option.bind (α := TS) (Option.bind (α := TS) (stI U 131 40 (Int32.ofNat k) o) (fun s10 => some s10)) (fun v65 => Option.bind (α := Int32) (rdI v65 134 40 (Int32.ofNat k)) (fun x12 => Option.bind (α := Int32) ((if x12 = 0 then Option.bind (α := Int32) (rdI v65 131 40 (Int32.ofNat k)) (fun x13 => some x13) else Option.bind (α := Int32) (rdI v65 135 40 (Int32.ofNat k)) (fun x14 => some x14))) (fun v82 => Option.bind (α := TS) (stI v65 131 40 (Int32.ofNat k) v82) (fun s15 => some s15)))) = some (wrI U 131 k (if t.2.2.1 134 k = 0 then o else t.2.2.1 135 k)) := by
  rw [stI_n (by omega) (by omega), Option.bind_some, Option.bind_some, rdI_n (by omega) (by omega), Option.bind_some, wr_ne (by omega), h4]
  by_cases h : t.2.2.1 134 k = 0
  · rw [if_pos h, if_pos h, rdI_n (by omega) (by omega), Option.bind_some, Option.bind_some, stI_n (by omega) (by omega), Option.bind_some, wr_wr, wr_at, if_pos ⟨rfl, rfl⟩]
  · rw [if_neg h, if_neg h, rdI_n (by omega) (by omega), Option.bind_some, Option.bind_some, stI_n (by omega) (by omega), Option.bind_some, wr_wr, wr_ne (by omega), h5]
theorem t_okp {x y o : Int32} (ho : okW t n) (hk : k < n) (hK : K < 16) (hKe : t.2.2.1 125 k = Int32.ofNat K) (hf : t_813 (Int32.ofNat k) t = some 0) (hx : 0 < inp K → inV t k 0 = some x) (hx0 : inp K = 0 → x = 0) (hy : 1 < inp K → inV t k 1 = some y) (hy0 : inp K ≤ 1 → y = 0) (hp : t_816 (Int32.ofNat k) x y t = some o) : t_812 (Int32.ofNat k) t = some (app t k (.inl (o, t.2.2.1 132 k, t.2.2.1 133 k))) := by
  have hn := ho.1
  have h3 := inp_3 K
  unfold t_812
  rw [show app t k (.inl (o, t.2.2.1 132 k, t.2.2.1 133 k)) = wrI (fg t k (t.2.2.1 132 k) (t.2.2.1 133 k)) 131 k (if t.2.2.1 134 k = 0 then o else t.2.2.1 135 k) from rfl, hf, Option.bind_some, if_neg (by decide), rdI_n (by omega) (by omega), Option.bind_some, hKe, if_neg (by rw [i_eqL (by omega) (by omega)]; omega), Option.bind_some, t_inp (by omega), Option.bind_some, Option.bind_some]
  have e1 : (if (0 : Int32) < Int32.ofNat (inp K) then Option.bind (α := Int32) (t_814 (Int32.ofNat k) 0 t) (fun x5 => some x5) else some 0) = some x := by
    by_cases h : 0 < inp K
    · rw [if_pos ((i_Llt (by omega) (by omega)).mpr h), show t_814 (Int32.ofNat k) 0 t = some x from t_in (i := 0) ho hk (by omega) (hx h)]; rfl
    · rw [if_neg (fun z => h ((i_Llt (by omega) (by omega)).mp z)), hx0 (by omega)]
  have e2 : (if (1 : Int32) < Int32.ofNat (inp K) then Option.bind (α := Int32) (t_814 (Int32.ofNat k) 1 t) (fun x6 => some x6) else some 0) = some y := by
    by_cases h : 1 < inp K
    · rw [if_pos ((i_Llt (by omega) (by omega)).mpr h), show t_814 (Int32.ofNat k) 1 t = some y from t_in (i := 1) ho hk (by omega) (hy h)]; rfl
    · rw [if_neg (fun z => h ((i_Llt (by omega) (by omega)).mp z)), hy0 (by omega)]
  rw [e1, Option.bind_some, e2, Option.bind_some, Option.bind_some, if_pos ((i_ltL (by omega) (by omega)).mpr hK), hp, Option.bind_some, Option.bind_some]
  dsimp only
  rw [t_hand (t := t) (by omega) rfl rfl, fg_id]
theorem t_okk {x y o f g : Int32} (ho : okW t n) (hk : k < n) (hK : 16 ≤ K) (hK2 : K < 26) (hKe : t.2.2.1 125 k = Int32.ofNat K) (hf : t_813 (Int32.ofNat k) t = some 0) (hx : K ≠ 16 → 0 < inp K → inV t k 0 = some x) (hx0 : K = 16 ∨ inp K = 0 → x = 0) (hy : 1 < inp K → inV t k 1 = some y) (hy0 : inp K ≤ 1 → y = 0) (hp : t_817 (Int32.ofNat k) x y t = some (o, fg t k f g)) : t_812 (Int32.ofNat k) t = some (app t k (.inl (o, f, g))) := by
  have hn := ho.1
  have h3 := inp_3 K
  unfold t_812
  rw [show app t k (.inl (o, f, g)) = wrI (fg t k f g) 131 k (if t.2.2.1 134 k = 0 then o else t.2.2.1 135 k) from rfl, hf, Option.bind_some, if_neg (by decide), rdI_n (by omega) (by omega), Option.bind_some, hKe]
  have e0 : (if Int32.ofNat K = 16 then some (0 : Int32) else Option.bind (α := Int32) (some (Int32.ofNat K)) (fun x3 => Option.bind (α := Int32) (t_809 x3 t) (fun x4 => some x4))) = some (if K = 16 then 0 else Int32.ofNat (inp K)) := by
    by_cases h : K = 16
    · rw [if_pos (by rw [h]; rfl), if_pos h]
    · rw [if_neg (by rw [i_eqL (by omega) (by omega)]; exact h), if_neg h, Option.bind_some, t_inp (by omega)]; rfl
  rw [e0, Option.bind_some]
  have e1 : (if (0 : Int32) < (if K = 16 then 0 else Int32.ofNat (inp K)) then Option.bind (α := Int32) (t_814 (Int32.ofNat k) 0 t) (fun x5 => some x5) else some 0) = some x := by
    by_cases h16 : K = 16
    · rw [if_pos h16, if_neg (by decide), hx0 (Or.inl h16)]
    · rw [if_neg h16]
      by_cases h : 0 < inp K
      · rw [if_pos ((i_Llt (by omega) (by omega)).mpr h), show t_814 (Int32.ofNat k) 0 t = some x from t_in (i := 0) ho hk (by omega) (hx h16 h)]; rfl
      · rw [if_neg (fun z => h ((i_Llt (by omega) (by omega)).mp z)), hx0 (Or.inr (by omega))]
  have e2 : (if (1 : Int32) < (if K = 16 then 0 else Int32.ofNat (inp K)) then Option.bind (α := Int32) (t_814 (Int32.ofNat k) 1 t) (fun x6 => some x6) else some 0) = some y := by
    by_cases h16 : K = 16
    · rw [if_pos h16, if_neg (by decide), hy0 (by rw [h16]; decide)]
    · rw [if_neg h16]
      by_cases h : 1 < inp K
      · rw [if_pos ((i_Llt (by omega) (by omega)).mpr h), show t_814 (Int32.ofNat k) 1 t = some y from t_in (i := 1) ho hk (by omega) (hy h)]; rfl
      · rw [if_neg (fun z => h ((i_Llt (by omega) (by omega)).mp z)), hy0 (by omega)]
  rw [e1, Option.bind_some, e2, Option.bind_some, Option.bind_some, if_neg (by rw [i_ltL (by omega) (by omega)]; omega), hp, Option.bind_some, Option.bind_some]
  dsimp only
  rw [t_hand (t := t) (by omega) (by unfold fg; rw [wr_ne (by omega), wr_ne (by omega)]) (by unfold fg; rw [wr_ne (by omega), wr_ne (by omega)])]
/-- why a block can't: what is not of its inputs -/
theorem t_813w (ho : okW t n) (hk : k < n) (hK : K < 26) (hKe : t.2.2.1 125 k = Int32.ofNat K) (h16 : K ≠ 16) (hw : allW t k (inp K) = false) : t_813 (Int32.ofNat k) t = some 3 := by
  have hn := ho.1
  unfold t_813
  rw [rdI_n (by omega) (by omega), Option.bind_some, hKe, t_wl ho hk hK, if_neg (by rw [hw]; simp [h16])]
  rfl
theorem t_813o (ho : okW t n) (hk : k < n) (hK : K < 26) (hKe : t.2.2.1 125 k = Int32.ofNat K) (hw : K = 16 ∨ allW t k (inp K) = true) (h5 : K ≠ 5) (h6 : K ≠ 6) (h0 : K ≠ 0) (h15 : K ≠ 15) : t_813 (Int32.ofNat k) t = some 0 := by
  have hn := ho.1
  have ne : ∀ j, j < 100 → K ≠ j → ¬ Int32.ofNat K = Int32.ofNat j := fun j hj h z => h ((i_inj (by omega) (by omega)).mp z)
  unfold t_813
  rw [rdI_n (by omega) (by omega), Option.bind_some, hKe, t_wl ho hk hK, if_pos hw]
  simp only [Option.bind_some, Sum.elim_inl, Sum.elim_inr]
  rw [if_neg (show ¬ Int32.ofNat K = 5 from ne 5 (by omega) h5), if_neg (show ¬ Int32.ofNat K = 6 from ne 6 (by omega) h6)]
  simp only [Option.bind_some, Sum.elim_inl, Sum.elim_inr]
  rw [if_neg (show ¬ Int32.ofNat K = 0 from ne 0 (by omega) h0)]
  simp only [Option.bind_some, Sum.elim_inl, Sum.elim_inr]
  rw [if_neg (show ¬ Int32.ofNat K = 15 from ne 15 (by omega) h15)]
  rfl
end
