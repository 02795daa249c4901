/-! the lifts: a call's cars -/
def fit (t : TS) (k c : Nat) : Bool := rch t k c && (t.2.2.1 167 c == -1 || t.2.2.1 167 c == Int32.ofNat k)
def cob (t : TS) (c : Nat) : Nat → Nat
  | 0 => 0
  | k + 1 => cob t c k + (if fit t k c = true then 2 ^ k else 0)
theorem cob_lt (t : TS) (c k : Nat) : cob t c k < 2 ^ k := by
  induction k with
  | zero => exact Nat.zero_lt_one
  | succ k ih =>
    unfold cob
    rw [Nat.pow_succ]
    split <;> omega
theorem or_pow {a k : Nat} (h : a < 2 ^ k) : a ||| 2 ^ k = a + 2 ^ k := by
  have := Nat.two_pow_add_eq_or_of_lt h 1
  rw [Nat.mul_one] at this
  rw [Nat.or_comm, ← this, Nat.add_comm]
theorem cob_or {t : TS} {c k : Nat} (hk : k < 31) : Int32.ofNat (cob t c k) ||| (if fit t k c = true then (1 : Int32) <<< (Int32.ofNat k &&& 31) else 0) = Int32.ofNat (cob t c (k + 1)) := by
  have e1 : (1 : Int32) <<< (Int32.ofNat k &&& 31) = Int32.ofNat (2 ^ k) := by
    rw [i_and31, Nat.mod_eq_of_lt (by omega), show (1 : Int32) = Int32.ofNat 1 from rfl, i_shl (by omega), Nat.one_mul]
  cases hf : fit t k c with
  | true =>
    rw [if_pos rfl, e1, i_or, or_pow (cob_lt t c k)]
    simp only [cob, hf, if_true]
  | false =>
    rw [if_neg (by simp), show (0 : Int32) = Int32.ofNat 0 from rfl, i_or, Nat.or_zero]
    simp only [cob, hf, Bool.false_eq_true, if_false, Nat.add_zero]
theorem t_cars {t : TS} {nc nk c : Nat} (h6 : t.1 600 = Int32.ofNat nc) (hn : nc ≤ 4) (hc : c < 400) (hb : t.2.2.1 167 c = -1 ∨ ∃ k, k < nc ∧ t.2.2.1 167 c = Int32.ofNat k) : t_853 (Int32.ofNat c) t = some (Int32.ofNat (if t.1 613 = 0 then cob t c nc else 0)) := by
  suffices h : Tr (t_853 (Int32.ofNat c) t) (fun v => v = Int32.ofNat (if t.1 613 = 0 then cob t c nc else 0)) by
    obtain ⟨x, h1, h2⟩ := h
    rw [h1, h2]
  unfold t_853
  by_cases hh : t.1 613 = 0
  · rw [if_pos hh]
    refine Tr.bd (P := fun v => v = Int32.ofNat (cob t c nc)) (wh_cnt nc (fun k a => a = (Int32.ofNat (cob t c k), Int32.ofNat k)) ?_ ?_ rfl) ?_
    · rintro k _ hk rfl
      refine Or.inr ⟨_, ?_, rfl⟩
      dsimp only
      rw [h6, if_pos ((i_lt (by omega) (by omega)).mpr hk), if_pos hh, t_rch (by omega) hc, Option.bind_some, ← cob_or (by omega), i_suc]
      unfold fit
      cases rch t k c with
      | false => simp
      | true =>
        rw [if_pos rfl, if_neg (by decide), rdI_n (by omega) (by omega), Option.bind_some, Option.bind_some, Bool.true_and]
        rcases hb with z | ⟨k', z1, z⟩
        · rw [z, if_pos (by decide), Option.bind_some, Sum.elim_inl, Option.bind_some]; simp
        · rw [z, if_neg (i_nlt0 (by omega))]
          by_cases y : k' = k
          · rw [if_pos (by rw [y]), Option.bind_some, Sum.elim_inl, Option.bind_some]; simp [y]
          · have y2 : ¬ Int32.ofNat k' = Int32.ofNat k := fun w => y ((i_inj (by omega) (by omega)).mp w)
            rw [if_neg y2, Option.bind_some, Sum.elim_inr, Option.bind_some]
            simp [y2, i_ne1 (show k' < 2147483648 by omega)]
    · rintro _ rfl
      refine ⟨_, ?_, rfl⟩
      dsimp only
      rw [h6, if_neg (by rw [i_lt (by omega) (by omega)]; omega)]
    · rintro _ rfl
      exact ⟨_, rfl, rfl⟩
  · rw [if_neg hh]
    refine Tr.bd (P := fun v => v = 0) ⟨0, wh_inr ?_, rfl⟩ ?_
    · dsimp only
      rw [if_neg hh]
      split <;> rfl
    · rintro _ rfl
      exact ⟨_, rfl, rfl⟩
theorem c_cars {s : CS} {own : Nat → Nat} {t : TS} {nc nk c : Nat} {C D M : Nat → Nat} {b : Nat → Option Nat} {nw hm : Int32} {lst : Int64} (r : R8x (rs s.1 own 8) t nc nk C D M b) (hc : c < nk) (hO : isO t c) (h1 : s.1 162 = some (true, false, 49, [.ref 163, .ref 164, .int (t.1 606), .int nw, .int hm, .int (t.1 1), .ref 165, .ref 166, .ref 167, .ref 168, .long lst, .ref 169])) : c_532 162 (D c) s = some (Int32.ofNat (if hm = 0 then cob t c nc else 0)) := by
  obtain ⟨_, ⟨m1, p2⟩, _, _, _, _, _, p8, _, p10, _, _, _, p14, p15, p16, p17, p18, _, _⟩ := r
  have h2 := (rs_in p2).1
  obtain ⟨_, ⟨_, _, _, hb⟩, y3⟩ := p16 c hc
  have hD := (rs_in (y3 hO).1).1
  suffices h : Tr (c_532 162 (D c) s) (fun v => v = Int32.ofNat (if hm = 0 then cob t c nc else 0)) by
    obtain ⟨x, h1, h2⟩ := h
    rw [h1, h2]
  unfold c_532
  simp only [xN_o (tab := [(49, 0)]) h1 rfl rfl, Option.bind_some, isK_t (tab := [13]) h2 rfl, if_true, alSize_r h2, xI_o (tab := [(49, 4)]) h1 rfl rfl]
  by_cases hh : hm = 0
  · rw [if_pos hh]
    refine Tr.bd (P := fun v => v = Int32.ofNat (cob t c nc)) (wh_cnt nc (fun k a => a = (Int32.ofNat (cob t c k), Int32.ofNat k)) ?_ ?_ rfl) ?_
    · rintro k _ hk rfl
      refine Or.inr ⟨_, ?_, rfl⟩
      dsimp only
      have hK := (rs_in (p14 k hk).1).1
      have xr : xR s [(96, 4)] (D c) = some (if t.2.2.1 167 c = -1 then none else some (C (bN (t.2.2.1 167 c)))) := by
        unfold xR
        rw [xV_o (v := if t.2.2.1 167 c = -1 then .null else .ref (C (bN (t.2.2.1 167 c)))) hD rfl rfl, Option.bind_some]
        split <;> rfl
      rw [if_pos ((i_lt (by omega) (by omega)).mpr hk), if_pos hh, alGet_r h2 hk (by omega), Option.bind_some, toN_o hK rfl, Option.bind_some, if_pos (isK_t hK rfl), c_rch hK hD, Option.bind_some, ← cob_or (by omega), i_suc]
      unfold fit
      cases rch t k c with
      | false => simp
      | true =>
        rw [if_pos rfl, if_neg (by decide), xr, Option.bind_some, Option.bind_some, Bool.true_and]
        rcases hb with z | ⟨k', z1, z⟩
        · rw [if_pos z, if_pos rfl, Option.bind_some, Sum.elim_inl, Option.bind_some, z]; simp
        · have hz : ¬ t.2.2.1 167 c = -1 := by rw [z]; exact i_ne1 (by omega)
          have hbk : bN (t.2.2.1 167 c) = k' := by rw [z, bN, i_clamp (by omega)]
          rw [if_neg hz, if_neg (by simp), hbk]
          by_cases y : k' = k
          · rw [if_pos (by rw [y]), Option.bind_some, Sum.elim_inl, Option.bind_some]; simp [y, z]
          · have y2 : ¬ Int32.ofNat k' = Int32.ofNat k := fun w => y ((i_inj (by omega) (by omega)).mp w)
            have hK' := (rs_in (p14 k' z1).1).1
            rw [if_neg (fun w => y (p15 k' k z1 hk (Option.some.inj w))), if_pos (by show nst s (.ref (C k')) = true; unfold nst; simp only [hK']; rfl), Option.bind_some, Sum.elim_inr, Option.bind_some]
            simp [z, y2, i_ne1 (show k' < 2147483648 by omega)]
    · rintro _ rfl
      refine ⟨_, ?_, rfl⟩
      dsimp only
      rw [if_neg (by rw [i_lt (by omega) (by omega)]; omega)]
    · rintro _ rfl
      exact ⟨_, rfl, rfl⟩
  · rw [if_neg hh]
    refine Tr.bd (P := fun v => v = 0) ⟨0, wh_inr ?_, rfl⟩ ?_
    · dsimp only
      rw [if_neg hh]
      split <;> rfl
    · rintro _ rfl
      exact ⟨_, rfl, rfl⟩
