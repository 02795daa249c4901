/-! the plan: a line is made, on both sides -/
section
variable {s : CS} {t T : TS} {L : PLn} {LD : Nat → Nat}
theorem c_lnI {S : CS} (hw : wfS S) {A n a b c d : Nat} (h : S.1 A = some (true, false, 59, [.int 0, .int 0, .int 0, .int 0, .int 0, .null])) (ha : a < 25) (hb : b < 25) (hc : c < 25) (hd : d < 25) : ∃ S', c_865 A (Int32.ofNat n) (Int32.ofNat a) (Int32.ofNat b) (Int32.ofNat c) (Int32.ofNat d) S = some S' ∧ S'.1 A = some (lcC (updL L n (lnV a b c d)) (upd1 LD n S.2.1) n) ∧ S'.1 S.2.1 = some (true, false, 1013, [.int 0]) ∧ (∀ q, q ≠ A → q ≠ S.2.1 → S'.1 q = S.1 q) ∧ wfS S' ∧ S'.2.1 = S.2.1 + 1 ∧ S'.2.2.1 = S.2.2.1 + 1 ∧ S'.2.2.2 = S.2.2.2 + 3 := by
  have lA := wf_lt hw h
  unfold c_865
  obtain ⟨S1, e1, w1⟩ := nw_o (s := S) 13 [.int 0, .null, .int 0] hw
  rw [e1, Option.bind_some]
  dsimp only
  rw [if_pos (isK_t w1.1 rfl), alInit_o w1.1, Option.bind_some]
  obtain ⟨S2, hS2⟩ : ∃ S2, S2 = cup S1 S.2.1 (true, false, 1013, [.int 0]) := ⟨_, rfl⟩
  rw [← hS2]
  have h2 : S2.1 A = some (true, false, 59, [.int 0, .int 0, .int 0, .int 0, .int 0, .null]) := by rw [hS2, cup_ne (by omega), w1.2.1 A (by omega)]; exact h
  have b2 : S2.1 S.2.1 = some (true, false, 1013, [.int 0]) := by rw [hS2]; exact cup_eq ..
  have w2 : wfS S2 := by rw [hS2]; exact wf_cup w1.2.2.2.1 (by rw [w1.2.2.1]; omega)
  have fbd : (if Int32.ofNat b = Int32.ofNat d then some (1 : Int32) else some 0) = some (if (lnV a b c d).2.2.1 = true then 1 else 0) := by
    show _ = some (if decide (b = d) = true then (1 : Int32) else 0)
    by_cases z : b = d
    · rw [if_pos ((i_inj (by omega) (by omega)).mpr z), if_pos (decide_eq_true z)]
    · rw [if_neg (fun w => z ((i_inj (by omega) (by omega)).mp w)), if_neg (fun w => z (of_decide_eq_true w))]
  have fit : fits .boolean (.int (if (lnV a b c d).2.2.1 = true then (1 : Int32) else 0)) = true := fitB1 (by
    by_cases z : (lnV a b c d).2.2.1 = true
    · rw [if_pos z]; exact Or.inr rfl
    · rw [if_neg z]; exact Or.inl rfl)
  rw [xP_o (k := 5) h2 rfl (by show 5 < 6; decide), Option.bind_some]
  rw [xP_o (k := 0) (cup_eq S2 A _) rfl (by show 0 < 6; decide), Option.bind_some, fbd, Option.bind_some, if_pos fit]
  rw [xP_o (k := 1) (cup_eq _ A _) rfl (by show 1 < 6; decide), Option.bind_some, c_abs (by omega) (by omega), Option.bind_some, c_abs (by omega) (by omega), Option.bind_some, i_add]
  rw [xP_o (k := 2) (cup_eq _ A _) rfl (by show 2 < 6; decide), Option.bind_some, c_min (by omega) (by omega), Option.bind_some]
  rw [xP_o (k := 3) (cup_eq _ A _) rfl (by show 3 < 6; decide), Option.bind_some, c_min (by omega) (by omega), Option.bind_some]
  rw [xP_o (k := 4) (cup_eq _ A _) rfl (by show 4 < 6; decide), Option.bind_some]
  refine ⟨_, rfl, ?_, ?_, fun q h1 h3 => ?_, ?_, ?_, ?_, ?_⟩
  · rw [cup_eq]
    unfold lcC pX pY pN pFl
    rw [updL_eq, upd1_eq rfl]
    show (some (true, false, 59, [Value.int (Int32.ofNat n), Value.int (if (lnV a b c d).2.2.1 = true then 1 else 0), Value.int (Int32.ofNat (max c a - min c a + (max d b - min d b))), Value.int (Int32.ofNat (min a c)), Value.int (Int32.ofNat (min b d)), Value.ref S.2.1]) : Option lCell) = some (true, false, 59, [Value.int (Int32.ofNat n), Value.int (if (lnV a b c d).2.2.1 = true then 1 else 0), Value.int (Int32.ofNat (max a c - min a c + (max b d - min b d))), Value.int (Int32.ofNat (min a c)), Value.int (Int32.ofNat (min b d)), Value.ref S.2.1])
    rw [Nat.max_comm c a, Nat.min_comm c a, Nat.max_comm d b, Nat.min_comm d b]
  · rw [cup_ne (by omega), cup_ne (by omega), cup_ne (by omega), cup_ne (by omega), cup_ne (by omega), cup_ne (by omega)]; exact b2
  · rw [cup_ne h1, cup_ne h1, cup_ne h1, cup_ne h1, cup_ne h1, cup_ne h1, hS2, cup_ne h3, w1.2.1 q h3]
  · have l2 := wf_lt w2 h2
    exact wf_cup (wf_cup (wf_cup (wf_cup (wf_cup (wf_cup w2 l2) l2) l2) l2) l2) l2
  · rw [hS2]; exact w1.2.2.1
  · rw [hS2]; exact w1.2.2.2.2.1
  · rw [hS2]; exact w1.2.2.2.2.2
/-- the rows written for a line -/
def lnT (t : TS) (n : Nat) (v : Nat × Nat × Bool × Nat) : TS := wrI (wrI (wrI (wrI (wrI t 50 n (Int32.ofNat v.1)) 51 n (Int32.ofNat v.2.1)) 52 n (if v.2.2.1 = true then 1 else 0)) 53 n (Int32.ofNat v.2.2.2)) 54 n 0
theorem lnT_a {n : Nat} {v : Nat × Nat × Bool × Nat} : agr [] [50, 51, 52, 53, 54] t (lnT t n v) := agr_w (agr_w (agr_w (agr_w (agr_w agr_refl (by simp)) (by simp)) (by simp)) (by simp)) (by simp)
theorem lnT_o {n l c : Nat} {v : Nat × Nat × Bool × Nat} (h : l ≠ n) : (lnT t n v).2.2.1 c l = t.2.2.1 c l := by
  unfold lnT
  rw [wr_at, if_neg (fun z => h z.2), wr_at, if_neg (fun z => h z.2), wr_at, if_neg (fun z => h z.2), wr_at, if_neg (fun z => h z.2), wr_at, if_neg (fun z => h z.2)]
theorem lnT_n {n : Nat} (hn : n < 20) {a b c d : Nat} : ln1 (lnT t n (lnV a b c d)) (updL L n (lnV a b c d)) n ∧ (lnT t n (lnV a b c d)).2.2.1 54 n = 0 := by
  unfold ln1 pX pY pFl pN
  rw [updL_eq]
  unfold lnT
  refine ⟨⟨hn, ?_, ?_, ?_, ?_⟩, ?_⟩
  · rw [wr_at, if_neg (fun z => by have := z.1; omega), wr_at, if_neg (fun z => by have := z.1; omega), wr_at, if_neg (fun z => by have := z.1; omega), wr_at, if_neg (fun z => by have := z.1; omega), wr_at, if_pos ⟨rfl, rfl⟩]
  · rw [wr_at, if_neg (fun z => by have := z.1; omega), wr_at, if_neg (fun z => by have := z.1; omega), wr_at, if_neg (fun z => by have := z.1; omega), wr_at, if_pos ⟨rfl, rfl⟩]
  · rw [wr_at, if_neg (fun z => by have := z.1; omega), wr_at, if_neg (fun z => by have := z.1; omega), wr_at, if_pos ⟨rfl, rfl⟩]
  · rw [wr_at, if_neg (fun z => by have := z.1; omega), wr_at, if_pos ⟨rfl, rfl⟩]
  · rw [wr_at, if_pos ⟨rfl, rfl⟩]
theorem t_lnI {n a b c d : Nat} (hn : n < 20) (h : t.1 100 = Int32.ofNat n) (ha : a < 25) (hb : b < 25) (hc : c < 25) (hd : d < 25) : t_676 (Int32.ofNat a) (Int32.ofNat b) (Int32.ofNat c) (Int32.ofNat d) t = Option.bind (t_677 (Int32.ofNat n) (lnT t n (lnV a b c d))) (fun x8 => (if x8 = 0 then some (-1, lnT t n (lnV a b c d)) else Option.bind (some (ptI (lnT t n (lnV a b c d)) 100 (Int32.ofNat n + 1))) (fun s9 => Option.bind (some (ptI s9 110 0)) (fun s10 => some ((s10.1 100) - 1, s10))))) := by
  have mn : ∀ x y : Nat, x < 25 → y < 25 → (if Int32.ofNat x < Int32.ofNat y then some (Int32.ofNat x) else some (Int32.ofNat y)) = some (Int32.ofNat (min x y)) := by
    intro x y hx hy
    by_cases z : x < y
    · rw [if_pos ((i_lt (by omega) (by omega)).mpr z), Nat.min_eq_left (by omega)]
    · rw [if_neg (fun w => z ((i_lt (by omega) (by omega)).mp w)), Nat.min_eq_right (by omega)]
  have fbd : (if Int32.ofNat b = Int32.ofNat d then some (1 : Int32) else some 0) = some (if (lnV a b c d).2.2.1 = true then 1 else 0) := by
    show _ = some (if decide (b = d) = true then (1 : Int32) else 0)
    by_cases z : b = d
    · rw [if_pos ((i_inj (by omega) (by omega)).mpr z), if_pos (decide_eq_true z)]
    · rw [if_neg (fun w => z ((i_inj (by omega) (by omega)).mp w)), if_neg (fun w => z (of_decide_eq_true w))]
  have a1 : (if (lnV a b c d).2.2.1 = true then (1 : Int32) else 0) &&& 1 = if (lnV a b c d).2.2.1 = true then 1 else 0 := by
    by_cases z : (lnV a b c d).2.2.1 = true
    · rw [if_pos z]; rfl
    · rw [if_neg z]; rfl
  have w1 : ∀ (u : TS) (k j : Nat) (v : Int32), (wrI u k j v).1 100 = u.1 100 := fun _ _ _ _ => rfl
  unfold t_676
  rw [mn a c ha hc, Option.bind_some, h, stI_n hn (by decide), Option.bind_some, mn b d hb hd, Option.bind_some, w1, h, stI_n hn (by decide), Option.bind_some, fbd, Option.bind_some, w1, w1, h, a1, stI_n hn (by decide), Option.bind_some, w1, w1, w1, h, rdI_n hn (by decide), wr_at, if_neg (fun z => by have := z.1; omega), wr_at, if_neg (fun z => by have := z.1; omega), wr_at, if_pos ⟨rfl, rfl⟩, Option.bind_some, rdI_n hn (by decide), wr_at, if_neg (fun z => by have := z.1; omega), wr_at, if_pos ⟨rfl, rfl⟩, Option.bind_some]
  have len : Int32.ofNat a + Int32.ofNat c - 2 * Int32.ofNat (min a c) + Int32.ofNat b + Int32.ofNat d - 2 * Int32.ofNat (min b d) = Int32.ofNat (max a c - min a c + (max b d - min b d)) := by
    rw [i_mulL, i_mulL]
    have o2 : (OfNat.ofNat 2 : Nat) = 2 := rfl
    rw [o2]
    simp only [← i_ofI, i_addI, i_subI]
    congr 1
    omega
  rw [len, stI_n hn (by decide), Option.bind_some, w1, w1, w1, w1, h, stI_n hn (by decide), Option.bind_some, w1, w1, w1, w1, w1, h]
  rfl
end
