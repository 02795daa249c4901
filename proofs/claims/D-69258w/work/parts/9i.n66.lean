/-! the plan: lines that lie upon one another: the reference -/
section
variable {T : TS} {L : PLn} {nl : Nat}
/-- a line's rows -/
def ln1 (T : TS) (L : PLn) (l : Nat) : Prop := l < 20 ∧ T.2.2.1 50 l = Int32.ofNat (pX L l) ∧ T.2.2.1 51 l = Int32.ofNat (pY L l) ∧ T.2.2.1 52 l = (if pFl L l = true then 1 else 0) ∧ T.2.2.1 53 l = Int32.ofNat (pN L l)
theorem ln1_r {l : Nat} (h : ln1 T L l) : rdI T 50 20 (Int32.ofNat l) = some (Int32.ofNat (pX L l)) ∧ rdI T 51 20 (Int32.ofNat l) = some (Int32.ofNat (pY L l)) ∧ rdI T 52 20 (Int32.ofNat l) = some (if pFl L l = true then 1 else 0) ∧ rdI T 53 20 (Int32.ofNat l) = some (Int32.ofNat (pN L l)) := by
  obtain ⟨h0, h1, h2, h3, h4⟩ := h
  rw [rdI_n h0 (by decide), rdI_n h0 (by decide), rdI_n h0 (by decide), rdI_n h0 (by decide), h1, h2, h3, h4]
  exact ⟨rfl, rfl, rfl, rfl⟩
theorem t_hX1 {l : Nat} (h : ln1 T L l) : t_679 (Int32.ofNat l) T = some (Int32.ofNat (pHX L l)) := by
  obtain ⟨r0, _, r2, r3⟩ := ln1_r h
  unfold t_679
  rw [r0, Option.bind_some, r2, Option.bind_some, r3]
  unfold pHX
  by_cases z : pFl L l = true
  · rw [if_pos z, if_pos z, if_neg (by decide), Option.bind_some, i_add]
  · rw [if_neg z, if_neg z, if_pos rfl, i_addO]; rfl
theorem t_hY1 {l : Nat} (h : ln1 T L l) : t_680 (Int32.ofNat l) T = some (Int32.ofNat (pHY L l)) := by
  obtain ⟨_, r0, r2, r3⟩ := ln1_r h
  unfold t_680
  rw [r0, Option.bind_some, r2, Option.bind_some, r3]
  unfold pHY
  by_cases z : pFl L l = true
  · rw [if_pos z, if_pos z, if_neg (by decide), i_addO]; rfl
  · rw [if_neg z, if_neg z, if_pos rfl, Option.bind_some, i_add]
theorem t_hi2 {a b : Nat} (ha : a < 1000) (hb : b < 1000) : (if Int32.ofNat a < Int32.ofNat b then Option.bind (some (Int32.ofNat a)) (fun x => some x) else Option.bind (some (Int32.ofNat b)) (fun x => some x)) = some (Int32.ofInt (min a b : Nat)) := by
  rw [Option.bind_some, Option.bind_some]
  by_cases z : a < b
  · rw [if_pos ((i_lt (by omega) (by omega)).mpr z), Nat.min_eq_left (by omega), i_ofI]
  · rw [if_neg (fun w => z ((i_lt (by omega) (by omega)).mp w)), Nat.min_eq_right (by omega), i_ofI]
theorem t_lo2 {a b : Nat} (ha : a < 1000) (hb : b < 1000) : (if Int32.ofNat b < Int32.ofNat a then Option.bind (some (Int32.ofNat a)) (fun x => some x) else Option.bind (some (Int32.ofNat b)) (fun x => some x)) = some (Int32.ofInt (max a b : Nat)) := by
  rw [Option.bind_some, Option.bind_some]
  by_cases z : b < a
  · rw [if_pos ((i_lt (by omega) (by omega)).mpr z), Nat.max_eq_left (by omega), i_ofI]
  · rw [if_neg (fun w => z ((i_lt (by omega) (by omega)).mp w)), Nat.max_eq_right (by omega), i_ofI]
theorem t_along {l m : Nat} (h1 : ln1 T L l) (h2 : ln1 T L m) (hl : smL L l) (hm : smL L m) : ∃ v, t_678 (Int32.ofNat l) (Int32.ofNat m) T = some v ∧ (v < 1 ↔ nov L l m) := by
  have bl := smL_b hl
  have bm := smL_b hm
  have hXl : pFl L l = true → pHX L l = pX L l + pN L l := fun z => by unfold pHX; rw [if_pos z]
  have hXm : pFl L m = true → pHX L m = pX L m + pN L m := fun z => by unfold pHX; rw [if_pos z]
  have hYl : pFl L l = false → pHY L l = pY L l + pN L l := fun z => by unfold pHY; rw [if_neg (by rw [z]; decide)]
  have hYm : pFl L m = false → pHY L m = pY L m + pN L m := fun z => by unfold pHY; rw [if_neg (by rw [z]; decide)]
  unfold smL at hl hm
  obtain ⟨a0, a1, a2, a3⟩ := ln1_r h1
  obtain ⟨b0, b1, b2, b3⟩ := ln1_r h2
  have neg : nov L l m → ((-1 : Int32) < 1 ↔ nov L l m) := fun h => ⟨fun _ => h, fun _ => by decide⟩
  have lt1 : ∀ (z : Int), -1000 ≤ z → z ≤ 1000 → (Int32.ofInt z < 1 ↔ z < 1) := fun z h1 h2 => ofI_lt (b := 1) (by omega) (by omega) (by omega) (by omega)
  unfold t_678
  rw [a2, Option.bind_some, b2, Option.bind_some]
  rcases (show pFl L l = true ∨ pFl L l = false by cases pFl L l <;> simp) with z | z <;> rcases (show pFl L m = true ∨ pFl L m = false by cases pFl L m <;> simp) with w | w
  · have nv := nov_h z w
    have e1 := hXl z
    have e2 := hXm w
    rw [z, w, if_pos rfl, if_pos rfl, Option.bind_some, if_neg (show ¬ (1 : Int32) = 0 by decide), a1, Option.bind_some, b1, Option.bind_some]
    by_cases y : pY L l = pY L m
    · rw [y, if_pos rfl, Option.bind_some, Sum.elim_inl, Option.bind_some, if_neg (show ¬ (1 : Int32) = 0 by decide), a0, Option.bind_some, b0, Option.bind_some, t_lo2 (by omega) (by omega), Option.bind_some, Option.bind_some, if_neg (show ¬ (1 : Int32) = 0 by decide), t_hX1 h1, Option.bind_some, t_hX1 h2, Option.bind_some, t_hi2 (by omega) (by omega), Option.bind_some, i_subI]
      refine ⟨_, rfl, ?_⟩
      rw [lt1 _ (by omega) (by omega), nv]
      omega
    · rw [if_neg (fun k => y ((i_inj (by omega) (by omega)).mp k)), Option.bind_some, Sum.elim_inr]
      exact ⟨_, rfl, neg (nv.mpr (Or.inl y))⟩
  · rw [if_neg (show ¬ ((if pFl L l = true then (1 : Int32) else 0) = if pFl L m = true then 1 else 0) by rw [z, w]; decide)]
    exact ⟨_, rfl, neg (fun k => by rw [z, w] at k; cases k)⟩
  · rw [if_neg (show ¬ ((if pFl L l = true then (1 : Int32) else 0) = if pFl L m = true then 1 else 0) by rw [z, w]; decide)]
    exact ⟨_, rfl, neg (fun k => by rw [z, w] at k; cases k)⟩
  · have nv := nov_v z w
    have e1 := hYl z
    have e2 := hYm w
    rw [if_neg (show ¬ pFl L l = true by rw [z]; decide), if_neg (show ¬ pFl L m = true by rw [w]; decide), if_pos rfl, Option.bind_some, if_pos rfl, a0, Option.bind_some, b0, Option.bind_some]
    by_cases y : pX L l = pX L m
    · rw [y, if_pos rfl, Option.bind_some, Sum.elim_inl, Option.bind_some, if_pos rfl, a1, Option.bind_some, b1, Option.bind_some, t_lo2 (by omega) (by omega), Option.bind_some, Option.bind_some, if_pos rfl, t_hY1 h1, Option.bind_some, t_hY1 h2, Option.bind_some, t_hi2 (by omega) (by omega), Option.bind_some, i_subI]
      refine ⟨_, rfl, ?_⟩
      rw [lt1 _ (by omega) (by omega), nv]
      omega
    · rw [if_neg (fun k => y ((i_inj (by omega) (by omega)).mp k)), Option.bind_some, Sum.elim_inr]
      exact ⟨_, rfl, neg (nv.mpr (Or.inl y))⟩
theorem t_alone {k : Nat} (hn : T.1 100 = Int32.ofNat nl) (hk : k < 20) (hl : ∀ l, l < nl ∨ l = k → ln1 T L l ∧ smL L l) (hn20 : nl ≤ 20) : by classical exact (t_677 (Int32.ofNat k) T = some (if alnL L k nl then 1 else 0)) := by
  classical
  unfold t_677
  refine tr_eq (Tr.bd (P := fun v => v = if alnL L k nl then 1 else 0) (wh_cnt nl (fun n (a : Int32 × Int32) => a.2 = Int32.ofNat n ∧ a.1 = if alnL L k n then 1 else 0) ?_ ?_ ⟨rfl, by rw [if_pos (show alnL L k 0 from fun l hl => absurd hl (Nat.not_lt_zero _))]⟩) ?_)
  · rintro n ⟨v, _⟩ hn' ⟨rfl, hv⟩
    right
    dsimp only at hv ⊢
    rw [hn, if_pos ((i_lt (by omega) (by omega)).mpr hn'), i_suc]
    by_cases w : alnL L k n
    · rw [if_pos w] at hv
      rw [hv, if_neg (show ¬ (1 : Int32) = 0 by decide)]
      by_cases z : n = k
      · rw [if_pos ((i_inj (by omega) (by omega)).mpr z), Option.bind_some]
        exact ⟨_, rfl, rfl, by rw [if_pos ((alnL_s L k n).mpr ⟨w, Or.inl z⟩)]⟩
      · rw [if_neg (fun q => z ((i_inj (by omega) (by omega)).mp q))]
        obtain ⟨x, e, hx⟩ := t_along (hl n (Or.inl hn')).1 (hl k (Or.inr rfl)).1 (hl n (Or.inl hn')).2 (hl k (Or.inr rfl)).2
        rw [e, Option.bind_some]
        by_cases y : nov L n k
        · rw [if_pos (hx.mpr y), Option.bind_some]
          exact ⟨_, rfl, rfl, by rw [if_pos ((alnL_s L k n).mpr ⟨w, Or.inr y⟩)]⟩
        · rw [if_neg (fun q => y (hx.mp q)), Option.bind_some]
          exact ⟨_, rfl, rfl, by rw [if_neg (fun q => ((alnL_s L k n).mp q).2.elim z y)]⟩
    · rw [if_neg w] at hv
      rw [hv, if_pos rfl, Option.bind_some]
      exact ⟨_, rfl, rfl, by rw [if_neg (fun q => w ((alnL_s L k n).mp q).1)]⟩
  · rintro ⟨v, _⟩ ⟨rfl, hv⟩
    dsimp only at hv ⊢
    rw [hn, if_neg (fun z => by have := (i_lt (by omega) (by omega)).mp z; omega)]
    exact ⟨_, rfl, hv⟩
  · rintro v rfl
    refine ⟨if alnL L k nl then 1 else 0, ?_, rfl⟩
    by_cases w : alnL L k nl
    · rw [if_pos w]; rfl
    · rw [if_neg w]; rfl
end
