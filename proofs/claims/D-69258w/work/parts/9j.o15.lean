/-! building: walking numbers, the component: state and exits -/
section
variable {B S : CS} {t : TS} {nl nr ne : Nat} {W : Nat → Nat} {e q : Nat → Int32} {f : Nat → Nat} {Lq : List Nat} {m : Nat}
/-- the base on which numbers spread -/
def SpB (B : CS) (t : TS) (nl nr ne : Nat) (W : Nat → Nat) (e q : Nat → Int32) : Prop := wfS B ∧ 179 ≤ B.2.1 ∧ K9 B.1 ∧ (∃ z v, B.1 170 = some (true, false, 50, .ref 101 :: z :: .ref 171 :: .ref 172 :: .ref 173 :: .ref 174 :: .ref 175 :: v)) ∧ B.1 171 = some (true, true, 0, rowC (fun c => .int (t.2.2.1 47 c)) 576) ∧ B.1 172 = some (true, true, 0, rowC (fun j => .int (e j)) 2304) ∧ nl ≤ 20 ∧ (ne < 10000 ∧ nr ≤ 40) ∧ (∀ j, j < 2304 → edgR B.1 t nl ne W q (e j) (j / 4) (j % 4)) ∧ ∀ c, c < 576 → t.2.2.1 47 c = -1 ∨ bel (t.2.2.1 47 c) nr
/-- a number as it is kept -/
def nuC (f : Nat → Nat) (c : Nat) : Int32 := if f c = 0 then -1 else Int32.ofNat (f c)
def SpR (B S : CS) (g : Nat → Int32) (Lq : List Nat) (m : Nat) : Prop := wfS S ∧ S.2.1 = B.2.1 + 1 ∧ (∀ p, p < B.2.1 → p ≠ 175 → S.1 p = B.1 p) ∧ S.1 175 = some (true, true, 0, rowC (fun c => .int (g c)) 576) ∧ S.1 B.2.1 = some (true, false, 1004, rowC (fun j => .int (Int32.ofNat (Lq.getD j 0))) Lq.length) ∧ Lq.length ≤ m ∧ S.2.2.1 ≤ B.2.2.1 + 2 + 2 * m ∧ S.2.2.2 ≤ B.2.2.2 + 20 + m * (m + 40)
theorem SpR_g {g g' : Nat → Int32} (r : SpR B S g Lq m) (h : ∀ c, c < 576 → g c = g' c) : SpR B S g' Lq m := by
  obtain ⟨r1, r2, r3, r4, r5⟩ := r
  refine ⟨r1, r2, r3, ?_, r5⟩
  rw [r4]
  exact congrArg (fun l => some (true, true, 0, l)) (rowC_congr (fun c hc => by rw [h c hc]))
theorem sp_out (b : SpB B t nl nr ne W e q) {g : Nat → Int32} (r : SpR B S g Lq m) {c : Nat} (h : c ≤ 576) : by classical exact (c_542 170 (if c = 576 then -1 else Int32.ofNat c) S = some (if ouT t c then 1 else 0)) := by
  classical
  obtain ⟨_, b1, _, ⟨z, v, b2⟩, b3, _, _, ⟨_, b5⟩, _, b4⟩ := b
  have a1 : S.1 170 = _ := (r.2.2.1 170 (by omega) (by decide)).trans b2
  have a2 : S.1 171 = _ := (r.2.2.1 171 (by omega) (by decide)).trans b3
  unfold c_542
  by_cases z : c = 576
  · rw [if_pos z, if_pos rfl, if_pos (show ouT t c from Or.inl z)]
  · rw [if_neg z, if_neg (i_ne1 (by omega)), xN_o (b := 171) a1 rfl rfl, Option.bind_some, aI_r a2 (by omega) rfl (show c < 576 by omega) (by omega) rfl, Option.bind_some]
    rcases b4 c (by omega) with w | ⟨v, hv, w⟩
    · rw [if_pos w, if_pos (show ouT t c from Or.inr (by rw [w]; decide))]
    · rw [if_neg (by rw [w]; exact i_ne1 (by omega)), if_neg (show ¬ ouT t c from fun u => by
        rcases u with u | u
        · exact z u
        · rw [w] at u; exact i_nlt0 (by omega) u)]
theorem sp_k9 (b : SpB B t nl nr ne W e q) {g : Nat → Int32} (r : SpR B S g Lq m) : K9 S.1 := by
  obtain ⟨_, b1, ⟨⟨w1, k1⟩, ⟨w2, k2⟩⟩, _⟩ := b
  exact ⟨⟨w1, (r.2.2.1 61 (by omega) (by decide)).trans k1⟩, ⟨w2, (r.2.2.1 62 (by omega) (by decide)).trans k2⟩⟩
/-- a cell gets its number -/
theorem sp_add {g : Nat → Int32} (h179 : 179 ≤ B.2.1) (r : SpR B S g Lq m) (hm : m < 10000) {c : Nat} (hc : c < 576) (v : Int32) : ∃ S', Option.bind (aPut S 0 175 (Int32.ofNat c) (.int v)) (fun s14 => Option.bind (some (chg s14 1 1)) (fun s15 => (if isK s15 [4] B.2.1 = true then Option.bind (adAdd s15 B.2.1 (.int (Int32.ofNat c))) (fun s16 => some s16) else none))) = some S' ∧ SpR B S' (fun j => if j = c then v else g j) (Lq ++ [c]) (m + 1) := by
  obtain ⟨r1, r2, r3, r4, r5, r6, r7, r8⟩ := r
  have l175 := wf_lt r1 r4
  have lA := wf_lt r1 r5
  have a5 : (chg (cup S 175 (true, true, 0, rowC (fun j => if j = c then Value.int v else .int (g j)) 576)) 1 1).1 B.2.1 = some (true, false, 1004, rowC (fun j => .int (Int32.ofNat (Lq.getD j 0))) Lq.length) := (cup_ne (by omega)).trans r5
  rw [aPut_r r4 hc (by omega), Option.bind_some, Option.bind_some, if_pos (isK_t a5 rfl), adAdd_r (v := .int (Int32.ofNat c)) a5 (by omega) (by simp) elO_i, Option.bind_some]
  refine ⟨_, rfl, wf_cup (wf_chg (wf_cup r1 l175)) lA, r2, fun p h1 h2 => ?_, ?_, ?_, ?_, ?_, ?_⟩
  · rw [cput_ne (by omega)]
    exact (cup_ne h2).trans (r3 p h1 h2)
  · rw [cput_ne (by omega)]
    show (cup S 175 _).1 175 = _
    rw [cup_eq]
    refine congrArg (fun l => some (true, true, 0, l)) (rowC_congr (fun j _ => ?_))
    dsimp only
    by_cases w : j = c
    · rw [if_pos w, if_pos w]
    · rw [if_neg w, if_neg w]
  · rw [cput_eq, List.length_append]
    refine congrArg (fun l => some (true, false, 1004, l)) (rowC_congr (fun j hj => ?_))
    by_cases w : j = Lq.length
    · rw [if_pos w, w]
      simp [List.getD]
    · have hj : j < Lq.length + 1 := hj
      have : j < Lq.length := by omega
      rw [if_neg w]
      simp [List.getD, List.getElem?_append_left this]
  · rw [List.length_append]
    show _ + 1 ≤ _
    omega
  · show S.2.2.1 + 1 + adG Lq.length ≤ _
    have := adG_le Lq.length
    omega
  · show S.2.2.2 + 1 + adG Lq.length * (2 * Lq.length + 40) ≤ _
    have := adG_le Lq.length
    have e1 : (m + 1) * (m + 1 + 40) = m * (m + 40) + m + (m + 1 + 40) := by
      rw [Nat.succ_mul, show m + 1 + 40 = (m + 40) + 1 from rfl, Nat.mul_succ]
    omega
end
