/-! the bus: something is complete -/
def bD (r en ds an nw d bu : Int32) : lCell := (true, false, 122, [.ref 121, .ref 122, .ref 124, .ref 125, .ref 126, .int r, .int en, .int ds, .int an, .int nw, .int d, .ref 115, .int bu])
theorem bD_f {S : CS} {r en ds an nw d bu : Int32} (h : S.1 120 = some (bD r en ds an nw d bu)) : xN S [(122, 1)] 120 = some 122 ∧ xN S [(122, 3)] 120 = some 125 ∧ xN S [(122, 4)] 120 = some 126 ∧ xR S [(122, 4)] 120 = some (some 126) ∧ xI S [(122, 5)] 120 = some r ∧ xI S [(122, 6)] 120 = some en ∧ xI S [(122, 7)] 120 = some ds ∧ xI S [(122, 8)] 120 = some an ∧ xI S [(122, 9)] 120 = some nw ∧ xI S [(122, 10)] 120 = some d ∧ xN S [(122, 11)] 120 = some 115 ∧ isK S [122] 120 = true := by
  refine ⟨?_, ?_, ?_, ?_, ?_, ?_, ?_, ?_, ?_, ?_, ?_, ?_⟩ <;> simp [xN, xR, xI, xV, h, bD, lLook, toP, toO, toI, isK, kdo]
theorem bD_p {S : CS} {r en ds an nw d bu v : Int32} (h : S.1 120 = some (bD r en ds an nw d bu)) : xP S [(122, 5)] 120 (.int v) = some (cup S 120 (bD v en ds an nw d bu)) ∧ xP S [(122, 6)] 120 (.int v) = some (cup S 120 (bD r v ds an nw d bu)) ∧ xP S [(122, 7)] 120 (.int v) = some (cup S 120 (bD r en v an nw d bu)) ∧ xP S [(122, 8)] 120 (.int v) = some (cup S 120 (bD r en ds v nw d bu)) ∧ xP S [(122, 9)] 120 (.int v) = some (cup S 120 (bD r en ds an v d bu)) ∧ xP S [(122, 10)] 120 (.int v) = some (cup S 120 (bD r en ds an nw v bu)) := by
  refine ⟨?_, ?_, ?_, ?_, ?_, ?_⟩ <;> simp [xP, h, bD, lLook]
theorem eC_f {S : CS} {e1 e2 e3 e4 e5 e6 e7 : Int32} (h : S.1 122 = some (eC e1 e2 e3 e4 e5 e6 e7)) : xN S [(130, 0)] 122 = some 123 ∧ xI S [(130, 1)] 122 = some e1 ∧ xI S [(130, 2)] 122 = some e2 ∧ xI S [(130, 3)] 122 = some e3 ∧ xI S [(130, 4)] 122 = some e4 ∧ isK S [130] 122 = true := by
  refine ⟨?_, ?_, ?_, ?_, ?_, ?_⟩ <;> simp [xN, xI, xV, h, eC, lLook, toP, toI, isK, kdo]
theorem K13 {S : CS} {a : Nat} {xs : List Value} (h : S.1 a = some (true, false, 1013, xs)) : isK S [13] a = true := by simp only [isK, kdo, h]; decide
/-- no telegram, no answer -/
theorem c_cmp0 {S : CS} {r en ds an nw d bu e1 e2 e3 e4 e5 e6 e7 mc : Int32} {f : Nat → Value} {nb : Nat} {hd : Nat → Int32} (h0 : S.1 120 = some (bD r en ds an nw d bu)) (h2 : S.1 122 = some (eC e1 e2 e3 e4 e5 e6 e7)) (h3 : S.1 123 = some (true, false, 1013, .int mc :: rowC f nb)) (h6 : S.1 126 = some (true, true, 0, rowC (fun i => .int (hd i)) 5)) (hn : nb ≤ 14000) (ht : nb < 8 ∨ ¬ e1 = 0) (ha : ¬ (¬ en = -1 ∧ e2 = en + 14 ∧ nb = 1 ∧ e1 = 0)) :
    c_1146 120 S = some (cup (cup S 126 (true, true, 0, rowC (fun i => if i = 2 then .int (hd 2 + 1) else .int (hd i)) 5)) 120 (bD r en 1 an nw d bu)) := by
  obtain ⟨b1, b3, b4, b4', b5, b6, b7, b8, b9, b10, b11, b12⟩ := bD_f h0
  obtain ⟨c0, c1, c2, c3, c4, c5⟩ := eC_f h2
  have tg : c_1159 122 S = some 0 := by
    unfold c_1159
    simp only [c0, Option.bind_some, K13 h3, if_true, alSize_r h3, c1]
    rcases ht with ht | ht
    · rw [if_pos ((i_ltL (by omega) (by omega)).mpr ht)]
    · rw [if_neg ht]; split <;> rfl
  have s26 : aPut S 0 126 2 (.int (hd 2 + 1)) = some (cup S 126 (true, true, 0, rowC (fun i => if i = 2 then .int (hd 2 + 1) else .int (hd i)) 5)) := aPut_r (k := 2) h6 (by omega) (by omega)
  have i26 : aI S [0, 12] 126 2 = some (hd 2) := aI_r (k := 2) h6 (by omega) (by decide) (by omega) (by omega) rfl
  have g0 : (cup S 126 (true, true, 0, rowC (fun i => if i = 2 then .int (hd 2 + 1) else .int (hd i)) 5)).1 120 = some (bD r en ds an nw d bu) := by rw [cup_at, if_neg (by omega), h0]
  have n1 : (Int32.ofNat nb = 1) = (nb = 1) := propext (i_eqL (by omega) (by omega))
  unfold c_1146
  simp only [b1, Option.bind_some, c5, if_true, tg, b6, c2, c0, K13 h3, alSize_r h3, n1, c1, b4', i26, s26, (bD_p g0).2.2.1]
  by_cases q1 : en = -1
  · simp only [if_pos q1, Option.bind_some, Sum.elim_inl]
  · by_cases q2 : e2 = en + 14
    · by_cases q3 : nb = 1
      · have q4 : ¬ e1 = 0 := fun z => ha ⟨q1, q2, q3, z⟩
        simp only [if_neg q1, if_pos q2, if_pos q3, if_neg q4, Option.bind_some, Sum.elim_inl]
      · simp only [if_neg q1, if_pos q2, if_neg q3, Option.bind_some, Sum.elim_inl]
    · simp only [if_neg q1, if_neg q2, Option.bind_some, Sum.elim_inl]
theorem cup_w (S : CS) (A B C : lCell) : cup (cup (cup S 120 A) 126 B) 120 C = cup (cup S 126 B) 120 C := by
  unfold cup
  refine congrArg (fun x => (x, S.2)) ?_
  funext q
  simp only [lUpd_at]
  by_cases h : q = 120
  · simp [h]
  · simp [h]
/-- an answer -/
theorem c_cmp1 {S : CS} {r en ds an nw d bu e1 e2 e3 e4 e5 e6 e7 mc g0 : Int32} {f : Nat → Value} {hd : Nat → Int32} (h0 : S.1 120 = some (bD r en ds an nw d bu)) (h2 : S.1 122 = some (eC e1 e2 e3 e4 e5 e6 e7)) (h3 : S.1 123 = some (true, false, 1013, .int mc :: rowC f 1)) (hf : f 0 = .int g0) (h6 : S.1 126 = some (true, true, 0, rowC (fun i => .int (hd i)) 5)) (q1 : ¬ en = -1) (q2 : e2 = en + 14) (q4 : e1 = 0) {k : Nat} (hk : k = if g0 = 204 then 3 else 4) :
    c_1146 120 S = some (cup (cup S 126 (true, true, 0, rowC (fun i => if i = k then .int (hd k + 1) else .int (hd i)) 5)) 120 (bD r en 1 g0 nw d bu)) := by
  obtain ⟨b1, b3, b4, b4', b5, b6, b7, b8, b9, b10, b11, b12⟩ := bD_f h0
  obtain ⟨c0, c1, c2, c3, c4, c5⟩ := eC_f h2
  have tg : c_1159 122 S = some 0 := by
    unfold c_1159
    simp only [c0, Option.bind_some, K13 h3, if_true, alSize_r h3, c1]
    rw [if_pos ((i_ltL (by omega) (by omega)).mpr (by show 1 < 8; omega))]
  have hk5 : k < 5 := by rw [hk]; split <;> omega
  have G0 : (cup S 120 (bD r en ds g0 nw d bu)).1 120 = some (bD r en ds g0 nw d bu) := by rw [cup_at, if_pos rfl]
  have G6 : (cup S 120 (bD r en ds g0 nw d bu)).1 126 = some (true, true, 0, rowC (fun i => .int (hd i)) 5) := by rw [cup_at, if_neg (by omega), h6]
  have kk : (if g0 = 204 then some (3 : Int32) else some 4) = some (Int32.ofNat k) := by rw [hk]; split <;> rfl
  have s26 : aPut (cup S 120 (bD r en ds g0 nw d bu)) 0 126 (Int32.ofNat k) (.int (hd k + 1)) = some (cup (cup S 120 (bD r en ds g0 nw d bu)) 126 (true, true, 0, rowC (fun i => if i = k then .int (hd k + 1) else .int (hd i)) 5)) := aPut_r G6 hk5 (by omega)
  have i26 : aI (cup S 120 (bD r en ds g0 nw d bu)) [0, 12] 126 (Int32.ofNat k) = some (hd k) := aI_r G6 (by omega) (by decide) hk5 (by omega) rfl
  have G1 : (cup (cup S 120 (bD r en ds g0 nw d bu)) 126 (true, true, 0, rowC (fun i => if i = k then .int (hd k + 1) else .int (hd i)) 5)).1 120 = some (bD r en ds g0 nw d bu) := by rw [cup_at, if_neg (by omega), G0]
  have n1 : Int32.ofNat 1 = 1 := rfl
  have a0 : alGet S 123 0 = some (.int g0) := by rw [← hf]; exact alGet_r (k := 0) h3 (by omega) (by omega)
  have x8 := (bD_p (v := g0) h0).2.2.2.1
  have x4 := (bD_f G0).2.2.2.1
  have x9 := (bD_f G0).2.2.2.2.2.2.2.1
  have x7 := (bD_p (v := 1) G1).2.2.1
  rw [cup_w] at x7
  have k3 := K13 h3
  have sz := alSize_r h3
  unfold c_1146
  simp only [b1, Option.bind_some, c5, if_true, tg, b6, if_neg q1, c2]
  simp only [if_pos q2, c0, k3, sz, n1, if_true, Option.bind_some, c1, if_pos q4, a0, toB]
  simp only [x8, Option.bind_some, x4, x9]
  simp only [kk, Option.bind_some, i26, s26, x7, Sum.elim_inr]
