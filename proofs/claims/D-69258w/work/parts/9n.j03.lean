/-! the library: arrays, lists, the raw walks -/
section
variable {E : lE} {M : lMem} {D : Nat} {cd : List lI} {i j : Nat} {fin : lF} {lv : lL} {r : List Value}
/-- a value that may lie in an array of objects -/
def okV (M : lMem) (v : Value) : Prop := v = .null ∨ ∃ b w ci fs, v = .ref b ∧ M.1 b = some (w, false, ci, fs) ∧ raTab.contains (6, ci) = true
theorem okV.in6 {v : Value} (h : okV M v) : lInA M.1 raTab 6 v = true := by
  rcases h with rfl | ⟨b, w, ci, fs, rfl, e, k⟩
  · rfl
  · simp only [lInA, e]
    exact k
theorem lGo.rsv {a : Nat} {xs : List Value} {n : Int32} {v : Value} (hi : cd[i]? = some (aM (fRst raTab j))) (hM : M.1 a = some (true, true, 6, xs)) (hv : okV M v) (hn : ¬ n < 0) (hl : n.toNatClampNeg < xs.length) (h : lGo E prog D cd j (lv, r, lUpd M.1 a (true, true, 6, xs.set n.toNatClampNeg v), M.2.1, M.2.2) fin) : lGo E prog D cd i (lv, v :: .int n :: .ref a :: r, M) fin := by
  rcases hv with rfl | ⟨b, w, ci, fs, rfl, e, k⟩
  · exact lGo.rstN hi hM rfl hn hl h
  · exact lGo.rst hi hM e k hn hl h
theorem lGo.brT {c : Bool} {t : Nat} {st : lS} (hc : c = true) (h : lGo E prog D cd t st fin) : lGo E prog D cd (cond c t j) st fin := by
  rw [hc]
  exact h
theorem lGo.brF {c : Bool} {t : Nat} {st : lS} (hc : c = false) (h : lGo E prog D cd j st fin) : lGo E prog D cd (cond c t j) st fin := by
  rw [hc]
  exact h
theorem lGo.env {q : Nat} {v : Value} (hi : cd[i]? = some (aM (fEnv q j))) (hE : E q = v) (h : lGo E prog D cd j (lv, v :: r, M) fin) : lGo E prog D cd i (lv, r, M) fin := lGo.step hi (fun _ => by simp [lMemI, fEnv, hE]) h
theorem lGo.castA {ts : List Nat} {a t : Nat} {w : Bool} {xs : List Value} (hi : cd[i]? = some (aM (fCastA ts j))) (hM : M.1 a = some (w, true, t, xs)) (ht : ts.contains t = true) (h : lGo E prog D cd j (lv, .ref a :: r, M) fin) : lGo E prog D cd i (lv, .ref a :: r, M) fin := by
  refine lGo.step hi (fun _ => ?_) h
  show lMemI (fCastA ts j) E _ _ = _
  unfold lMemI fCastA
  dsimp only
  rw [hM]
  dsimp only
  rw [if_pos ht]
theorem lGo.getC {ts : List Nat} {q a t : Nat} {w : Bool} {xs : List Value} {v : Value} (hi : cd[i]? = some (aM (fGetC ts q j))) (hM : M.1 a = some (w, true, t, xs)) (ht : ts.contains t = true) (hr : (r.map (fun v => v.category)).sum ≤ 8) (hE : E q = v) (h : lGo E prog D cd j (lv, v :: r, M) fin) : lGo E prog D cd i (lv, .ref a :: r, M) fin := by
  refine lGo.step hi (fun _ => ?_) h
  show lMemI (fGetC ts q j) E _ _ = _
  unfold lMemI fGetC
  dsimp only
  rw [hM]
  dsimp only
  rw [if_pos ⟨ht, hr⟩, hE]
/-- contents laid into an array -/
theorem lSt_eq : ∀ (zs ys : List Value) (p : Nat), p + zs.length ≤ ys.length → lSt ys p zs = ys.take p ++ zs ++ ys.drop (p + zs.length) := by
  intro zs
  induction zs with
  | nil =>
    intro ys p _
    unfold lSt
    rw [List.append_nil, List.length_nil, Nat.add_zero, List.take_append_drop]
  | cons z zs ih =>
    intro ys p h
    unfold lSt
    simp only [List.length_cons] at h
    rw [ih _ _ (by rw [List.length_set]; omega), List.length_cons, List.take_set, List.drop_set, if_pos (by omega), show p + 1 + zs.length = p + (zs.length + 1) by omega]
    have e : (ys.take (p + 1)).set p z = ys.take p ++ [z] := by
      rw [List.take_succ_eq_append_getElem (by omega), List.set_append_right _ _ (by rw [List.length_take]; omega), List.length_take, Nat.min_eq_left (by omega), Nat.sub_self]
      rfl
    rw [e]
    simp
theorem lGo.copyO {a0 a : Nat} {w : Bool} {t0 : Nat} {xs ys : List Value} {sp dp n : Nat} (hi : cd[i]? = some (aM (fCopy lPrims raTab j))) (h0 : M.1 a0 = some (w, true, t0, xs)) (h1 : M.1 a = some (true, true, 6, ys)) (ht : raTab.any (fun q => q.1 == t0) = true) (hs : sp + n ≤ xs.length) (hd : dp + n ≤ ys.length) (hb : xs.length < 2147483648) (hb2 : ys.length < 2147483648) (hr : (r.map (fun v => v.category)).sum ≤ 8) (hv : ∀ v ∈ (xs.drop sp).take n, okV M v)
    (h : lGo E prog D cd j (lv, r, lUpd M.1 a (true, true, 6, ys.take dp ++ (xs.drop sp).take n ++ ys.drop (dp + n)), M.2.1, M.2.2) fin) : lGo E prog D cd i (lv, .int (Int32.ofNat n) :: .int (Int32.ofNat dp) :: .ref a :: .int (Int32.ofNat sp) :: .ref a0 :: r, M) fin := by
  have l1 : ((xs.drop sp).take n).length = n := by rw [List.length_take, List.length_drop]; omega
  have e := lSt_eq ((xs.drop sp).take n) ys dp (by rw [l1]; omega)
  rw [l1] at e
  rw [← e] at h
  refine lGo.step hi (fun _ => ?_) h
  show lMemI (fCopy lPrims raTab j) E _ _ = _
  unfold lMemI fCopy
  dsimp only
  rw [h0]
  dsimp only
  rw [h1]
  dsimp only
  rw [i_clamp (by omega), i_clamp (by omega), i_clamp (by omega), if_pos ⟨i_nlt0 (by omega), i_nlt0 (by omega), i_nlt0 (by omega), hs, hd, hr, Or.inr ⟨ht, rfl, List.all_eq_true.mpr (fun v hv' => (hv v hv').in6)⟩⟩]
theorem sp_47 {x y : Int32} : lSp E prog 1 47 [.int x, .int y] M (.inl (some (.int (if x < y then y else x))), M) := by
  refine lGo.sp (D := 0) pg_47 (Nat.le_of_ble_eq_true rfl) ?_
  repeat (refine lGo.step rfl (fun _ => rfl) ?_; try dsimp only)
  by_cases h : x < y
  · rw [if_pos h]
    refine lGo.brT (decide_eq_true h) ?_
    repeat (refine lGo.step rfl (fun _ => rfl) ?_; try dsimp only)
    exact lGo.done rfl (fun _ => rfl)
  · rw [if_neg h]
    refine lGo.brF (decide_eq_false h) ?_
    repeat (refine lGo.step rfl (fun _ => rfl) ?_; try dsimp only)
    exact lGo.done rfl (fun _ => rfl)
theorem sp_48 {x y : Int32} : lSp E prog 1 48 [.int x, .int y] M (.inl (some (.int (if y < x then y else x))), M) := by
  refine lGo.sp (D := 0) pg_48 (Nat.le_of_ble_eq_true rfl) ?_
  repeat (refine lGo.step rfl (fun _ => rfl) ?_; try dsimp only)
  by_cases h : y < x
  · rw [if_pos h]
    refine lGo.brT (decide_eq_true h) ?_
    repeat (refine lGo.step rfl (fun _ => rfl) ?_; try dsimp only)
    exact lGo.done rfl (fun _ => rfl)
  · rw [if_neg h]
    refine lGo.brF (decide_eq_false h) ?_
    repeat (refine lGo.step rfl (fun _ => rfl) ?_; try dsimp only)
    exact lGo.done rfl (fun _ => rfl)
theorem sp_47n {x y : Nat} (hx : x < 2147483648) (hy : y < 2147483648) : lSp E prog 1 47 [.int (Int32.ofNat x), .int (Int32.ofNat y)] M (.inl (some (.int (Int32.ofNat (max x y)))), M) := by
  have h := sp_47 (E := E) (M := M) (x := Int32.ofNat x) (y := Int32.ofNat y)
  have e : (if Int32.ofNat x < Int32.ofNat y then Int32.ofNat y else Int32.ofNat x) = Int32.ofNat (max x y) := by
    by_cases z : x < y
    · rw [if_pos ((i_lt hx hy).mpr z), Nat.max_eq_right (by omega)]
    · rw [if_neg (fun w => z ((i_lt hx hy).mp w)), Nat.max_eq_left (by omega)]
  rw [e] at h
  exact h
theorem sp_48n {x y : Nat} (hx : x < 2147483648) (hy : y < 2147483648) : lSp E prog 1 48 [.int (Int32.ofNat x), .int (Int32.ofNat y)] M (.inl (some (.int (Int32.ofNat (min x y)))), M) := by
  have h := sp_48 (E := E) (M := M) (x := Int32.ofNat x) (y := Int32.ofNat y)
  have e : (if Int32.ofNat y < Int32.ofNat x then Int32.ofNat y else Int32.ofNat x) = Int32.ofNat (min x y) := by
    by_cases z : y < x
    · rw [if_pos ((i_lt hy hx).mpr z), Nat.min_eq_right (by omega)]
    · rw [if_neg (fun w => z ((i_lt hy hx).mp w)), Nat.min_eq_left (by omega)]
  rw [e] at h
  exact h
/-- newLength: the old length and the greater of two steps -/
theorem sp_36 {n a b : Nat} (h : n + max a b ≤ 1000000000) (h0 : 0 < n + max a b) : lSp E prog 2 36 [.int (Int32.ofNat n), .int (Int32.ofNat a), .int (Int32.ofNat b)] M (.inl (some (.int (Int32.ofNat (n + max a b)))), M) := by
  refine lGo.sp (D := 1) pg_36 (Nat.le_of_ble_eq_true rfl) ?_
  repeat (refine lGo.step rfl (fun _ => rfl) ?_; try dsimp only)
  refine lGo.call (n := 2) rfl ⟨Nat.le_of_ble_eq_true rfl, Nat.le_of_ble_eq_true rfl⟩ (sp_47n (by omega) (by omega)) ?_
  repeat (refine lGo.step rfl (fun _ => rfl) ?_; try dsimp only)
  have e : Int32.ofNat n + Int32.ofNat (max a b) = Int32.ofNat (n + max a b) := i_add _ _
  refine lGo.brF (decide_eq_false ?_) ?_
  · rw [e]
    intro z
    have := (Int32.le_iff_toInt_le.mp z)
    rw [Int32.toInt_ofNat_of_lt (by omega), Int32.toInt_zero] at this
    omega
  repeat (refine lGo.step rfl (fun _ => rfl) ?_; try dsimp only)
  refine lGo.brF (decide_eq_false ?_) ?_
  · rw [e]
    intro z
    have := (Int32.lt_iff_toInt_lt.mp z)
    rw [Int32.toInt_ofNat_of_lt (by omega), show (2147483639 : Int32).toInt = 2147483639 from rfl] at this
    omega
  repeat (refine lGo.step rfl (fun _ => rfl) ?_; try dsimp only)
  rw [← e]
  exact lGo.done rfl (fun _ => rfl)
end
