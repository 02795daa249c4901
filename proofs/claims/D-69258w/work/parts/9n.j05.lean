/-! the library: ArrayList.add -/
section
variable {E : lE} {M : lMem}
/-- there is room -/
theorem sp_78a {a e : Nat} {v x y : Value} {n : Nat} {xs : List Value} (hM : M.1 a = some (true, false, 13, [x, .ref e, y])) (he : M.1 e = some (true, true, 6, xs)) (hn : n < xs.length) (hx : xs.length ≤ 1000000) (hea : e ≠ a) (hv : okV M v) : lSp E prog 6 78 [.ref a, v, .ref e, .int (Int32.ofNat n)] M (.inl none, (lUpd (lUpd M.1 e (true, true, 6, xs.set n v)) a (true, false, 13, [x, .ref e, .int (Int32.ofNat (n + 1))]), M.2.1, M.2.2)) := by
  obtain ⟨o, rfl⟩ : ∃ o, v = vR o := by
    rcases hv with rfl | ⟨b, _, _, _, rfl, _⟩
    · exact ⟨none, rfl⟩
    · exact ⟨some b, rfl⟩
  refine lGo.sp (D := 5) pg_78 (by cases o <;> exact Nat.le_of_ble_eq_true rfl) ?_
  have lva : lv_args 0 [.ref a, vR o, .ref e, .int (Int32.ofNat n)] = [(0, .ref a), (1, vR o), (2, .ref e), (3, .int (Int32.ofNat n))] := by cases o <;> rfl
  rw [lva]
  repeat (refine lGo.step rfl (fun _ => rfl) ?_; try dsimp only)
  refine lGo.len rfl he ?_
  have hne : ¬ Int32.ofNat n = xs.length.toInt32 := fun z => by
    have : n = xs.length := (i_inj (by omega) (by omega)).mp z
    omega
  refine lGo.step rfl (fun _ => rfl) ?_
  refine lGo.brT (decide_eq_true hne) ?_
  repeat (refine lGo.step rfl (fun _ => rfl) ?_; try dsimp only)
  have ld : ∀ {j : Nat} {st : List Value} {fin : lF}, lGo E prog 5 cd_78 10 ([(0, .ref a), (1, vR o), (2, .ref e), (3, .int (Int32.ofNat n))], vR o :: st, M) fin → lGo E prog 5 cd_78 9 ([(0, .ref a), (1, vR o), (2, .ref e), (3, .int (Int32.ofNat n))], st, M) fin := by
    intro j st fin h
    cases o with
    | none => exact lGo.step rfl (fun _ => rfl) h
    | some b => exact lGo.step rfl (fun _ => rfl) h
  refine ld (j := 0) ?_
  refine lGo.rsv rfl he hv (i_nlt0 (by omega)) (by rw [clampN (by omega)]; exact hn) ?_
  rw [clampN (by omega)]
  repeat (refine lGo.step rfl (fun _ => rfl) ?_; try dsimp only)
  have e2 : Int32.ofNat n + 1 = Int32.ofNat (n + 1) := i_suc n
  rw [e2]
  refine lGo.put rfl ((lUpd_ne _ _ (fun z => hea z.symm)).trans hM) rfl (Nat.le_of_ble_eq_true rfl) rfl ?_
  exact lGo.done rfl (fun _ => rfl)
/-- ArrayList.grow() -/
theorem sp_79 {a n D : Nat} {x r : Value} {M' : lMem} (hM : M.1 a = some (true, false, 13, [x, r, .int (Int32.ofNat n)])) (h : lSp E prog D 80 [.ref a, .int (Int32.ofNat (n + 1))] M (.inl (some (.ref M.2.1)), M')) : lSp E prog (D + 1) 79 [.ref a] M (.inl (some (.ref M.2.1)), M') := by
  refine lGo.sp (D := D) pg_79 (Nat.le_of_ble_eq_true rfl) ?_
  repeat (refine lGo.step rfl (fun _ => rfl) ?_; try dsimp only)
  refine lGo.get rfl hM rfl rfl ?_
  repeat (refine lGo.step rfl (fun _ => rfl) ?_; try dsimp only)
  rw [show Int32.ofNat n + 1 = Int32.ofNat (n + 1) from i_suc n]
  refine lGo.callV rfl rfl hM rfl ⟨Nat.le_of_ble_eq_true rfl, Nat.le_of_ble_eq_true rfl⟩ h ?_
  exact lGo.done rfl (fun _ => rfl)
/-- there is none: the array grows first -/
theorem sp_78b {a e n D : Nat} {v x : Value} {w : Bool} {xs ys : List Value} {N : Nat} (hM : M.1 a = some (true, false, 13, [x, .ref e, .int (Int32.ofNat n)])) (he : M.1 e = some (w, true, 6, xs)) (hn : n = xs.length) (hx : xs.length ≤ 1000000) (hf : M.1 M.2.1 = none) (hv : okV M v) (hD : 5 ≤ D)
    (hg : lSp E prog D 80 [.ref a, .int (Int32.ofNat (n + 1))] M (.inl (some (.ref M.2.1)), (lUpd (lUpd M.1 M.2.1 (true, true, 6, ys)) a (true, false, 13, [x, .ref M.2.1, .int (Int32.ofNat n)]), M.2.1 + 1, M.2.2 + N))) (hy : n < ys.length) (hy2 : ys.length ≤ 1000000) :
    lSp E prog (D + 2) 78 [.ref a, v, .ref e, .int (Int32.ofNat n)] M (.inl none, (lUpd (lUpd M.1 M.2.1 (true, true, 6, ys.set n v)) a (true, false, 13, [x, .ref M.2.1, .int (Int32.ofNat (n + 1))]), M.2.1 + 1, M.2.2 + N)) := by
  have hv0 := hv
  have ha0 : a ≠ M.2.1 := fun z => by rw [z, hf] at hM; cases hM
  have hne : Int32.ofNat n = xs.length.toInt32 := by rw [hn]
  have e2 : Int32.ofNat n + 1 = Int32.ofNat (n + 1) := i_suc n
  have hv1 : okV (lUpd (lUpd M.1 M.2.1 (true, true, 6, ys)) a (true, false, 13, [x, .ref M.2.1, .int (Int32.ofNat n)]), M.2.1 + 1, M.2.2 + N) v := (hv0.upd (n := M.2.1 + 1) (m := M.2.2 + N) (Or.inl hf)).upd (Or.inr ⟨true, false, 13, _, (lUpd_ne _ _ ha0).trans hM, rfl, rfl⟩)
  have fin : lUpd (lUpd (lUpd (lUpd M.1 M.2.1 (true, true, 6, ys)) a (true, false, 13, [x, .ref M.2.1, .int (Int32.ofNat n)])) M.2.1 (true, true, 6, ys.set n v)) a (true, false, 13, [x, .ref M.2.1, .int (Int32.ofNat (n + 1))]) = lUpd (lUpd M.1 M.2.1 (true, true, 6, ys.set n v)) a (true, false, 13, [x, .ref M.2.1, .int (Int32.ofNat (n + 1))]) := by
    funext q
    simp only [lUpd_at]
    by_cases h1 : q = a
    · simp [h1]
    · by_cases h2 : q = M.2.1
      · rw [if_neg h1, if_pos h2, if_neg h1, if_pos h2]
      · rw [if_neg h1, if_neg h2, if_neg h1, if_neg h2, if_neg h1, if_neg h2]
  rcases hv with rfl | ⟨b, _, _, _, rfl, _⟩
  all_goals
    refine lGo.sp (D := D + 1) pg_78 (Nat.le_of_ble_eq_true rfl) ?_
    repeat (refine lGo.step rfl (fun _ => rfl) ?_; try dsimp only)
    refine lGo.len rfl he ?_
    refine lGo.step rfl (fun _ => rfl) ?_
    refine lGo.brF (decide_eq_false (fun z => z hne)) ?_
    repeat (refine lGo.step rfl (fun _ => rfl) ?_; try dsimp only)
    refine lGo.callV rfl rfl hM rfl ⟨Nat.le_of_ble_eq_true rfl, Nat.le_of_ble_eq_true rfl⟩ (sp_79 hM hg) ?_
    repeat (refine lGo.step rfl (fun _ => rfl) ?_; try dsimp only)
    refine lGo.rsv rfl ((lUpd_ne _ _ (fun z => ha0 z.symm)).trans (lUpd_eq ..)) hv1 (i_nlt0 (by omega)) (by rw [clampN (by omega)]; exact hy) ?_
    rw [clampN (by omega)]
    repeat (refine lGo.step rfl (fun _ => rfl) ?_; try dsimp only)
    rw [e2]
    refine lGo.put rfl ((lUpd_ne _ _ ha0).trans (lUpd_eq ..)) rfl (Nat.le_of_ble_eq_true rfl) rfl ?_
    dsimp only [List.set_cons_succ, List.set_cons_zero]
    rw [fin]
    exact lGo.done rfl (fun _ => rfl)
end
