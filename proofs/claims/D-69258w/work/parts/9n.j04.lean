/-! the library: ArrayList, the raw walks -/
section
variable {E : lE} {M : lMem}
theorem cat8 {r : List Value} (h : r.length ≤ 4) : (r.map (fun v => v.category)).sum ≤ 8 := cat_sum8 h
theorem clampN {n : Nat} (h : n < 2147483648) : (Int32.ofNat n).toNatClampNeg = n := i_clamp h
theorem okV.upd {v : Value} {q : Nat} {c : lCell} {n m : Nat} (h : okV M v) (hq : M.1 q = none ∨ ∃ w b ci fs, M.1 q = some (w, b, ci, fs) ∧ c.2.1 = b ∧ c.2.2.1 = ci) : okV (lUpd M.1 q c, n, m) v := by
  rcases h with rfl | ⟨b, w, ci, fs, rfl, e1, e2⟩
  · exact Or.inl rfl
  · by_cases z : b = q
    · subst z
      rcases hq with hq | ⟨w', b', ci', fs', hq, h1, h2⟩
      · rw [hq] at e1; cases e1
      · rw [hq] at e1
        cases e1
        obtain ⟨c1, c2, c3, c4⟩ := c
        dsimp only at h1 h2
        subst h1 h2
        exact Or.inr ⟨b, _, _, _, rfl, lUpd_eq .., e2⟩
    · exact Or.inr ⟨b, w, ci, fs, rfl, (lUpd_ne _ _ z).trans e1, e2⟩
theorem take_min (xs : List Value) (N : Nat) : xs.take (min xs.length N) = xs.take N := by
  rw [List.take_eq_take_iff]
  omega
/-- Arrays.copyOf of objects -/
theorem sp_57 {a0 t0 c1 : Nat} {w : Bool} {xs : List Value} {N : Nat} (h0 : M.1 a0 = some (w, true, t0, xs)) (hf : M.1 M.2.1 = none) (ht : raTab.any (fun q => q.1 == t0) = true) (hx : xs.length ≤ 1000000) (hN : N ≤ 1000000) (hE : E 1 = .ref c1) (hv : ∀ v ∈ xs.take N, okV M v) : lSp E prog 2 57 [.ref a0, .int (Int32.ofNat N), .ref c1] M (.inl (some (.ref M.2.1)), (lUpd M.1 M.2.1 (true, true, 6, jfil (xs.take N) N), M.2.1 + 1, M.2.2 + N)) := by
  refine lGo.sp (D := 1) pg_57 (Nat.le_of_ble_eq_true rfl) ?_
  refine lGo.step rfl (fun _ => rfl) ?_
  refine lGo.env rfl hE ?_
  refine lGo.step rfl (fun _ => rfl) ?_
  refine lGo.brT (decide_eq_true rfl) ?_
  refine lGo.step rfl (fun _ => rfl) ?_
  refine lGo.newa rfl (i_nlt0 (by omega)) (by rw [clampN (by omega)]; exact hN) ?_
  rw [clampN (by omega)]
  refine lGo.step rfl (fun _ => rfl) ?_
  repeat (refine lGo.step rfl (fun _ => rfl) ?_; try dsimp only)
  have h0' : lUpd M.1 M.2.1 (true, true, 6, List.replicate N .null) a0 = some (w, true, t0, xs) := (lUpd_ne _ _ (fun z => by rw [z, hf] at h0; cases h0)).trans h0
  refine lGo.len rfl h0' ?_
  repeat (refine lGo.step rfl (fun _ => rfl) ?_; try dsimp only)
  have e : xs.length.toInt32 = Int32.ofNat xs.length := rfl
  rw [e]
  refine lGo.call (n := 2) rfl ⟨Nat.le_of_ble_eq_true rfl, Nat.le_of_ble_eq_true rfl⟩ (sp_48n (by omega) (by omega)) ?_
  refine lGo.copyO (sp := 0) (dp := 0) (n := min xs.length N) rfl h0' (lUpd_eq ..) ht (by omega) (by rw [List.length_replicate]; omega) (by omega) (by rw [List.length_replicate]; omega) (cat8 (Nat.le_of_ble_eq_true rfl)) ?_ ?_
  · intro v hv'
    rw [List.drop_zero, take_min] at hv'
    exact (hv v hv').upd (Or.inl hf)
  repeat (refine lGo.step rfl (fun _ => rfl) ?_; try dsimp only)
  have e2 : (List.replicate N Value.null).take 0 ++ (xs.drop 0).take (min xs.length N) ++ (List.replicate N Value.null).drop (0 + min xs.length N) = jfil (xs.take N) N := by
    rw [List.take_zero, List.nil_append, List.drop_zero, take_min, List.drop_replicate]
    unfold jfil
    rw [List.length_take]
    congr 2
    omega
  rw [e2, lUpdU]
  exact lGo.done rfl (fun _ => rfl)
theorem sp_56 {a0 t0 c1 : Nat} {w : Bool} {xs : List Value} {N : Nat} (h0 : M.1 a0 = some (w, true, t0, xs)) (hf : M.1 M.2.1 = none) (ht6 : t0 = 6) (hx : xs.length ≤ 1000000) (hN : N ≤ 1000000) (hE : E 1 = .ref c1) (hv : ∀ v ∈ xs.take N, okV M v) : lSp E prog 3 56 [.ref a0, .int (Int32.ofNat N)] M (.inl (some (.ref M.2.1)), (lUpd M.1 M.2.1 (true, true, 6, jfil (xs.take N) N), M.2.1 + 1, M.2.2 + N)) := by
  refine lGo.sp (D := 2) pg_56 (Nat.le_of_ble_eq_true rfl) ?_
  repeat (refine lGo.step rfl (fun _ => rfl) ?_; try dsimp only)
  refine lGo.getC rfl h0 (by rw [ht6]; rfl) (cat8 (Nat.le_of_ble_eq_true rfl)) hE ?_
  refine lGo.call (n := 3) rfl ⟨Nat.le_of_ble_eq_true rfl, Nat.le_of_ble_eq_true rfl⟩ (sp_57 h0 hf (by rw [ht6]; rfl) hx hN hE hv) ?_
  exact lGo.done rfl (fun _ => rfl)
/-- ArrayList.grow where there is no array yet -/
theorem sp_80z {a z mn : Nat} {w : Bool} {x y : Value} (hM : M.1 a = some (true, false, 13, [x, .ref z, y])) (hz : M.1 z = some (w, true, 6, [])) (hE : E 19 = .ref z) (hf : M.1 M.2.1 = none) (hm : mn ≤ 1000000) : lSp E prog 2 80 [.ref a, .int (Int32.ofNat mn)] M (.inl (some (.ref M.2.1)), (lUpd (lUpd M.1 M.2.1 (true, true, 6, List.replicate (max 10 mn) .null)) a (true, false, 13, [x, .ref M.2.1, y]), M.2.1 + 1, M.2.2 + max 10 mn)) := by
  refine lGo.sp (D := 1) pg_80 (Nat.le_of_ble_eq_true rfl) ?_
  repeat (refine lGo.step rfl (fun _ => rfl) ?_; try dsimp only)
  refine lGo.get rfl hM rfl rfl ?_
  refine lGo.len rfl hz ?_
  repeat (refine lGo.step rfl (fun _ => rfl) ?_; try dsimp only)
  refine lGo.get rfl hM rfl rfl ?_
  refine lGo.env rfl hE ?_
  refine lGo.step rfl (fun _ => rfl) ?_
  refine lGo.brT (decide_eq_true rfl) ?_
  repeat (refine lGo.step rfl (fun _ => rfl) ?_; try dsimp only)
  refine lGo.call (n := 2) rfl ⟨Nat.le_of_ble_eq_true rfl, Nat.le_of_ble_eq_true rfl⟩ (sp_47n (x := 10) (y := mn) (by omega) (by omega)) ?_
  refine lGo.newa rfl (i_nlt0 (by omega)) (by rw [clampN (by omega)]; omega) ?_
  rw [clampN (by omega)]
  repeat (refine lGo.step rfl (fun _ => rfl) ?_; try dsimp only)
  have hM' : lUpd M.1 M.2.1 (true, true, 6, List.replicate (max 10 mn) .null) a = some (true, false, 13, [x, .ref z, y]) := (lUpd_ne _ _ (fun e => by rw [e, hf] at hM; cases hM)).trans hM
  refine lGo.put rfl hM' rfl (Nat.le_of_ble_eq_true rfl) rfl ?_
  exact lGo.done rfl (fun _ => rfl)
/-- ArrayList.grow where there is an array -/
theorem sp_80 {a e c1 mn : Nat} {x y : Value} {xs : List Value} (hM : M.1 a = some (true, false, 13, [x, .ref e, y])) (he : M.1 e = some (true, true, 6, xs)) (h0 : 0 < xs.length) (hE : E 1 = .ref c1) (hf : M.1 M.2.1 = none) (hm : mn ≤ 500001) (hx : xs.length ≤ 500001) (hmx : xs.length ≤ mn) (hv : ∀ v ∈ xs, okV M v) : lSp E prog 4 80 [.ref a, .int (Int32.ofNat mn)] M (.inl (some (.ref M.2.1)), (lUpd (lUpd M.1 M.2.1 (true, true, 6, jfil xs (xs.length + max (mn - xs.length) (xs.length / 2)))) a (true, false, 13, [x, .ref M.2.1, y]), M.2.1 + 1, M.2.2 + (xs.length + max (mn - xs.length) (xs.length / 2)))) := by
  refine lGo.sp (D := 3) pg_80 (Nat.le_of_ble_eq_true rfl) ?_
  repeat (refine lGo.step rfl (fun _ => rfl) ?_; try dsimp only)
  refine lGo.get rfl hM rfl rfl ?_
  refine lGo.len rfl he ?_
  repeat (refine lGo.step rfl (fun _ => rfl) ?_; try dsimp only)
  have e1 : xs.length.toInt32 = Int32.ofNat xs.length := rfl
  rw [e1]
  have h1 : (0 : Int32) < Int32.ofNat xs.length := (i_lt (show 0 < 2147483648 by omega) (show xs.length < 2147483648 by omega)).mpr h0
  refine lGo.brT (decide_eq_true h1) ?_
  repeat (refine lGo.step rfl (fun _ => rfl) ?_; try dsimp only)
  have e2 : Int32.ofNat mn - Int32.ofNat xs.length = Int32.ofNat (mn - xs.length) := i_sub (by omega)
  have e3 : Int32.ofNat xs.length >>> (1 &&& 31 : Int32) = Int32.ofNat (xs.length / 2) := by
    rw [show (1 &&& 31 : Int32) = Int32.ofNat 1 from by decide, i_shr (by omega) (by decide)]
  rw [e2, e3]
  refine lGo.call (n := 3) rfl ⟨Nat.le_of_ble_eq_true rfl, Nat.le_of_ble_eq_true rfl⟩ ((sp_36 (n := xs.length) (a := mn - xs.length) (b := xs.length / 2) (by omega) (by omega)).mono (by decide)) ?_
  repeat (refine lGo.step rfl (fun _ => rfl) ?_; try dsimp only)
  refine lGo.get rfl hM rfl rfl ?_
  repeat (refine lGo.step rfl (fun _ => rfl) ?_; try dsimp only)
  refine lGo.call (n := 2) rfl ⟨Nat.le_of_ble_eq_true rfl, Nat.le_of_ble_eq_true rfl⟩ (sp_56 he hf rfl (by omega) (by omega) hE (fun v hv' => hv v (List.mem_of_mem_take hv'))) ?_
  rw [List.take_of_length_le (by omega)]
  repeat (refine lGo.step rfl (fun _ => rfl) ?_; try dsimp only)
  have hM' : lUpd M.1 M.2.1 (true, true, 6, jfil xs (xs.length + max (mn - xs.length) (xs.length / 2))) a = some (true, false, 13, [x, .ref e, y]) := (lUpd_ne _ _ (fun e => by rw [e, hf] at hM; cases hM)).trans hM
  refine lGo.put rfl hM' rfl (Nat.le_of_ble_eq_true rfl) rfl ?_
  exact lGo.done rfl (fun _ => rfl)
end
