/-! the library: ArrayDeque's size, head, removal, entry -/
section
variable {E : lE} {G : lHeap} {M : lMem}
theorem sp_22 {i m : Nat} (h : i < m) (hm : m < 1000000) : lSp E prog 1 22 [.int (Int32.ofNat i), .int (Int32.ofNat m)] M (.inl (some (.int (Int32.ofNat ((i + 1) % m)))), M) := by
  refine lGo.sp (D := 0) pg_22 (Nat.le_of_ble_eq_true rfl) ?_
  repeat (refine lGo.step rfl (fun _ => rfl) ?_; try dsimp only)
  have e : Int32.ofNat i + 1 = Int32.ofNat (i + 1) := i_suc i
  by_cases z : i + 1 < m
  · refine lGo.brT (decide_eq_true ?_) ?_
    · rw [e]; exact (i_lt (by omega) (by omega)).mpr z
    repeat (refine lGo.step rfl (fun _ => rfl) ?_; try dsimp only)
    rw [Nat.mod_eq_of_lt z, ← e]
    exact lGo.done rfl (fun _ => rfl)
  · refine lGo.brF (decide_eq_false ?_) ?_
    · rw [e]; exact fun w => z ((i_lt (by omega) (by omega)).mp w)
    repeat (refine lGo.step rfl (fun _ => rfl) ?_; try dsimp only)
    rw [show i + 1 = m by omega, Nat.mod_self]
    exact lGo.done rfl (fun _ => rfl)
theorem sp_25 {e : Nat} {xs : List Value} {i : Nat} {r : Value} (he : M.1 e = some (true, true, 6, xs)) (hr : xs[i]? = some r) (hi : i < 1000000) (hv : r = .null ∨ ∃ b, r = .ref b) : lSp E prog 1 25 [.ref e, .int (Int32.ofNat i)] M (.inl (some r), M) := by
  refine lGo.sp (D := 0) pg_25 (Nat.le_of_ble_eq_true rfl) ?_
  repeat (refine lGo.step rfl (fun _ => rfl) ?_; try dsimp only)
  refine lGo.ald rfl he rfl (i_nlt0 (by omega)) (by rw [clampN (by omega)]; exact hr) ?_
  rcases hv with rfl | ⟨b, rfl⟩ <;> exact lGo.done rfl (fun _ => rfl)
theorem sp_29 {hd n cap : Nat} (h1 : hd < cap) (h2 : n < cap) (hc : cap ≤ 300000) : lSp E prog 1 29 [.int (Int32.ofNat ((hd + n) % cap)), .int (Int32.ofNat hd), .int (Int32.ofNat cap)] M (.inl (some (.int (Int32.ofNat n))), M) := by
  refine lGo.sp (D := 0) pg_29 (Nat.le_of_ble_eq_true rfl) ?_
  repeat (refine lGo.step rfl (fun _ => rfl) ?_; try dsimp only)
  rw [mod_hd h1 h2]
  by_cases z : hd + n < cap
  · rw [if_pos z]
    have e : Int32.ofNat (hd + n) - Int32.ofNat hd = Int32.ofNat n := by rw [i_sub (by omega), Nat.add_sub_cancel_left]
    refine lGo.brT (decide_eq_true ?_) ?_
    · rw [e]; exact Int32.not_lt.mp (i_nlt0 (by omega))
    repeat (refine lGo.step rfl (fun _ => rfl) ?_; try dsimp only)
    rw [← e]
    exact lGo.done rfl (fun _ => rfl)
  · rw [if_neg z]
    have e : Int32.ofNat (hd + n - cap) - Int32.ofNat hd + Int32.ofNat cap = Int32.ofNat n := by
      refine Int32.toInt.inj ?_
      have h3 : (Int32.ofNat (hd + n - cap) - Int32.ofNat hd).toInt = ((hd + n - cap : Nat) : Int) - (hd : Int) := by
        rw [Int32.toInt_sub, Int32.toInt_ofNat_of_lt (by omega), Int32.toInt_ofNat_of_lt (by omega), Int.bmod_eq_of_le (by omega) (by omega)]
      rw [Int32.toInt_add, h3, Int32.toInt_ofNat_of_lt (by omega), Int32.toInt_ofNat_of_lt (by omega), Int.bmod_eq_of_le (by omega) (by omega)]
      omega
    have e2 : Int32.ofNat (hd + n - cap) - Int32.ofNat hd < 0 := by
      rw [Int32.lt_iff_toInt_lt, Int32.toInt_sub, Int32.toInt_ofNat_of_lt (by omega), Int32.toInt_ofNat_of_lt (by omega), Int32.toInt_zero, Int.bmod_eq_of_le (by omega) (by omega)]
      omega
    refine lGo.brF (decide_eq_false (Int32.not_le.mpr e2)) ?_
    repeat (refine lGo.step rfl (fun _ => rfl) ?_; try dsimp only)
    rw [← e]
    exact lGo.done rfl (fun _ => rfl)
theorem jp28 : JP_28 (lAb (lJd E G) G) E := by
  intro y s A0 a w x hW hr hx M hM
  obtain ⟨own, cr, hA⟩ := hM
  obtain ⟨es, hc, hx⟩ := bindC hx
  cases hx
  obtain ⟨hL, hn, ⟨e, hd, cap, f, g1, g2, g3, g4, g5, g6, g7, g8, g9⟩, _⟩ := jp_D hW hA (adC_some hc)
  have hlen := relL_len hL
  rw [hr.1]
  refine ⟨(.inl (some (.int _)), M), _, ?_, ⟨own, cr, hA⟩, trivial, rfl, rfl⟩
  refine lGo.sp (D := 1) pg_28 (Nat.le_of_ble_eq_true rfl) ?_
  repeat (refine lGo.step rfl (fun _ => rfl) ?_; try dsimp only)
  refine lGo.get rfl g1 rfl rfl ?_
  repeat (refine lGo.step rfl (fun _ => rfl) ?_; try dsimp only)
  refine lGo.get rfl g1 rfl rfl ?_
  repeat (refine lGo.step rfl (fun _ => rfl) ?_; try dsimp only)
  refine lGo.get rfl g1 rfl rfl ?_
  refine lGo.len rfl g8 ?_
  rw [show (rowC f cap).length.toInt32 = Int32.ofNat cap from by rw [rowC_len]]
  refine lGo.call (n := 3) rfl ⟨Nat.le_of_ble_eq_true rfl, Nat.le_of_ble_eq_true rfl⟩ (sp_29 g4 g3 g5) ?_
  rw [← hlen]
  exact lGo.done rfl (fun _ => rfl)
theorem jp35 : JP_35 (lAb (lJd E G) G) E := by
  intro y s A0 a w x hW hr hx M hM
  obtain ⟨own, cr, hA⟩ := hM
  obtain ⟨es, hc, hx⟩ := bindC hx
  obtain ⟨hL, hn, ⟨e, hd, cap, f, g1, g2, g3, g4, g5, g6, g7, g8, g9⟩, _⟩ := jp_D hW hA (adC_some hc)
  have hx0 : es[0]? = some x := by rw [← List.head?_eq_getElem?]; exact hx
  obtain ⟨r, hr1, hr2⟩ := relL_get hL hx0
  have hl0 : 0 < (y.2 a).length := (List.getElem?_eq_some_iff.mp hr1).1
  obtain ⟨b, hb⟩ := relL_nn hL hn 0 hl0
  have hrb : r = .ref b := by
    rw [List.getD_eq_getElem?_getD, hr1] at hb
    exact hb
  subst hrb
  have hf : f hd = .ref b := by
    have := g9 0 (by omega)
    rw [Nat.add_zero, Nat.mod_eq_of_lt g4, hb] at this
    exact this
  rw [hr.1]
  refine ⟨(.inl (some (.ref b)), M), _, ?_, ⟨own, cr, hA⟩, trivial, some b, rfl, hr2, rfl⟩
  refine lGo.sp (D := 1) pg_35 (Nat.le_of_ble_eq_true rfl) ?_
  repeat (refine lGo.step rfl (fun _ => rfl) ?_; try dsimp only)
  refine lGo.get rfl g1 rfl rfl ?_
  repeat (refine lGo.step rfl (fun _ => rfl) ?_; try dsimp only)
  refine lGo.get rfl g1 rfl rfl ?_
  refine lGo.call (n := 2) rfl ⟨Nat.le_of_ble_eq_true rfl, Nat.le_of_ble_eq_true rfl⟩ (sp_25 (r := .ref b) g8 (by rw [rowC_get, if_pos g4, hf]) (by omega) (Or.inr ⟨b, rfl⟩)) ?_
  repeat (refine lGo.step rfl (fun _ => rfl) ?_; try dsimp only)
  exact lGo.done rfl (fun _ => rfl)
end
