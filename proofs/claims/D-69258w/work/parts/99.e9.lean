/-! going over a map -/
theorem tmM_l {s : CS} {a : Nat} {m : Int32} {es : List (Value × Value)} (h : s.1 a = some (true, false, 1042, .int m :: fl es)) (hc : s.2.2.1 < 4000000000) : tmM s a m = some es := by
  unfold tmM; rw [tmC_of h, Option.bind_some, if_pos ⟨rfl, hc⟩]
theorem tmIHas_l {s : CS} {a i : Nat} {m : Int32} {es : List (Value × Value)} (h : s.1 a = some (true, false, 1042, .int m :: fl es)) (hc : s.2.2.1 < 4000000000) : tmIHas s a m i = some (if i < es.length then 1 else 0) := by
  unfold tmIHas; rw [tmM_l h hc]; rfl
theorem tmNx_l {s : CS} {a i : Nat} {m : Int32} {es : List (Value × Value)} (h : s.1 a = some (true, false, 1042, .int m :: fl es)) (hc : s.2.2.1 < 4000000000) (hi : i < es.length) : tmNx s a m i = some () := by
  unfold tmNx; rw [tmM_l h hc, Option.bind_some, if_pos hi]
theorem tmVal_l {s : CS} {a i : Nat} {m : Int32} {es : List (Value × Value)} (h : s.1 a = some (true, false, 1042, .int m :: fl es)) (hc : s.2.2.1 < 4000000000) (hi : i < es.length) : tmVal s a m i = some es[i].2 := by
  unfold tmVal; rw [tmM_l h hc, Option.bind_some, List.getElem?_eq_getElem hi]; rfl
theorem tmKey_l {s : CS} {a i : Nat} {m : Int32} {es : List (Value × Value)} (h : s.1 a = some (true, false, 1042, .int m :: fl es)) (hc : s.2.2.1 < 4000000000) (hi : i < es.length) : tmKey s a m i = some es[i].1 := by
  unfold tmKey; rw [tmM_l h hc, Option.bind_some, List.getElem?_eq_getElem hi]; rfl
theorem tmVw_l {s : CS} {a : Nat} {m : Int32} {es : List (Value × Value)} (h : s.1 a = some (true, false, 1042, .int m :: fl es)) : tmVw s a = some (chg s 1 1) := by
  unfold tmVw; rw [tmC_of h]; rfl
theorem tmMc_l {s : CS} {a : Nat} {m : Int32} {es : List (Value × Value)} (h : s.1 a = some (true, false, 1042, .int m :: fl es)) : tmMc s a = some (m, chg s 1 4) := by
  unfold tmMc; rw [tmC_of h]; rfl
theorem tmClear_l {s : CS} {a : Nat} {m : Int32} {es : List (Value × Value)} (h : s.1 a = some (true, false, 1042, .int m :: fl es)) : tmClear s a = some (cput s 1042 a 1 0 [.int (m + 1)]) := by
  unfold tmClear; rw [tmC_of h]; rfl
