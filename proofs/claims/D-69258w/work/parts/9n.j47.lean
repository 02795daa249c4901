/-! the library: keys and their order -/
def tabC : List (Nat × Nat) := [(19, 103), (20, 111), (35, 203), (0, 240), (63, 879), (91, 1055), (102, 308), (103, 308), (104, 308), (105, 308), (106, 308), (107, 308), (108, 308), (109, 308), (110, 308), (112, 308), (113, 308), (114, 308), (115, 308), (116, 308), (117, 308), (118, 308), (119, 308), (120, 308), (121, 308), (123, 308), (124, 308), (125, 308), (126, 308), (127, 308), (128, 308), (129, 308), (131, 308), (132, 308)]
def cstC : List Nat := [0, 19, 20, 35, 63, 91, 102, 103, 104, 105, 106, 107, 108, 109, 110, 112, 113, 114, 115, 116, 117, 118, 119, 120, 121, 123, 124, 125, 126, 127, 128, 129, 131, 132]
/-- a key's place among the keys of its kind -/
def ordK (s : CS) : Value → Int
  | .int a => a.toInt
  | .long a => a.toInt
  | .ref a => if isK s [63] a = true then ((xI s [(63, 0)] a).getD 0).toInt * 8589934592 + ((xI s [(63, 1)] a).getD 0).toInt else - ((xI s [(91, 2)] a).getD 0).toInt * 8589934592 + ((xI s [(91, 0)] a).getD 0).toInt
  | _ => 0
theorem ordK_63 {s : CS} {a : Nat} (h : isK s [63] a = true) : ordK s (.ref a) = ((xI s [(63, 0)] a).getD 0).toInt * 8589934592 + ((xI s [(63, 1)] a).getD 0).toInt := if_pos h
theorem ordK_91 {s : CS} {a : Nat} (h : ¬ isK s [63] a = true) : ordK s (.ref a) = - ((xI s [(91, 2)] a).getD 0).toInt * 8589934592 + ((xI s [(91, 0)] a).getD 0).toInt := if_neg h
theorem cmpZ_sub {a b c d : Int} (h : a - b = c - d) : cmpZ a b = cmpZ c d := by
  unfold cmpZ
  by_cases h1 : a < b
  · rw [if_pos h1, if_pos (show c < d by omega)]
  · rw [if_neg h1, if_neg (show ¬ c < d by omega)]
    by_cases h2 : a = b
    · rw [if_pos h2, if_pos (show c = d by omega)]
    · rw [if_neg h2, if_neg (show ¬ c = d by omega)]
theorem cmpZ_big {x x2 y y2 : Int} (h : x ≠ x2) (h1 : -2147483648 ≤ y) (h2 : y < 2147483648) (h3 : -2147483648 ≤ y2) (h4 : y2 < 2147483648) : cmpZ (x * 8589934592 + y) (x2 * 8589934592 + y2) = cmpZ x x2 := by
  unfold cmpZ
  by_cases z : x < x2
  · rw [if_pos z, if_pos (by omega)]
  · rw [if_neg z, if_neg (by omega), if_neg h, if_neg (by omega)]
theorem ord_cmp {s : CS} {x y : Value} {z : Int32} (h : cmpK s x y = some z) : z = cmpZ (ordK s x) (ordK s y) := by
  unfold cmpK at h
  split at h
  · cases h
    exact cmpI_Z _ _
  · cases h
    exact cmpL_Z _ _
  · rename_i a b
    by_cases h63 : isK s [63] a = true ∧ isK s [63] b = true
    · rw [if_pos h63] at h
      obtain ⟨x1, e1, h⟩ := bindC h
      obtain ⟨x2, e2, h⟩ := bindC h
      rw [ordK_63 h63.1, ordK_63 h63.2, e1, e2]
      by_cases q : x1 = x2
      · rw [if_pos q] at h
        obtain ⟨y1, f1, h⟩ := bindC h
        obtain ⟨y2, f2, h⟩ := bindC h
        cases h
        rw [f1, f2, q, cmpI_Z]
        exact cmpZ_sub (by simp only [Option.getD_some]; omega)
      · rw [if_neg q] at h
        cases h
        rw [cmpI_Z]
        have k1 := Int32.toInt_lt ((xI s [(63, 1)] a).getD 0)
        have k2 := Int32.le_toInt ((xI s [(63, 1)] a).getD 0)
        have k3 := Int32.toInt_lt ((xI s [(63, 1)] b).getD 0)
        have k4 := Int32.le_toInt ((xI s [(63, 1)] b).getD 0)
        exact (cmpZ_big (fun w => q (Int32.toInt_inj.mp w)) (by omega) (by omega) (by omega) (by omega)).symm
    · rw [if_neg h63] at h
      by_cases h91 : isK s [91] a = true ∧ isK s [91] b = true
      · rw [if_pos h91] at h
        obtain ⟨x1, e1, h⟩ := bindC h
        obtain ⟨x2, e2, h⟩ := bindC h
        have n63 : ∀ q, isK s [91] q = true → ¬ isK s [63] q = true := fun q k1 k2 => by
          obtain ⟨u, w1, w2⟩ := isK_some k1
          obtain ⟨u2, w3, w4⟩ := isK_some k2
          rw [w1] at w3
          cases w3
          simp at w2 w4
          omega
        rw [ordK_91 (n63 a h91.1), ordK_91 (n63 b h91.2), e1, e2]
        by_cases q : x1 = x2
        · rw [if_pos q] at h
          obtain ⟨y1, f1, h⟩ := bindC h
          obtain ⟨y2, f2, h⟩ := bindC h
          cases h
          rw [f1, f2, q, cmpI_Z]
          exact cmpZ_sub (by simp only [Option.getD_some]; omega)
        · rw [if_neg q] at h
          cases h
          rw [cmpI_Z]
          have k1 := Int32.toInt_lt ((xI s [(91, 0)] a).getD 0)
          have k2 := Int32.le_toInt ((xI s [(91, 0)] a).getD 0)
          have k3 := Int32.toInt_lt ((xI s [(91, 0)] b).getD 0)
          have k4 := Int32.le_toInt ((xI s [(91, 0)] b).getD 0)
          refine Eq.trans ?_ (cmpZ_big (fun w => q (Int32.toInt_inj.mp (by simp only [Option.getD_some] at w; omega))) (by omega) (by omega) (by omega) (by omega)).symm
          refine cmpZ_sub ?_
          simp only [Option.getD_some]
          omega
      · rw [if_neg h91] at h
        cases h
  · cases h
section
variable {E : lE} {M : lMem} {D : Nat} {cd : List lI} {i j : Nat} {fin : lF} {lv : lL} {r : List Value} {w : Int32}
theorem sp_113 {x z : Int64} : lSp E prog 1 113 [.long x, .long z] M (.inl (some (.int (cmpL x z))), M) := by
  refine lGo.sp (D := 0) pg_113 (Nat.le_of_ble_eq_true rfl) ?_
  refine lGo.step rfl (fun _ => rfl) ?_; dsimp only
  refine lGo.step rfl (fun _ => rfl) ?_; dsimp only
  refine lGo.step rfl (fun _ => rfl) ?_; dsimp only
  unfold cmpL
  by_cases h : x < z
  · rw [if_pos h]
    refine lGo.step rfl (fun _ => rfl) ?_; dsimp only
    refine lGo.brF (decide_eq_false (fun w => by
      have := lg_lt.mpr h
      exact absurd this (Int32.not_lt.mpr w))) ?_
    refine lGo.step rfl (fun _ => rfl) ?_; dsimp only
    refine lGo.step rfl (fun _ => rfl) ?_; dsimp only
    exact lGo.done rfl (fun _ => rfl)
  · rw [if_neg h]
    refine lGo.step rfl (fun _ => rfl) ?_; dsimp only
    refine lGo.brT (decide_eq_true (Int32.not_lt.mp (fun w => h (lg_lt.mp w)))) ?_
    refine lGo.step rfl (fun _ => rfl) ?_; dsimp only
    refine lGo.step rfl (fun _ => rfl) ?_; dsimp only
    refine lGo.step rfl (fun _ => rfl) ?_; dsimp only
    refine lGo.step rfl (fun _ => rfl) ?_; dsimp only
    by_cases e : x = z
    · rw [if_pos e]
      refine lGo.brF (decide_eq_false (fun w => w (lg_eq0.mpr e))) ?_
      refine lGo.step rfl (fun _ => rfl) ?_; dsimp only
      refine lGo.step rfl (fun _ => rfl) ?_; dsimp only
      exact lGo.done rfl (fun _ => rfl)
    · rw [if_neg e]
      refine lGo.brT (decide_eq_true (fun w => e (lg_eq0.mp w))) ?_
      refine lGo.step rfl (fun _ => rfl) ?_; dsimp only
      exact lGo.done rfl (fun _ => rfl)
theorem sp_111 {a b : Nat} {w w2 : Bool} {x z : Int64} (ha : M.1 a = some (w, false, 20, [.long x])) (hb : M.1 b = some (w2, false, 20, [.long z])) : lSp E prog 3 111 [.ref a, .ref b] M (.inl (some (.int (cmpL x z))), M) := by
  refine lGo.sp (D := 2) pg_111 (Nat.le_of_ble_eq_true rfl) ?_
  refine lGo.step rfl (fun _ => rfl) ?_; dsimp only
  refine lGo.step rfl (fun _ => rfl) ?_; dsimp only
  refine lGo.cast rfl hb rfl ?_
  refine lGo.callV (v := some (.int (cmpL x z))) rfl rfl ha rfl ⟨Nat.le_of_ble_eq_true rfl, Nat.le_of_ble_eq_true rfl⟩ (M' := M) ?_ ?_
  · refine lGo.sp (D := 1) pg_112 (Nat.le_of_ble_eq_true rfl) ?_
    refine lGo.step rfl (fun _ => rfl) ?_; dsimp only
    refine lGo.get rfl ha rfl rfl ?_
    refine lGo.step rfl (fun _ => rfl) ?_; dsimp only
    refine lGo.get rfl hb rfl rfl ?_
    refine lGo.call (n := 2) rfl ⟨Nat.le_of_ble_eq_true rfl, Nat.le_of_ble_eq_true rfl⟩ sp_113 ?_
    exact lGo.done rfl (fun _ => rfl)
  · exact lGo.done rfl (fun _ => rfl)
/-- points, by their two numbers -/
theorem sp_879 {a b : Nat} {w w2 : Bool} {fs fs2 : List Value} {x z y u : Int32} (ha : M.1 a = some (w, false, 63, fs)) (hb : M.1 b = some (w2, false, 63, fs2)) (h0 : fs[0]? = some (.int x)) (h1 : fs2[0]? = some (.int z)) (h2 : x = z → fs[1]? = some (.int y) ∧ fs2[1]? = some (.int u)) : lSp E prog 3 879 [.ref a, .ref b] M (.inl (some (.int (if x = z then cmpI y u else cmpI x z))), M) := by
  refine lGo.sp (D := 2) pg_879 (Nat.le_of_ble_eq_true rfl) ?_
  refine lGo.step rfl (fun _ => rfl) ?_; dsimp only
  refine lGo.step rfl (fun _ => rfl) ?_; dsimp only
  refine lGo.cast rfl hb rfl ?_
  refine lGo.callV (v := some (.int (if x = z then cmpI y u else cmpI x z))) rfl rfl ha rfl ⟨Nat.le_of_ble_eq_true rfl, Nat.le_of_ble_eq_true rfl⟩ (M' := M) ?_ ?_
  · refine lGo.sp (D := 1) pg_880 (Nat.le_of_ble_eq_true rfl) ?_
    refine lGo.step rfl (fun _ => rfl) ?_; dsimp only
    refine lGo.get rfl ha rfl h0 ?_
    refine lGo.step rfl (fun _ => rfl) ?_; dsimp only
    refine lGo.get rfl hb rfl h1 ?_
    refine lGo.step rfl (fun _ => rfl) ?_; dsimp only
    by_cases e : x = z
    · rw [if_pos e]
      refine lGo.brT (decide_eq_true e) ?_
      refine lGo.step rfl (fun _ => rfl) ?_; dsimp only
      refine lGo.get rfl ha rfl (h2 e).1 ?_
      refine lGo.step rfl (fun _ => rfl) ?_; dsimp only
      refine lGo.get rfl hb rfl (h2 e).2 ?_
      refine lGo.call (n := 2) rfl ⟨Nat.le_of_ble_eq_true rfl, Nat.le_of_ble_eq_true rfl⟩ sp_102 ?_
      exact lGo.done rfl (fun _ => rfl)
    · rw [if_neg e]
      refine lGo.brF (decide_eq_false e) ?_
      refine lGo.step rfl (fun _ => rfl) ?_; dsimp only
      refine lGo.get rfl ha rfl h0 ?_
      refine lGo.step rfl (fun _ => rfl) ?_; dsimp only
      refine lGo.get rfl hb rfl h1 ?_
      refine lGo.call (n := 2) rfl ⟨Nat.le_of_ble_eq_true rfl, Nat.le_of_ble_eq_true rfl⟩ sp_102 ?_
      refine lGo.step rfl (fun _ => rfl) ?_; dsimp only
      exact lGo.done rfl (fun _ => rfl)
  · exact lGo.done rfl (fun _ => rfl)
/-- acts -/
theorem sp_1055 {a b : Nat} {w w2 : Bool} {fs fs2 : List Value} {x z y u : Int32} (ha : M.1 a = some (w, false, 91, fs)) (hb : M.1 b = some (w2, false, 91, fs2)) (h0 : fs[2]? = some (.int x)) (h1 : fs2[2]? = some (.int z)) (h2 : x = z → fs[0]? = some (.int y) ∧ fs2[0]? = some (.int u)) : lSp E prog 3 1055 [.ref a, .ref b] M (.inl (some (.int (if x = z then cmpI y u else cmpI z x))), M) := by
  refine lGo.sp (D := 2) pg_1055 (Nat.le_of_ble_eq_true rfl) ?_
  refine lGo.step rfl (fun _ => rfl) ?_; dsimp only
  refine lGo.step rfl (fun _ => rfl) ?_; dsimp only
  refine lGo.cast rfl hb rfl ?_
  refine lGo.callV (v := some (.int (if x = z then cmpI y u else cmpI z x))) rfl rfl ha rfl ⟨Nat.le_of_ble_eq_true rfl, Nat.le_of_ble_eq_true rfl⟩ (M' := M) ?_ ?_
  · refine lGo.sp (D := 1) pg_1056 (Nat.le_of_ble_eq_true rfl) ?_
    refine lGo.step rfl (fun _ => rfl) ?_; dsimp only
    refine lGo.get rfl ha rfl h0 ?_
    refine lGo.step rfl (fun _ => rfl) ?_; dsimp only
    refine lGo.get rfl hb rfl h1 ?_
    refine lGo.step rfl (fun _ => rfl) ?_; dsimp only
    by_cases e : x = z
    · rw [if_pos e]
      refine lGo.brT (decide_eq_true e) ?_
      refine lGo.step rfl (fun _ => rfl) ?_; dsimp only
      refine lGo.get rfl ha rfl (h2 e).1 ?_
      refine lGo.step rfl (fun _ => rfl) ?_; dsimp only
      refine lGo.get rfl hb rfl (h2 e).2 ?_
      refine lGo.call (n := 2) rfl ⟨Nat.le_of_ble_eq_true rfl, Nat.le_of_ble_eq_true rfl⟩ sp_102 ?_
      exact lGo.done rfl (fun _ => rfl)
    · rw [if_neg e]
      refine lGo.brF (decide_eq_false e) ?_
      refine lGo.step rfl (fun _ => rfl) ?_; dsimp only
      refine lGo.get rfl hb rfl h1 ?_
      refine lGo.step rfl (fun _ => rfl) ?_; dsimp only
      refine lGo.get rfl ha rfl h0 ?_
      refine lGo.call (n := 2) rfl ⟨Nat.le_of_ble_eq_true rfl, Nat.le_of_ble_eq_true rfl⟩ sp_102 ?_
      refine lGo.step rfl (fun _ => rfl) ?_; dsimp only
      exact lGo.done rfl (fun _ => rfl)
  · exact lGo.done rfl (fun _ => rfl)
/-- two keys of one kind, compared -/
def kcmp (E : lE) (M : lMem) (kx kz : Value) (w : Int32) : Prop := ∃ (b : Nat) (wf : Bool) (ci : Nat) (fs : List Value) (mi : Nat), kx = .ref b ∧ M.1 b = some (wf, false, ci, fs) ∧ lLook tabC ci = some mi ∧ cstC.contains ci = true ∧ lSp E prog 3 mi [kx, kz] M (.inl (some (.int w)), M)
theorem lGo.key {hd : lHd} {kx kz : Value} (hi : cd[i]? = some (fCallV hd 1 tabC j)) (hk : kcmp E M kx kz w) (hD : 3 ≤ D) (hr : r.length ≤ 3) (h : lGo E prog D cd j (lv, .int w :: r, M) fin) : lGo E prog D cd i (lv, kz :: kx :: r, M) fin := by
  obtain ⟨b, wf, ci, fs, mi, rfl, h1, h2, _, h3⟩ := hk
  exact lGo.callV hi rfl h1 h2 ⟨by simp only [List.length_cons]; omega, cat8 (by simp only [List.drop_succ_cons, List.drop_zero]; omega)⟩ (h3.mono hD) h
theorem lGo.keyC {kx kz : Value} (hi : cd[i]? = some (aM (fCast cstC j))) (hk : kcmp E M kx kz w) (h : lGo E prog D cd j (lv, kx :: r, M) fin) : lGo E prog D cd i (lv, kx :: r, M) fin := by
  obtain ⟨b, wf, ci, fs, mi, rfl, h1, _, h2, _⟩ := hk
  exact lGo.cast hi h1 h2 h
end
section
variable {E : lE} {y : lY} {s : CS} {A0 M : lMem} {G : lHeap} {own cr : Nat → Nat}
theorem xI_pl (hW : cW E y s A0) (hA : lAbo (lJd E G) G own cr M (cp y s A0)) {ci k a : Nat} {x : Int32} (hk : ci < 1000) (hi : isK s [ci] a = true) (h : xI s [(ci, k)] a = some x) : ∃ w fs, M.1 (adr y.1 a) = some (w, false, ci, fs) ∧ fs[k]? = some (.int x) ∧ ∀ k2 x2, xI s [(ci, k2)] a = some x2 → fs[k2]? = some (.int x2) := by
  obtain ⟨v, h1, h2⟩ := bindC h
  unfold xV at h1
  split at h1
  · rename_i w0 ci0 fs0 hc
    obtain ⟨k', h3, h4⟩ := bindC h1
    have e : ci = ci0 := by
      unfold lLook at h3
      by_cases z : ci = ci0
      · exact z
      · simp [lLook, z] at h3
    subst e
    obtain ⟨_, w', h5, _⟩ := jp_pl hW hA hc hk
    have key : ∀ k2 x2, xI s [(ci, k2)] a = some x2 → (fs0.map (rv y.1))[k2]? = some (.int x2) := fun k2 x2 hx => by
      obtain ⟨v2, h6, h7⟩ := bindC hx
      unfold xV at h6
      rw [hc] at h6
      dsimp only at h6
      obtain ⟨k3, h8, h9⟩ := bindC h6
      have e3 : k3 = k2 := by
        simp [lLook] at h8
        exact h8.symm
      subst e3
      rw [List.getElem?_map, h9]
      cases v2 with
      | int u =>
        cases h7
        rfl
      | _ => cases h7
    exact ⟨w', _, h5, key k x h, key⟩
  · cases h1
theorem key_cmp (hW : cW E y s A0) (hA : lAbo (lJd E G) G own cr M (cp y s A0)) {x z kx kz : Value} {w : Int32} (hx : relV y.1 A0 x kx) (hz : relV y.1 A0 z kz) (h : cmpK s x z = some w) : kcmp E M kx kz w := by
  unfold cmpK at h
  split at h
  · cases h
    obtain ⟨q, w1, rfl, h2, h3⟩ := hx
    obtain ⟨q2, w2, rfl, h4, h5⟩ := hz
    obtain ⟨w3, g1, _⟩ := hA.pl ((cp_hid h3).trans h2) (by decide)
    obtain ⟨w4, g2, _⟩ := hA.pl ((cp_hid h5).trans h4) (by decide)
    exact ⟨q, w3, 19, _, 103, rfl, g1, rfl, rfl, sp_103 g1 g2⟩
  · cases h
    obtain ⟨q, w1, rfl, h2, h3⟩ := hx
    obtain ⟨q2, w2, rfl, h4, h5⟩ := hz
    obtain ⟨w3, g1, _⟩ := hA.pl ((cp_hid h3).trans h2) (by decide)
    obtain ⟨w4, g2, _⟩ := hA.pl ((cp_hid h5).trans h4) (by decide)
    exact ⟨q, w3, 20, _, 111, rfl, g1, rfl, rfl, sp_111 g1 g2⟩
  · rename_i a b
    rw [hx.1, hz.1]
    by_cases h63 : isK s [63] a = true ∧ isK s [63] b = true
    · rw [if_pos h63] at h
      obtain ⟨x1, e1, h⟩ := bindC h
      obtain ⟨x2, e2, h⟩ := bindC h
      obtain ⟨w1, fs, g1, g2, g3⟩ := xI_pl hW hA (by decide) h63.1 e1
      obtain ⟨w2, fs2, k1, k2, k3⟩ := xI_pl hW hA (by decide) h63.2 e2
      by_cases q : x1 = x2
      · rw [if_pos q] at h
        obtain ⟨y1, f1, h⟩ := bindC h
        obtain ⟨y2, f2, h⟩ := bindC h
        cases h
        have := sp_879 (E := E) g1 k1 g2 k2 (fun _ => ⟨g3 _ _ f1, k3 _ _ f2⟩)
        rw [if_pos q] at this
        exact ⟨_, w1, 63, _, 879, rfl, g1, rfl, rfl, this⟩
      · rw [if_neg q] at h
        cases h
        have := sp_879 (E := E) (y := 0) (u := 0) g1 k1 g2 k2 (fun w => absurd w q)
        rw [if_neg q] at this
        exact ⟨_, w1, 63, _, 879, rfl, g1, rfl, rfl, this⟩
    · rw [if_neg h63] at h
      by_cases h91 : isK s [91] a = true ∧ isK s [91] b = true
      · rw [if_pos h91] at h
        obtain ⟨x1, e1, h⟩ := bindC h
        obtain ⟨x2, e2, h⟩ := bindC h
        obtain ⟨w1, fs, g1, g2, g3⟩ := xI_pl hW hA (by decide) h91.1 e1
        obtain ⟨w2, fs2, k1, k2, k3⟩ := xI_pl hW hA (by decide) h91.2 e2
        by_cases q : x1 = x2
        · rw [if_pos q] at h
          obtain ⟨y1, f1, h⟩ := bindC h
          obtain ⟨y2, f2, h⟩ := bindC h
          cases h
          have := sp_1055 (E := E) g1 k1 g2 k2 (fun _ => ⟨g3 _ _ f1, k3 _ _ f2⟩)
          rw [if_pos q] at this
          exact ⟨_, w1, 91, _, 1055, rfl, g1, rfl, rfl, this⟩
        · rw [if_neg q] at h
          cases h
          have := sp_1055 (E := E) (y := 0) (u := 0) g1 k1 g2 k2 (fun w => absurd w q)
          rw [if_neg q] at this
          exact ⟨_, w1, 91, _, 1055, rfl, g1, rfl, rfl, this⟩
      · rw [if_neg h91] at h
        cases h
  · cases h
end
