/-! the warden: a new matrix -/
theorem c_newM {s : CS} {m : Nat} (hw : wfS s) (hm : s.1 m = some (true, false, 48, [.null, .null, .null])) : ∃ S, c_517 m s = some S ∧ wfS S ∧ S.2.1 = s.2.1 + 3 ∧ S.1 m = some (true, false, 48, [.ref s.2.1, .ref (s.2.1 + 1), .ref (s.2.1 + 2)]) ∧ S.1 s.2.1 = some (true, false, 1042, [.int 0]) ∧ S.1 (s.2.1 + 1) = some (true, false, 1042, [.int 0]) ∧ S.1 (s.2.1 + 2) = some (true, false, 1013, [.int 0]) ∧ (∀ q, q < s.2.1 → q ≠ m → S.1 q = s.1 q) ∧ S.2.2.1 ≤ s.2.2.1 + 10 ∧ S.2.2.2 ≤ s.2.2.2 + 100 := by
  have lm := wf_lt hw hm
  unfold c_517
  obtain ⟨S1, e1, a1, a2, a3, a4, a5, a6⟩ := nw_o (s := s) 42 [.null, .null, .null, .null, .int 0, .int 0, .null, .null, .null] hw
  rw [Option.bind_some, e1]
  dsimp only
  rw [if_pos (isK_t a1 rfl), tmInit_o a1, Option.bind_some]
  have m1 : (cup S1 s.2.1 (true, false, 1042, [.int 0])).1 m = some (true, false, 48, [.null, .null, .null]) := by rw [cup_ne (by omega), a2 m (by omega)]; exact hm
  rw [xP_c (fs' := [.ref s.2.1, .null, .null]) m1 rfl (by simp) rfl, Option.bind_some, Option.bind_some]
  have w1 : wfS (cup (cup S1 s.2.1 (true, false, 1042, [.int 0])) m (true, false, 48, [.ref s.2.1, .null, .null])) := wf_cup (wf_cup a4 (by omega)) (by show m < S1.2.1; omega)
  have x1 : (cup (cup S1 s.2.1 (true, false, 1042, [.int 0])) m (true, false, 48, [.ref s.2.1, .null, .null])).1 s.2.1 = some (true, false, 1042, [.int 0]) := by rw [cup_ne (by omega), cup_eq]
  have x2 : ∀ q, q < s.2.1 → q ≠ m → (cup (cup S1 s.2.1 (true, false, 1042, [.int 0])) m (true, false, 48, [.ref s.2.1, .null, .null])).1 q = s.1 q := fun q h1 h2 => by rw [cup_ne h2, cup_ne (by omega), a2 q (by omega)]
  have x3 : (cup (cup S1 s.2.1 (true, false, 1042, [.int 0])) m (true, false, 48, [.ref s.2.1, .null, .null])).2 = S1.2 := rfl
  have x4 : (cup (cup S1 s.2.1 (true, false, 1042, [.int 0])) m (true, false, 48, [.ref s.2.1, .null, .null])).1 m = some (true, false, 48, [.ref s.2.1, .null, .null]) := cup_eq ..
  generalize cup (cup S1 s.2.1 (true, false, 1042, [.int 0])) m (true, false, 48, [.ref s.2.1, .null, .null]) = X at w1 x1 x2 x3 x4 ⊢
  have lX : X.2.1 = s.2.1 + 1 := by rw [x3]; exact a3
  obtain ⟨S2, e2, b1, b2, b3, b4, b5, b6⟩ := nw_o (s := X) 42 [.null, .null, .null, .null, .int 0, .int 0, .null, .null, .null] w1
  rw [e2]
  dsimp only
  rw [if_pos (isK_t b1 rfl), tmInit_o b1, Option.bind_some]
  have m2 : (cup S2 X.2.1 (true, false, 1042, [.int 0])).1 m = some (true, false, 48, [.ref s.2.1, .null, .null]) := by rw [cup_ne (by omega), b2 m (by omega)]; exact x4
  rw [xP_c (fs' := [.ref s.2.1, .ref X.2.1, .null]) m2 rfl (by simp) rfl, Option.bind_some, Option.bind_some]
  have w2 : wfS (cup (cup S2 X.2.1 (true, false, 1042, [.int 0])) m (true, false, 48, [.ref s.2.1, .ref X.2.1, .null])) := wf_cup (wf_cup b4 (by omega)) (by show m < S2.2.1; omega)
  have y1 : (cup (cup S2 X.2.1 (true, false, 1042, [.int 0])) m (true, false, 48, [.ref s.2.1, .ref X.2.1, .null])).1 X.2.1 = some (true, false, 1042, [.int 0]) := by rw [cup_ne (by omega), cup_eq]
  have y2 : ∀ q, q < X.2.1 → q ≠ m → (cup (cup S2 X.2.1 (true, false, 1042, [.int 0])) m (true, false, 48, [.ref s.2.1, .ref X.2.1, .null])).1 q = X.1 q := fun q h1 h2 => by rw [cup_ne h2, cup_ne (by omega), b2 q (by omega)]
  have y3 : (cup (cup S2 X.2.1 (true, false, 1042, [.int 0])) m (true, false, 48, [.ref s.2.1, .ref X.2.1, .null])).2 = S2.2 := rfl
  have y4 : (cup (cup S2 X.2.1 (true, false, 1042, [.int 0])) m (true, false, 48, [.ref s.2.1, .ref X.2.1, .null])).1 m = some (true, false, 48, [.ref s.2.1, .ref X.2.1, .null]) := cup_eq ..
  generalize cup (cup S2 X.2.1 (true, false, 1042, [.int 0])) m (true, false, 48, [.ref s.2.1, .ref X.2.1, .null]) = Y at w2 y1 y2 y3 y4 ⊢
  have lY : Y.2.1 = s.2.1 + 2 := by rw [y3]; omega
  obtain ⟨S3, e3, c1, c2, c3, c4, c5, c6⟩ := nw_o (s := Y) 13 [.int 0, .null, .int 0] w2
  rw [e3]
  dsimp only
  rw [if_pos (isK_t c1 rfl), alInit_o c1, Option.bind_some]
  have m3 : (cup S3 Y.2.1 (true, false, 1013, [.int 0])).1 m = some (true, false, 48, [.ref s.2.1, .ref X.2.1, .null]) := by rw [cup_ne (by omega), c2 m (by omega)]; exact y4
  rw [xP_c (fs' := [.ref s.2.1, .ref X.2.1, .ref Y.2.1]) m3 rfl (by simp) rfl, Option.bind_some]
  have k1 : X.2.2.1 = s.2.2.1 + 1 := by rw [x3]; exact a5
  have k2 : X.2.2.2 = s.2.2.2 + 9 := by rw [x3]; exact a6
  have k3 : Y.2.2.1 = X.2.2.1 + 1 := by rw [y3]; exact b5
  have k4 : Y.2.2.2 = X.2.2.2 + 9 := by rw [y3]; exact b6
  have k5 : S3.2.2.2 = Y.2.2.2 + 3 := c6
  refine ⟨_, rfl, wf_cup (wf_cup c4 (by omega)) (by show m < S3.2.1; omega), by show S3.2.1 = _; omega, by rw [cup_eq, lX, lY], ?_, ?_, ?_, fun q h1 h2 => ?_, by show S3.2.2.1 ≤ _; omega, by show S3.2.2.2 ≤ _; omega⟩
  · rw [cup_ne (by omega), cup_ne (by omega), c2 _ (by omega), y2 _ (by omega) (by omega)]; exact x1
  · rw [cup_ne (by omega), cup_ne (by omega), c2 _ (by omega), ← lX]; exact y1
  · rw [cup_ne (by omega), ← lY, cup_eq]
  · rw [cup_ne h2, cup_ne (by omega), c2 q (by omega), y2 q (by omega) h2]; exact x2 q h1 h2
