/-! permits: a rule is judged, the component -/
section
variable {t : TS} {nf : Nat} {hq : lHeap}
theorem cstD_s (D : Nat → ClD) (c m : Nat) : cstD D c (m + 1) = (2 * (D c).1.length + 2 * (D c).2.1.length + 1) + cstD D (c + 1) m := by
  induction m with
  | zero => simp [cstD]
  | succ m ih =>
    show cstD D c (m + 1) + (2 * (D (c + (m + 1))).1.length + 2 * (D (c + (m + 1))).2.1.length + 1) = _ + (cstD D (c + 1) m + (2 * (D (c + 1 + m)).1.length + 2 * (D (c + 1 + m)).2.1.length + 1))
    rw [ih, show c + 1 + m = c + (m + 1) by omega]
    omega
theorem VOk_0 {s : CS} (hw : wfS s) : VOk s s 0 := ⟨hw, Nat.le_refl _, fun _ _ => rfl, by omega, by omega⟩
theorem VOk_ch {s : CS} (hw : wfS s) {a b n : Nat} (ha : a ≤ 3 * n) (hb : b ≤ 9 * n) : VOk s (chg s a b) n := ⟨wf_chg hw, Nat.le_refl _, fun _ _ => rfl, by show s.2.2.1 + a ≤ _; omega, by show s.2.2.2 + b ≤ _; omega⟩
theorem JX_up {a : Nat} {s S : CS} {n : Nat} (h : JX a s S n) (hw : wfS s) {w b : Bool} {fs : List Value} (ha : s.1 a = some (w, b, 70, fs)) {p : Nat} {c : lCell} (z : c.2.2.1 ≠ 70) (e : s.1 p = some c) : S.1 p = some c := by
  rw [h.2.2.1 p (wf_lt hw e) (fun q => ?_)]
  · exact e
  · rw [q, ha] at e
    rw [← Option.some.inj e] at z
    exact z rfl
theorem c_jud {s : CS} {a nm cc ex : Nat} {day : Int32} {st : Value} {mc : Int32} {m c0 : Nat} {CE : Nat → Nat} {D : Nat → ClD} (E : EnvA t nf s) (ha : s.1 a = some (true, false, 70, [.ref nm, .ref cc, .ref ex, .int day, st, .null, .null, .int 0, .ref 81])) (hx : s.1 ex = some (true, false, 1013, .int mc :: rowC (fun j => .ref (CE j)) m)) (hm : m < 1000) (hs : Sub hq s) (h0 : ClP hq cc (D c0).1 (D c0).2.1 (D c0).2.2) (hj : ∀ j, j < m → ClP hq (CE j) (D (c0 + 1 + j)).1 (D (c0 + 1 + j)).2.1 (D (c0 + 1 + j)).2.2) : ∃ X S lf rf, c_948 a 107 s = some X ∧ JX a s S (cstD D c0 (m + 1) + 1) ∧ S.1 a = some (true, false, 70, [.ref nm, .ref cc, .ref ex, .int day, st, lf, rf, .int 0, .ref 81]) ∧ FrK s.2.1 S lf (kpL (evS t nf (D c0).1 [])) ∧ FrK s.2.1 S rf (kpQ (evS t nf (D c0).1 []) (evS t nf (D c0).2.1 [])) ∧ ((∃ k, ruA (fun c => clA t nf (D c)) c0 m = .inr k ∧ k ≤ 2 ∧ X = .inl (84 + k, S)) ∨ ∃ e o n', ruA (fun c => clA t nf (D c)) c0 m = .inl (o, n') ∧ 0 < o ∧ X = .inr (e, S) ∧ ExO hq S e o n') := by
  obtain ⟨ca, cb, cg, r1, r2, r3, r4, r5⟩ := id h0
  have k91 := E.2.1.2.2.2.2
  obtain ⟨w91, k91⟩ := k91
  unfold c_948
  rw [xN_o ha rfl rfl, Option.bind_some, xN_o (Sub_in hs _ _ r1) rfl rfl, Option.bind_some]
  obtain ⟨X1, e1, S1, v1, o1⟩ := c_val (t := t) (nf := nf) E.1 k91 E.2.2 (Sub_in hs) r4
  have e1' : (if isK s [71] ca = true then c_950 ca 107 s else (if isK s [72] ca = true then c_952 ca 107 s else (if isK s [73] ca = true then c_954 200 ca 107 s else none))) = some X1 := e1
  rw [e1', Option.bind_some]
  have up1 : ∀ p c, s.1 p = some c → S1.1 p = some c := fun p c h => VOk_up v1 E.1 h
  have cs := cstD_s D c0 m
  have ru : ∀ {z : OpE}, clA t nf (D c0) = z → ruA (fun c => clA t nf (D c)) c0 m = Sum.elim .inl (fun q => if q = true then .inr 0 else Sum.elim .inl (fun z => if m = 0 then .inr 1 else if z = true then .inr 2 else .inr 1) (exQ (fun c => clA t nf (D c)) (c0 + 1) m)) z := fun h => by rw [← h]; rfl
  rcases o1 with ⟨x, y, f, i1, y0, rfl, F1, lf1⟩ | ⟨e, o, nm', o0, i1, rfl, x1⟩
  rotate_left
  · rw [Sum.elim_inr, i1]
    refine ⟨_, S1, .null, .null, rfl, JX_v (JX_0 E.1) v1 (by omega), up1 _ _ ha, Or.inl ⟨rfl, rfl⟩, Or.inl ⟨rfl, rfl⟩, Or.inr ⟨e, o, nm', ?_, k_pos (evS_k i1), rfl, x1⟩⟩
    exact ru (z := .inl (o, nm')) (by unfold clA clRes; rw [i1]; rfl)
  rw [Sum.elim_inl, i1]
  dsimp only
  have E1 := EnvA_v E v1
  have l1 := wf_lt E1.1 (up1 _ _ ha)
  obtain ⟨S2, hS2⟩ : ∃ S2, S2 = cup S1 a (true, false, 70, [.ref nm, .ref cc, .ref ex, .int day, st, .ref f, .null, .int 0, .ref 81]) := ⟨_, rfl⟩
  have g2 : S2.1 a = some (true, false, 70, [.ref nm, .ref cc, .ref ex, .int day, st, .ref f, .null, .int 0, .ref 81]) := by rw [hS2]; exact cup_eq ..
  have E2 : EnvA t nf S2 := by rw [hS2]; exact EnvA_c E1 (up1 _ _ ha)
  have J2 : JX a s S2 (2 * (D c0).1.length) := by rw [hS2]; exact JX_c (JX_v (JX_0 E.1) v1 (by omega)) l1
  have up2 : ∀ p c, c.2.2.1 ≠ 70 → S1.1 p = some c → S2.1 p = some c := fun p c z h => by rw [hS2]; exact cup70 (up1 _ _ ha) z h
  have s2 : Sub hq S2 := by rw [hS2]; exact Sub_c (Sub_v hs E.1 v1) (up1 _ _ ha)
  rw [xP_c (up1 _ _ ha) rfl (by show 5 < 9; decide) (show List.set _ 5 _ = [.ref nm, .ref cc, .ref ex, .int day, st, .ref f, .null, .int 0, .ref 81] from rfl), ← hS2, Option.bind_some]
  clear hS2
  have F2 : FrC S2 f x y := up2 _ _ (by show 76 ≠ 70; decide) F1
  rw [xN_o g2 rfl rfl, Option.bind_some, xN_o (Sub_in s2 _ _ r1) rfl rfl, Option.bind_some]
  obtain ⟨w2, k2⟩ := E2.2.1.2.2.2.2
  obtain ⟨X2, e2, S3, v3, o2⟩ := c_val (t := t) (nf := nf) E2.1 k2 E2.2.2 (Sub_in s2) r5
  have e2' : (if isK S2 [71] cb = true then c_950 cb 107 S2 else (if isK S2 [72] cb = true then c_952 cb 107 S2 else (if isK S2 [73] cb = true then c_954 200 cb 107 S2 else none))) = some X2 := e2
  rw [e2', Option.bind_some]
  have up3 : ∀ p c, S2.1 p = some c → S3.1 p = some c := fun p c h => VOk_up v3 E2.1 h
  rcases o2 with ⟨z, u, f2, i2, u0, rfl, F3, lf2⟩ | ⟨e, o, nm', o0, i2, rfl, x1⟩
  rotate_left
  · rw [Sum.elim_inr, i2]
    refine ⟨_, S3, .ref f, .null, rfl, JX_v J2 v3 (by omega), up3 _ _ g2, Or.inr ⟨f, rfl, up3 _ _ F2, lf1⟩, Or.inl ⟨rfl, rfl⟩, Or.inr ⟨e, o, nm', ?_, k_pos (evS_k i2), rfl, x1⟩⟩
    exact ru (z := .inl (o, nm')) (by unfold clA clRes; rw [i1, i2]; rfl)
  have lf2' : s.2.1 ≤ f2 := Nat.le_trans J2.2.1 lf2
  rw [Sum.elim_inl, i2]
  dsimp only
  have E3 := EnvA_v E2 v3
  have l3 := wf_lt E3.1 (up3 _ _ g2)
  obtain ⟨S4, hS4⟩ : ∃ S4, S4 = cup S3 a (true, false, 70, [.ref nm, .ref cc, .ref ex, .int day, st, .ref f, .ref f2, .int 0, .ref 81]) := ⟨_, rfl⟩
  have g4 : S4.1 a = some (true, false, 70, [.ref nm, .ref cc, .ref ex, .int day, st, .ref f, .ref f2, .int 0, .ref 81]) := by rw [hS4]; exact cup_eq ..
  have E4 : EnvA t nf S4 := by rw [hS4]; exact EnvA_c E3 (up3 _ _ g2)
  have J4 : JX a s S4 (2 * (D c0).1.length + 2 * (D c0).2.1.length) := by rw [hS4]; exact JX_c (JX_v J2 v3 (by omega)) l3
  have up4 : ∀ p c, c.2.2.1 ≠ 70 → S3.1 p = some c → S4.1 p = some c := fun p c z h => by rw [hS4]; exact cup70 (up3 _ _ g2) z h
  have s4 : Sub hq S4 := by rw [hS4]; exact Sub_c (Sub_v s2 E2.1 v3) (up3 _ _ g2)
  rw [xP_c (up3 _ _ g2) rfl (by show 6 < 9; decide) (show List.set _ 6 _ = [.ref nm, .ref cc, .ref ex, .int day, st, .ref f, .ref f2, .int 0, .ref 81] from rfl), ← hS4, Option.bind_some]
  clear hS4
  have F4 : FrC S4 f x y := up4 _ _ (by show 76 ≠ 70; decide) (up3 _ _ F2)
  have G4 : FrC S4 f2 z u := up4 _ _ (by show 76 ≠ 70; decide) F3
  have hc4 := Sub_in s4 _ _ r1
  rw [xN_o g4 rfl rfl, Option.bind_some, xN_o g4 rfl rfl, Option.bind_some, xN_o g4 rfl rfl, Option.bind_some, if_pos (isK_t hc4 rfl)]
  obtain ⟨X3, e3, S5, v5, o3⟩ := c_holO E4.1 hc4 (Sub_in s4 _ _ r2) r3 E4.2.1 F4 G4
  rw [e3, Option.bind_some]
  have up5 : ∀ p c, S4.1 p = some c → S5.1 p = some c := fun p c h => VOk_up v5 E4.1 h
  have ca : clA t nf (D c0) = clRes (D c0).2.2 (.inr [(x, y)]) (.inr [(z, u)]) := by unfold clA; rw [i1, i2]
  have E5 := EnvA_v E4 v5
  rcases o3 with ⟨q, q1, rfl⟩ | ⟨e, o, nm', o0, q1, rfl, x1⟩
  rotate_left
  · rw [Sum.elim_inr]
    exact ⟨_, S5, .ref f, .ref f2, rfl, JX_v J4 v5 (by omega), up5 _ _ g4, Or.inr ⟨f, rfl, up5 _ _ F4, lf1⟩, Or.inr ⟨f2, rfl, up5 _ _ G4, lf2'⟩, Or.inr ⟨e, o, nm', ru (ca.trans q1), o0, rfl, x1⟩⟩
  rw [Sum.elim_inl]
  have ru' := ru (ca.trans q1)
  rw [Sum.elim_inr] at ru'
  cases q with
  | true =>
    rw [if_neg (show ¬ (if true = true then (1 : Int32) else 0, S5).1 = 0 from (by decide : ¬ (1 : Int32) = 0))]
    exact ⟨_, S5, .ref f, .ref f2, rfl, JX_v J4 v5 (by omega), up5 _ _ g4, Or.inr ⟨f, rfl, up5 _ _ F4, lf1⟩, Or.inr ⟨f2, rfl, up5 _ _ G4, lf2'⟩, Or.inl ⟨0, ru', by omega, rfl⟩⟩
  | false =>
    rw [if_neg (by decide)] at ru'
    rw [if_pos (show (if false = true then (1 : Int32) else 0, S5).1 = 0 from rfl)]
    have hx5 : S5.1 ex = some (true, false, 1013, .int mc :: rowC (fun j => .ref (CE j)) m) := JX_up (JX_v J4 v5 (Nat.le_refl _)) E.1 ha (by show 1013 ≠ 70; decide) hx
    have s5 : Sub hq S5 := Sub_v s4 E4.1 v5
    dsimp only
    rw [xN_o (up5 _ _ g4) rfl rfl, Option.bind_some, if_pos (isK_t hx5 rfl), alMc_l hx5, Option.bind_some]
    have v6 : VOk S5 (chg S5 1 4) 1 := VOk_ch E5.1 (by omega) (by omega)
    have E6 := EnvA_v E5 v6
    obtain ⟨x6, e6, S7, v7, o6⟩ := ex_lp (c1 := c0 + 1) (D := D) E6 hx5 hm (Sub_v s5 E5.1 v6) hj
    dsimp only
    rw [e6, Option.bind_some]
    have v8 : VOk S4 S7 (1 + 1 + cstD D (c0 + 1) m) := VOk_tr (VOk_tr v5 v6 (Nat.le_refl _)) v7 (Nat.le_refl _)
    have up7 : ∀ p c, S5.1 p = some c → S7.1 p = some c := fun p c h => VOk_up v7 E6.1 h
    have JJ : JX a s S7 (cstD D c0 (m + 1) + 1) := JX_v J4 v8 (by omega)
    have fin : S7.1 a = some (true, false, 70, [.ref nm, .ref cc, .ref ex, .int day, st, .ref f, .ref f2, .int 0, .ref 81]) ∧ FrK s.2.1 S7 (.ref f) (x, y) ∧ FrK s.2.1 S7 (.ref f2) (z, u) := ⟨up7 _ _ (up5 _ _ g4), Or.inr ⟨f, rfl, up7 _ _ (up5 _ _ F4), lf1⟩, Or.inr ⟨f2, rfl, up7 _ _ (up5 _ _ G4), lf2'⟩⟩
    rcases o6 with ⟨w, rfl⟩ | ⟨w, rfl, m0⟩ | ⟨e, o, nm', w, o0, x1, rfl⟩
    · rw [Sum.elim_inr, Option.bind_some, Sum.elim_inl, xN_o (up7 _ _ (up5 _ _ g4)) rfl rfl, Option.bind_some, if_pos (isK_t (up7 _ _ hx5) rfl)]
      have em : alEmpty S7 ex = some (if m = 0 then 1 else 0) := by
        unfold alEmpty
        rw [alC_l (up7 _ _ hx5), Option.bind_some, rowC_len]
      rw [em, Option.bind_some]
      rw [w, Sum.elim_inr] at ru'
      by_cases m0 : m = 0
      · rw [if_pos m0] at ru'
        rw [if_neg (by rw [if_pos m0]; decide)]
        exact ⟨_, S7, .ref f, .ref f2, rfl, JJ, fin.1, fin.2.1, fin.2.2, Or.inl ⟨1, ru', by omega, rfl⟩⟩
      · rw [if_neg m0, if_pos rfl] at ru'
        rw [if_pos (if_neg m0)]
        exact ⟨_, S7, .ref f, .ref f2, rfl, JJ, fin.1, fin.2.1, fin.2.2, Or.inl ⟨2, ru', by omega, rfl⟩⟩
    · rw [Sum.elim_inl, Option.bind_some, Sum.elim_inr]
      rw [w, Sum.elim_inr, if_neg (by omega), if_neg (by decide)] at ru'
      exact ⟨_, S7, .ref f, .ref f2, rfl, JJ, fin.1, fin.2.1, fin.2.2, Or.inl ⟨1, ru', by omega, rfl⟩⟩
    · rw [Sum.elim_inr, Option.bind_some, Sum.elim_inr]
      rw [w, Sum.elim_inl] at ru'
      exact ⟨_, S7, .ref f, .ref f2, rfl, JJ, fin.1, fin.2.1, fin.2.2, Or.inr ⟨e, o, nm', ru', o0, rfl, x1⟩⟩
end
