/-! the warden: build -/
theorem c_points {s : CS} {m : Nat} {fs : List Value} {mc : Int32} (hw : wfS s) (hs : 179 ≤ s.2.1) (hm : m ≤ 50) (h151 : s.1 151 = some (true, false, 47, .ref 152 :: fs)) (h152 : s.1 152 = some (true, false, 1013, .int mc :: rowC (fun j => .ref (s.2.1 + j)) 0)) : ∃ S, wh (S := CS × Int32) (X := CS) (fun p5 => (if p5.2 < Int32.ofNat m then Option.bind (xN p5.1 [(47, 0)] 151) (fun a2 => Option.bind (some (nw p5.1 77 [.int 0, .int 0, .int 0])) (fun n3 => (if isK n3.2 [77] n3.1 = true then Option.bind (c_966 n3.1 n3.2) (fun x4 => (if isK n3.2 [13] a2 = true then Option.bind (alAdd n3.2 a2 (.ref n3.1)) (fun s5 => some (.inl (s5, p5.2 + 1))) else none)) else none))) else some (.inr p5.1))) (s, 0) = some S ∧ S.2.1 = s.2.1 + m ∧ wfS S ∧ (∀ q, q < s.2.1 → q ≠ 152 → S.1 q = s.1 q) ∧ (∃ mc : Int32, S.1 152 = some (true, false, 1013, .int mc :: rowC (fun j => .ref (s.2.1 + j)) m)) ∧ (∀ j, j < m → S.1 (s.2.1 + j) = some (true, false, 77, [.int 0, .int 0, .int 0])) ∧ S.2.2.1 = s.2.2.1 + 2 * m ∧ S.2.2.2 = s.2.2.2 + 19 * m := by
  refine wh_cnt m (fun k a => a.2 = Int32.ofNat k ∧ a.1.2.1 = s.2.1 + k ∧ wfS a.1 ∧ (∀ q, q < s.2.1 → q ≠ 152 → a.1.1 q = s.1 q) ∧ (∃ mc : Int32, a.1.1 152 = some (true, false, 1013, .int mc :: rowC (fun j => .ref (s.2.1 + j)) k)) ∧ (∀ j, j < k → a.1.1 (s.2.1 + j) = some (true, false, 77, [.int 0, .int 0, .int 0])) ∧ a.1.2.2.1 = s.2.2.1 + 2 * k ∧ a.1.2.2.2 = s.2.2.2 + 19 * k) ?_ ?_ ⟨rfl, rfl, hw, fun _ _ _ => rfl, ⟨mc, h152⟩, fun _ h => absurd h (by omega), rfl, rfl⟩
  · rintro k ⟨a, n⟩ hk ⟨h0, h1, h2, h3, ⟨mk, h4⟩, h5, h6, h7⟩
    dsimp only at h0 h1 h2 h3 h4 h5 h6 h7
    subst h0
    obtain ⟨S, eS, n1, n2, n3, n4, n5, n6⟩ := nw_o (s := a) 77 [.int 0, .int 0, .int 0] h2
    have z152 : S.1 152 = _ := (n2 152 (by omega)).trans h4
    have z151 : a.1 151 = _ := (h3 151 (by omega) (by omega)).trans h151
    have hl : [Value.int 0, .int 0, .int 0].length = 3 := rfl
    refine Or.inr ⟨(cput S 1013 152 1 16 (.int (mk + 1) :: rowC (fun j => if j = k then .ref a.2.1 else .ref (s.2.1 + j)) (k + 1)), Int32.ofNat (k + 1)), ?_, rfl, ?_, ?_, fun q hq hq2 => ?_, ⟨mk + 1, ?_⟩, fun j hj => ?_, ?_, ?_⟩
    · dsimp only
      rw [if_pos ((i_lt (by omega) (by omega)).mpr hk), xN_o (b := 152) z151 rfl rfl, Option.bind_some, eS, Option.bind_some, if_pos (isK_t n1 rfl), show c_966 a.2.1 S = some () from rfl, Option.bind_some, if_pos (isK_t z152 rfl), alAdd_r z152 (by omega) (elO_o n1), Option.bind_some, i_suc]
    · show S.2.1 = _
      omega
    · intro b hb
      have hb : S.2.1 ≤ b := hb
      rw [cput_ne (by omega)]; exact n4 b hb
    · rw [cput_ne hq2, n2 q (by omega)]; exact h3 q hq hq2
    · rw [cput_eq]
      refine congrArg (fun l => some (true, false, 1013, Value.int (mk + 1) :: l)) (rowC_congr (fun j hj => ?_))
      by_cases y : j = k
      · rw [if_pos y, h1, y]
      · rw [if_neg y]
    · rw [cput_ne (by omega)]
      by_cases y : j = k
      · rw [y, ← h1]; exact n1
      · rw [n2 _ (by omega)]; exact h5 j (by omega)
    · show S.2.2.1 + 1 = _
      omega
    · show S.2.2.2 + 16 = _
      omega
  · rintro ⟨a, n⟩ ⟨h0, h⟩
    dsimp only at h0 h
    subst h0
    exact ⟨a, by dsimp only; rw [if_neg (by rw [i_lt (by omega) (by omega)]; omega)], h⟩
theorem wa_build {own : Nat → Nat} {s : CS} {T : TS} {m : Nat} (hw : wfS s) (hs : 179 ≤ s.2.1) (r : R7 (rs s.1 own 7) (ptI (ptI T 1 0) 300 0)) (h1 : T.1 1 = 1) (h3 : T.1 300 = Int32.ofNat m) (hm : m ≤ 50) (hm0 : 0 < m) : ∃ s' own', c_484 151 (Int32.ofNat m) s = some s' ∧ Frm (fun X => X = 7) own own' s s' ∧ R7 (rs s'.1 own' 7) T ∧ s'.2.2.1 ≤ s.2.2.1 + 100 ∧ s'.2.2.2 ≤ s.2.2.2 + 950 := by
  obtain ⟨np, sz, mx, zm, am, rl, nr, na, ec, P, Z, ZP, A, RW, od, ⟨r01, r02, r03, r04⟩, ⟨⟨mc, r1⟩, r12, r13, r14, r15, r16, r17⟩, ⟨r21, r22, r23, r24, r25⟩, ⟨w1, w2, ⟨mz, ez, w3, w4, w5⟩, ⟨ma, ea, w6, w7, w8⟩, ⟨mr, w9⟩, w10, w11, w12, w13, ⟨mo, w14⟩, w15, w16, w17⟩, ⟨w41, w42⟩, ⟨f1, e1, g1⟩, ⟨f2, e2, g2⟩, ⟨f3, e3, e3v, g3⟩, e4, e5⟩ := r
  have np0 : np = 0 := r14.mp rfl
  subst np0
  have hz := (r04 rfl).2
  have hec := (r04 rfl).1
  have nr0 : nr = 0 := by
    rcases Nat.eq_zero_or_pos nr with z | z
    · exact z
    · obtain ⟨_, _, ⟨z1, z2⟩, _⟩ := w13 0 z
      have := (hz _ (bel_n z1 (by omega)).2).1
      rw [this] at z2; cases z2
  have na0 : na = 0 := by
    rcases Nat.eq_zero_or_pos na with z | z
    · exact z
    · obtain ⟨z1, z2, _⟩ := w16 0 z
      have := (hz _ z1).2
      rw [this] at z2; cases z2
  subst nr0 na0
  have o151 := rs_in r01
  have o152 := rs_in r1
  have l151 := wf_lt hw o151.1
  have l152 := wf_lt hw o152.1
  have ex : xP s [(47, 9)] 151 (.int 1) = some (cup s 151 (true, false, 47, [.ref 152, .ref 153, .ref mx, .ref 158, .ref 159, .ref 160, .int (Int32.ofNat ec), .ref 161, .int (T.1 301), .int 1, .ref 115, .ref 120])) := by
    rw [xP_c o151.1 rfl (by simp) rfl]; rfl
  have hc152 : (cup s 151 (true, false, 47, [.ref 152, .ref 153, .ref mx, .ref 158, .ref 159, .ref 160, .int (Int32.ofNat ec), .ref 161, .int (T.1 301), .int 1, .ref 115, .ref 120])).1 152 = some (true, false, 1013, .int mc :: rowC (fun j => .ref ((cup s 151 (true, false, 47, [.ref 152, .ref 153, .ref mx, .ref 158, .ref 159, .ref 160, .int (Int32.ofNat ec), .ref 161, .int (T.1 301), .int 1, .ref 115, .ref 120])).2.1 + j)) 0) := by
    rw [cup_ne (by omega), o152.1]; rfl
  obtain ⟨S, k1, k2, k3, k4, ⟨mk, k5⟩, k6, k7, k8⟩ := c_points (m := m) (wf_cup hw l151) hs hm (cup_eq ..) hc152
  have hq : ∀ q, q < s.2.1 → q ≠ 151 → q ≠ 152 → S.1 q = s.1 q := fun q h1 h2 h3 => by rw [k4 q h1 h3, cup_ne h2]
  have h151 : S.1 151 = some (true, false, 47, [.ref 152, .ref 153, .ref mx, .ref 158, .ref 159, .ref 160, .int (Int32.ofNat ec), .ref 161, .int (T.1 301), .int (T.1 1), .ref 115, .ref 120]) := by rw [k4 151 l151 (by omega), cup_eq, h1]
  have k2' : S.2.1 = s.2.1 + m := k2
  obtain ⟨own', hO, hO2⟩ : ∃ own' : Nat → Nat, (∀ q, q < s.2.1 → own' q = own q) ∧ ∀ q, s.2.1 ≤ q → own' q = 7 := ⟨fun q => if s.2.1 ≤ q then 7 else own q, fun q h => if_neg (by omega), fun q h => if_pos h⟩
  have hF : ∀ q c, rs s.1 own 7 q = some c → q ≠ 151 → q ≠ 152 → rs S.1 own' 7 q = some c := by
    intro q c h z1 z2
    have o := rs_in h
    have l := wf_lt hw o.1
    refine rs_some.mpr ⟨?_, by rw [hq q l z1 z2]; exact o.1⟩
    rw [hO q l]; exact o.2
  refine ⟨S, own', ?_, ⟨by omega, fun a ha => hO a ha, fun a ha hx => hq a ha (fun z => hx (by rw [z]; exact o151.2)) (fun z => hx (by rw [z]; exact o152.2)), fun a h1 h2 => hO2 a h1, k3⟩, ⟨m, sz, mx, zm, am, rl, 0, 0, ec, fun j => s.2.1 + j, Z, ZP, A, RW, od, ⟨rs_some.mpr ⟨by rw [hO 151 l151]; exact o151.2, h151⟩, r02, Or.inr h1, fun z => absurd (h1.symm.trans z) (by decide)⟩, ⟨⟨mk, rs_some.mpr ⟨by rw [hO 152 l152]; exact o152.2, k5⟩⟩, h3, hm, ⟨fun z => absurd (h1.symm.trans z) (by decide), fun z => absurd z (by omega)⟩, fun k hk => ⟨rs_some.mpr ⟨hO2 _ (Nat.le_add_right _ _), ?_⟩, ?_, by show 179 ≤ s.2.1 + k; omega⟩, fun j k _ _ h => Nat.add_left_cancel h, fun k z1 z2 => r17 k (by omega) z2⟩, ⟨hF _ _ r21 (by omega) (by omega), r22, r23, r24, fun z => absurd (h1.symm.trans z) (by decide)⟩, ⟨hF _ _ w1 (by omega) (by omega), w2, ⟨mz, ez, hF _ _ w3 (by omega) (by omega), w4, w5⟩, ⟨ma, ea, hF _ _ w6 (by omega) (by omega), w7, w8⟩, ⟨mr, hF _ _ w9 (by omega) (by omega)⟩, w10, w11, fun z hz' => ⟨(w12 z hz').1, (w12 z hz').2.1, fun y => ?_⟩, fun _ h => absurd h (by omega), ⟨mo, hF _ _ w14 (by omega) (by omega)⟩, w15, fun _ h => absurd h (by omega), w17⟩, ⟨fun a ha y => ?_, w42⟩, ⟨f1, hF _ _ e1 (by omega) (by omega), g1⟩, ⟨f2, hF _ _ e2 (by omega) (by omega), g2⟩, ⟨f3, hF _ _ e3 (by omega) (by omega), e3v, g3⟩, e4, e5⟩, ?_, ?_⟩
  · unfold c_484
    rw [ex, Option.bind_some, k1]; rfl
  · have z : S.1 (s.2.1 + k) = _ := k6 k hk
    rw [z]
    obtain ⟨z1, z2, z3⟩ := r17 k (by omega) (by omega)
    unfold ptC
    rw [show T.2.2.1 99 k = 0 from z1, show T.2.2.1 100 k = 0 from z2, show T.2.2.1 101 k = 0 from z3]
  · exact Or.inl (r17 k (by omega) (by omega)).2.1
  · have := (hz z hz').1
    rw [show T.2.2.1 105 z = 0 from this] at y; cases y
  · have := (hz a ha).2
    rw [show T.2.2.1 109 a = 0 from this] at y; cases y
  · have : S.2.2.1 = s.2.2.1 + 2 * m := k7
    omega
  · have : S.2.2.2 = s.2.2.2 + 19 * m := k8
    omega
