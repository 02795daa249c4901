/-! the bus: a telegram is complete -/
/-- whether it is right -/
def rgt (g : Nat → Int32) (nb : Nat) : Int32 := if xr g nb = 0 ∧ nb = bN (g 5) % 128 + 8 then 1 else 0
theorem rgt01 (g : Nat → Int32) (nb : Nat) : v01 (rgt g nb) := by unfold rgt; split <;> simp [v01]
theorem c_right {S : CS} {e1 e2 e3 e4 e5 e6 e7 mc : Int32} {f : Nat → Value} {g : Nat → Int32} {nb : Nat} (h2 : S.1 122 = some (eC e1 e2 e3 e4 e5 e6 e7)) (h3 : S.1 123 = some (true, false, 1013, .int mc :: rowC f nb)) (hf : ∀ i, i < nb → f i = .int (g i)) (hb : byt (g 5)) (h8 : 8 ≤ nb) (hn : nb ≤ 14000) : c_1160 122 S = some (rgt g nb) := by
  obtain ⟨c0, c1, c2, c3, c4, c5⟩ := eC_f h2
  have k3 := K13 h3
  have sz := alSize_r h3
  obtain ⟨b, hb1, hb2⟩ := hb
  have bN5 : bN (g 5) = b := by rw [hb2]; exact i_bN (by omega)
  unfold c_1160
  simp only [c0, Option.bind_some, k3, if_true, sz]
  obtain ⟨v, e, ev⟩ := wh_cnt (f := fun p4 : Int32 × Int32 => (if p4.2 < Int32.ofNat nb then Option.bind (α := Value) (alGet S 123 p4.2) (fun e4 => Option.bind (α := Int32) (toB e4) (fun b5 => some (Sum.inl (β := Int32) (p4.1 ^^^ b5, p4.2 + 1)))) else some (.inr p4.1))) (Q := fun v => v = xr g nb) nb (fun k a => a = (xr g k, Int32.ofNat k)) (by
    rintro k _ hk rfl
    refine Or.inr ⟨_, ?_, rfl⟩
    simp only [if_pos ((i_lt (show k < 2147483648 by omega) (show nb < 2147483648 by omega)).mpr hk), alGet_r h3 hk (show nb < 2147483648 by omega), hf k hk, Option.bind_some, toB, i_suc]
    rfl) (by
    rintro _ rfl
    exact ⟨_, by simp only [i_lt (show nb < 2147483648 by omega) (show nb < 2147483648 by omega), Nat.lt_irrefl, if_false], rfl⟩) (a := (255, 0)) rfl
  have a5 : alGet S 123 5 = some (.int (g 5)) := by rw [← hf 5 (by omega)]; exact alGet_r (k := 5) h3 (by omega) (by omega)
  rw [e, Option.bind_some, ev]
  unfold rgt
  rw [bN5]
  by_cases q1 : xr g nb = 0
  · rw [if_pos q1]
    simp only [a5, Option.bind_some, toB]
    have l : (Int32.ofNat nb = (g 5 &&& 127) + 8) = (nb = b % 128 + 8) := by
      rw [hb2, i_and127, i_addL]
      exact propext (i_inj (by omega) (by show b % 128 + 8 < _; omega))
    by_cases q2 : nb = b % 128 + 8
    · rw [if_pos (by rw [l]; exact q2), if_pos ⟨q1, q2⟩]
    · rw [if_neg (by rw [l]; exact q2), if_neg (fun z => q2 z.2)]
  · rw [if_neg q1, if_neg (fun z => q1 z.1)]
theorem chg_cup (S : CS) (a n m : Nat) (c : lCell) : cup (chg S n m) a c = chg (cup S a c) n m := rfl
theorem chg_chg (S : CS) (n m n' m' : Nat) : chg (chg S n m) n' m' = chg S (n + n') (m + m') := by
  unfold chg
  simp only [Nat.add_assoc]
/-- its bytes are copied -/
theorem c_copy {S : CS} {r en ds an nw d bu e1 e2 e3 e4 e5 e6 e7 mc m5 : Int32} {f : Nat → Value} {g : Nat → Int32} {nb : Nat} (h0 : S.1 120 = some (bD r en ds an nw d bu)) (h2 : S.1 122 = some (eC e1 e2 e3 e4 e5 e6 e7)) (h3 : S.1 123 = some (true, false, 1013, .int mc :: rowC f nb)) (hf : ∀ i, i < nb → f i = .int (g i)) (hn : nb ≤ 14000) :
    ∃ m', wh (S := CS × Int32) (X := CS) (fun p9 => Option.bind (α := Nat) (xN p9.1 [(122, 1)] 120) (fun a30 => Option.bind (α := Nat) (xN p9.1 [(130, 0)] a30) (fun a31 => (if isK p9.1 [13] a31 = true then Option.bind (α := Int32) (alSize p9.1 a31) (fun x32 => (if p9.2 < x32 then Option.bind (α := Nat) (xN p9.1 [(122, 3)] 120) (fun a33 => Option.bind (α := Nat) (xN p9.1 [(122, 1)] 120) (fun a34 => Option.bind (α := Nat) (xN p9.1 [(130, 0)] a34) (fun a35 => (if isK p9.1 [13] a35 = true then Option.bind (α := Value) (alGet p9.1 a35 p9.2) (fun e36 => Option.bind (α := Int32) (toB e36) (fun b37 => (if isK p9.1 [13] a33 = true then Option.bind (α := CS) (alAdd p9.1 a33 (.int b37)) (fun s38 => some (.inl (s38, p9.2 + 1))) else none))) else none)))) else some (.inr p9.1))) else none)))) (cput S 1013 125 0 0 [.int m5], 0) = some (chg (cup S 125 (true, false, 1013, .int m' :: rowC (fun i => .int (g i)) nb)) nb (16 * nb)) := by
  have key := wh_cnt (f := fun p9 : CS × Int32 => Option.bind (α := Nat) (xN p9.1 [(122, 1)] 120) (fun a30 => Option.bind (α := Nat) (xN p9.1 [(130, 0)] a30) (fun a31 => (if isK p9.1 [13] a31 = true then Option.bind (α := Int32) (alSize p9.1 a31) (fun x32 => (if p9.2 < x32 then Option.bind (α := Nat) (xN p9.1 [(122, 3)] 120) (fun a33 => Option.bind (α := Nat) (xN p9.1 [(122, 1)] 120) (fun a34 => Option.bind (α := Nat) (xN p9.1 [(130, 0)] a34) (fun a35 => (if isK p9.1 [13] a35 = true then Option.bind (α := Value) (alGet p9.1 a35 p9.2) (fun e36 => Option.bind (α := Int32) (toB e36) (fun b37 => (if isK p9.1 [13] a33 = true then Option.bind (α := CS) (alAdd p9.1 a33 (.int b37)) (fun s38 => some (Sum.inl (β := CS) (s38, p9.2 + 1))) else none))) else none)))) else some (.inr p9.1))) else none)))) (Q := fun v => ∃ m', v = chg (cup S 125 (true, false, 1013, .int m' :: rowC (fun i => .int (g i)) nb)) nb (16 * nb)) nb (fun k a => ∃ m', a = (chg (cup S 125 (true, false, 1013, .int m' :: rowC (fun i => .int (g i)) k)) k (16 * k), Int32.ofNat k)) ?_ ?_ (a := (cput S 1013 125 0 0 [.int m5], 0)) ⟨m5, rfl⟩
  · obtain ⟨v, e, m', ev⟩ := key
    exact ⟨m', by rw [e, ev]⟩
  · rintro k _ hk ⟨m', rfl⟩
    generalize hW : chg (cup S 125 (true, false, 1013, .int m' :: rowC (fun i => .int (g i)) k)) k (16 * k) = W
    have w : ∀ q, q ≠ 125 → W.1 q = S.1 q := fun q hq => by rw [← hW]; show lUpd S.1 125 _ q = _; rw [lUpd_at, if_neg hq]
    have w0 : W.1 120 = some (bD r en ds an nw d bu) := by rw [w _ (by omega), h0]
    have w2 : W.1 122 = some (eC e1 e2 e3 e4 e5 e6 e7) := by rw [w _ (by omega), h2]
    have w3 : W.1 123 = some (true, false, 1013, .int mc :: rowC f nb) := by rw [w _ (by omega), h3]
    have w5 : W.1 125 = some (true, false, 1013, .int m' :: rowC (fun i => .int (g i)) k) := by rw [← hW]; show lUpd S.1 125 _ 125 = _; rw [lUpd_at, if_pos rfl]
    obtain ⟨b1, b3, _⟩ := bD_f w0
    obtain ⟨c0, _⟩ := eC_f w2
    have k3 := K13 w3
    have k5 := K13 w5
    have sz := alSize_r w3
    have gt := alGet_r (k := k) w3 hk (show nb < 2147483648 by omega)
    rw [hf k hk] at gt
    have ad := alAdd_r (v := .int (g k)) w5 (by omega) elO_i
    refine Or.inr ⟨_, ?_, m' + 1, rfl⟩
    simp only [b1, Option.bind_some, c0, k3, if_true, sz, if_pos ((i_lt (show k < 2147483648 by omega) (show nb < 2147483648 by omega)).mpr hk)]
    simp only [b3, c0, k3, gt, toB, k5, ad, Option.bind_some, if_true, i_suc]
    refine congrArg (fun x => some (Sum.inl (x, Int32.ofNat (k + 1)))) ?_
    have r1 : rowC (fun j => if j = k then Value.int (g k) else Value.int (g j)) (k + 1) = rowC (fun i => .int (g i)) (k + 1) := rowC_congr (fun j _ => by
      by_cases e : j = k
      · rw [if_pos e, e]
      · rw [if_neg e])
    unfold cput
    rw [r1, ← hW]
    show chg (cup (chg (cup S 125 _) k (16 * k)) 125 _) 1 16 = _
    rw [chg_cup, cup_cup, chg_chg, show 16 * k + 16 = 16 * (k + 1) by omega]
  · rintro _ ⟨m', rfl⟩
    refine ⟨chg (cup S 125 (true, false, 1013, .int m' :: rowC (fun i => .int (g i)) nb)) nb (16 * nb), ?_, m', rfl⟩
    generalize hW : chg (cup S 125 (true, false, 1013, .int m' :: rowC (fun i => .int (g i)) nb)) nb (16 * nb) = W
    have w : ∀ q, q ≠ 125 → W.1 q = S.1 q := fun q hq => by rw [← hW]; show lUpd S.1 125 _ q = _; rw [lUpd_at, if_neg hq]
    have w0 : W.1 120 = some (bD r en ds an nw d bu) := by rw [w _ (by omega), h0]
    have w2 : W.1 122 = some (eC e1 e2 e3 e4 e5 e6 e7) := by rw [w _ (by omega), h2]
    have w3 : W.1 123 = some (true, false, 1013, .int mc :: rowC f nb) := by rw [w _ (by omega), h3]
    obtain ⟨b1, b3, _⟩ := bD_f w0
    obtain ⟨c0, _⟩ := eC_f w2
    have k3 := K13 w3
    have sz := alSize_r w3
    simp only [b1, Option.bind_some, c0, k3, if_true, sz, i_lt (show nb < 2147483648 by omega) (show nb < 2147483648 by omega), Nat.lt_irrefl, if_false]
theorem c_run2 {S S29 V V1 V2 V3 V4 V5 V6 : CS} {rv e3 h0 h1 g3 g4 g5 g6 aim : Int32} (b1 : xN S [(122, 1)] 120 = some 122) (c5 : isK S [130] 122 = true) (tg : c_1159 122 S = some 1) (b3 : xN S [(122, 3)] 120 = some 125) (k5 : isK S [13] 125 = true) (cl : alClear S 125 = some S29)
    (cp : wh (S := CS × Int32) (X := CS) (fun p9 => Option.bind (α := Nat) (xN p9.1 [(122, 1)] 120) (fun a30 => Option.bind (α := Nat) (xN p9.1 [(130, 0)] a30) (fun a31 => (if isK p9.1 [13] a31 = true then Option.bind (α := Int32) (alSize p9.1 a31) (fun x32 => (if p9.2 < x32 then Option.bind (α := Nat) (xN p9.1 [(122, 3)] 120) (fun a33 => Option.bind (α := Nat) (xN p9.1 [(122, 1)] 120) (fun a34 => Option.bind (α := Nat) (xN p9.1 [(130, 0)] a34) (fun a35 => (if isK p9.1 [13] a35 = true then Option.bind (α := Value) (alGet p9.1 a35 p9.2) (fun e36 => Option.bind (α := Int32) (toB e36) (fun b37 => (if isK p9.1 [13] a33 = true then Option.bind (α := CS) (alAdd p9.1 a33 (.int b37)) (fun s38 => some (.inl (s38, p9.2 + 1))) else none))) else none)))) else some (.inr p9.1))) else none)))) (S29, 0) = some V)
    (x1 : xN V [(122, 1)] 120 = some 122) (c5' : isK V [130] 122 = true) (rr : c_1160 122 V = some rv) (r01 : fits .boolean (.int rv) = true) (y5 : xP V [(122, 5)] 120 (.int rv) = some V1) (z1 : xN V1 [(122, 1)] 120 = some 122) (z3 : xI V1 [(130, 3)] 122 = some e3) (y6 : xP V1 [(122, 6)] 120 (.int e3) = some V2) (y8 : xP V2 [(122, 8)] 120 (.int (-1)) = some V3) (y7 : xP V3 [(122, 7)] 120 (.int 0) = some V4)
    (q4 : xR V4 [(122, 4)] 120 = some (some 126)) (i0 : aI V4 [0, 12] 126 0 = some h0) (p0 : aPut V4 0 126 0 (.int (h0 + 1)) = some V5) (q4' : xR V5 [(122, 4)] 120 = some (some 126)) (i1 : aI V5 [0, 12] 126 1 = some h1) (q5' : xI V5 [(122, 5)] 120 = some rv) (rvv : (if rv = 0 then some (0 : Int32) else some 1) = some rv) (p1 : aPut V5 0 126 1 (.int (h1 + rv)) = some V6)
    (n3 : xN V6 [(122, 3)] 120 = some 125) (kk5 : isK V6 [13] 125 = true) (l3 : alGet V6 125 3 = some (.int g3)) (l4 : alGet V6 125 4 = some (.int g4)) (n5r : xI V6 [(122, 5)] 120 = some rv) (l5 : alGet V6 125 5 = some (.int g5)) (l6 : alGet V6 125 6 = some (.int g6)) (aim1 : (g3 <<< ((8 : Int32) &&& 31)) ||| g4 = aim) (n11 : xN V6 [(122, 11)] 120 = some 115) (pro : xN V6 [(100, 4)] 115 = some 118) :
    c_1146 120 S = (if rv = 0 then some V6 else (if (127 : Int32) < g5 then (if aim < 4 then some V6 else (if aim < 10 then Option.bind (α := CS) (aPut V6 0 118 aim (.int g6)) (fun s => some s) else some V6)) else some V6)) := by
  unfold c_1146
  rw [b1, Option.bind_some, if_pos c5, tg, Option.bind_some, if_neg (by decide), b3, Option.bind_some, if_pos k5, cl, Option.bind_some, cp, Option.bind_some, x1, Option.bind_some, if_pos c5', rr, Option.bind_some, if_pos r01, y5, Option.bind_some, z1, Option.bind_some, z3, Option.bind_some, y6, Option.bind_some, y8, Option.bind_some, y7, Option.bind_some, q4, Option.bind_some, Option.bind_some, i0, Option.bind_some, p0, Option.bind_some, q4', Option.bind_some, Option.bind_some, i1, Option.bind_some, q5', Option.bind_some, rvv, Option.bind_some, p1, Option.bind_some, n3, Option.bind_some, if_pos kk5, l3, Option.bind_some]
  simp only [toB, Option.bind_some, if_pos kk5, l4, n5r, l5, l6, aim1, n11, pro]
/-- points that a telegram sets -/
def ptU (p : Nat → Int32) (rv : Int32) (g : Nat → Int32) : Nat → Int32 := fun i => if ¬ rv = 0 ∧ 127 < bN (g 5) ∧ 4 ≤ 256 * bN (g 3) + bN (g 4) ∧ 256 * bN (g 3) + bN (g 4) < 10 ∧ i = 256 * bN (g 3) + bN (g 4) then g 6 else p i
theorem c_cmp2 {S : CS} {r en ds an nw d bu e2 e3 e4 e5 e6 e7 mc mc5 : Int32} {f f5 : Nat → Value} {g hd p : Nat → Int32} {nb n5 : Nat} (h0 : S.1 120 = some (bD r en ds an nw d bu)) (h2 : S.1 122 = some (eC 0 e2 e3 e4 e5 e6 e7)) (h3 : S.1 123 = some (true, false, 1013, .int mc :: rowC f nb)) (hf : ∀ i, i < nb → f i = .int (g i)) (hg : ∀ i, i < nb → byt (g i)) (h5 : S.1 125 = some (true, false, 1013, .int mc5 :: rowC f5 n5)) (h6 : S.1 126 = some (true, true, 0, rowC (fun i => .int (hd i)) 5)) (hpr : xN S [(100, 4)] 115 = some 118) (hp : S.1 118 = some (true, true, 0, rowC (fun i => .int (p i)) 10)) (h8 : 8 ≤ nb) (hn : nb ≤ 14000) :
    ∃ m' : Int32, ∃ S', c_1146 120 S = some S' ∧ S'.2 = (chg S nb (16 * nb)).2 ∧ (∀ q, q ≠ 125 → q ≠ 126 → q ≠ 120 → q ≠ 118 → S'.1 q = S.1 q) ∧ S'.1 125 = some (true, false, 1013, .int m' :: rowC (fun i => .int (g i)) nb) ∧ S'.1 126 = some (true, true, 0, rowC (fun i => .int (if i = 1 then hd 1 + rgt g nb else if i = 0 then hd 0 + 1 else hd i)) 5) ∧ S'.1 120 = some (bD (rgt g nb) e3 0 (-1) nw d bu) ∧ S'.1 118 = some (true, true, 0, rowC (fun i => .int (ptU p (rgt g nb) g i)) 10) := by
  obtain ⟨b1, b3, b4, b4', b5, b6, b7, b8, b9, b10, b11, b12⟩ := bD_f h0
  obtain ⟨c0, c1, c2, c3, c4, c5⟩ := eC_f h2
  have k3 := K13 h3
  have k5 := K13 h5
  have tg : c_1159 122 S = some 1 := by
    unfold c_1159
    simp only [c0, Option.bind_some, k3, if_true, alSize_r h3, c1]
    rw [if_neg (fun z => absurd ((i_ltL (by omega) (by omega)).mp z) (by show ¬ nb < 8; omega))]
  obtain ⟨m', cp⟩ := c_copy (m5 := mc5 + 1) h0 h2 h3 hf hn
  have cl := alClear_r h5
  generalize hV : chg (cup S 125 (true, false, 1013, .int m' :: rowC (fun i => .int (g i)) nb)) nb (16 * nb) = V at cp
  have v : ∀ q, q ≠ 125 → V.1 q = S.1 q := fun q hq => by rw [← hV]; show lUpd S.1 125 _ q = _; rw [lUpd_at, if_neg hq]
  have v2s : V.2 = (chg S nb (16 * nb)).2 := by rw [← hV]; rfl
  have v0 : V.1 120 = some (bD r en ds an nw d bu) := by rw [v _ (by omega), h0]
  have v2 : V.1 122 = some (eC 0 e2 e3 e4 e5 e6 e7) := by rw [v _ (by omega), h2]
  have v3 : V.1 123 = some (true, false, 1013, .int mc :: rowC f nb) := by rw [v _ (by omega), h3]
  have v5 : V.1 125 = some (true, false, 1013, .int m' :: rowC (fun i => .int (g i)) nb) := by rw [← hV]; show lUpd S.1 125 _ 125 = _; rw [lUpd_at, if_pos rfl]
  have rr := c_right v2 v3 hf (hg 5 (by omega)) h8 hn
  have r01 := rgt01 g nb
  generalize hrv : rgt g nb = rv at rr r01 ⊢
  -- the bus's own cell
  obtain ⟨x1, x3, _⟩ := bD_f v0
  have y5 := (bD_p (v := rv) v0).1
  generalize hV1 : cup V 120 (bD rv en ds an nw d bu) = V1 at y5
  have w0 : V1.1 120 = some (bD rv en ds an nw d bu) := by rw [← hV1, cup_at, if_pos rfl]
  have w2 : V1.1 122 = some (eC 0 e2 e3 e4 e5 e6 e7) := by rw [← hV1, cup_at, if_neg (by omega), v2]
  have z1 := (bD_f w0).1
  have z3 := (eC_f w2).2.2.2.1
  have y6 : xP V1 [(122, 6)] 120 (.int e3) = some (cup V 120 (bD rv e3 ds an nw d bu)) := by rw [(bD_p (v := e3) w0).2.1, ← hV1, cup_cup]
  generalize hV2 : cup V 120 (bD rv e3 ds an nw d bu) = V2 at y6
  have u0 : V2.1 120 = some (bD rv e3 ds an nw d bu) := by rw [← hV2, cup_at, if_pos rfl]
  have y8 : xP V2 [(122, 8)] 120 (.int (-1)) = some (cup V 120 (bD rv e3 ds (-1) nw d bu)) := by rw [(bD_p (v := -1) u0).2.2.2.1, ← hV2, cup_cup]
  generalize hV3 : cup V 120 (bD rv e3 ds (-1) nw d bu) = V3 at y8
  have t0 : V3.1 120 = some (bD rv e3 ds (-1) nw d bu) := by rw [← hV3, cup_at, if_pos rfl]
  have y7 : xP V3 [(122, 7)] 120 (.int 0) = some (cup V 120 (bD rv e3 0 (-1) nw d bu)) := by rw [(bD_p (v := 0) t0).2.2.1, ← hV3, cup_cup]
  generalize hV4 : cup V 120 (bD rv e3 0 (-1) nw d bu) = V4 at y7
  have s0 : V4.1 120 = some (bD rv e3 0 (-1) nw d bu) := by rw [← hV4, cup_at, if_pos rfl]
  have s6 : V4.1 126 = some (true, true, 0, rowC (fun i => .int (hd i)) 5) := by rw [← hV4, cup_at, if_neg (by omega), v _ (by omega), h6]
  have q4 := (bD_f s0).2.2.2.1
  have i0 : aI V4 [0, 12] 126 0 = some (hd 0) := aI_r (k := 0) s6 (by omega) (by decide) (by omega) (by omega) rfl
  have p0 : aPut V4 0 126 0 (.int (hd 0 + 1)) = some (cup V4 126 (true, true, 0, rowC (fun i => if i = 0 then .int (hd 0 + 1) else .int (hd i)) 5)) := aPut_r (k := 0) s6 (by omega) (by omega)
  generalize hV5 : cup V4 126 (true, true, 0, rowC (fun i => if i = 0 then .int (hd 0 + 1) else .int (hd i)) 5) = V5 at p0
  have o0 : V5.1 120 = some (bD rv e3 0 (-1) nw d bu) := by rw [← hV5, cup_at, if_neg (by omega), s0]
  have o6 : V5.1 126 = some (true, true, 0, rowC (fun i => if i = 0 then .int (hd 0 + 1) else .int (hd i)) 5) := by rw [← hV5, cup_at, if_pos rfl]
  have q4' := (bD_f o0).2.2.2.1
  have q5' := (bD_f o0).2.2.2.2.1
  have i1 : aI V5 [0, 12] 126 1 = some (hd 1) := aI_r (k := 1) o6 (by omega) (by decide) (by omega) (by omega) rfl
  have rvv : (if rv = 0 then some (0 : Int32) else some 1) = some rv := by rcases r01 with z | z <;> rw [z] <;> rfl
  have p1 : aPut V5 0 126 1 (.int (hd 1 + rv)) = some (cup V5 126 (true, true, 0, rowC (fun i => if i = 1 then .int (hd 1 + rv) else if i = 0 then .int (hd 0 + 1) else .int (hd i)) 5)) := aPut_r (k := 1) o6 (by omega) (by omega)
  generalize hV6 : cup V5 126 (true, true, 0, rowC (fun i => if i = 1 then .int (hd 1 + rv) else if i = 0 then .int (hd 0 + 1) else .int (hd i)) 5) = V6 at p1
  have n0 : V6.1 120 = some (bD rv e3 0 (-1) nw d bu) := by rw [← hV6, cup_at, if_neg (by omega), o0]
  have ne : ∀ q, q ≠ 126 → q ≠ 120 → V6.1 q = V.1 q := fun q a b => by rw [← hV6, cup_at, if_neg a, ← hV5, cup_at, if_neg a, ← hV4, cup_at, if_neg b]
  have n5' : V6.1 125 = some (true, false, 1013, .int m' :: rowC (fun i => .int (g i)) nb) := by rw [ne _ (by omega) (by omega), v5]
  have n6 : V6.1 126 = some (true, true, 0, rowC (fun i => .int (if i = 1 then hd 1 + rv else if i = 0 then hd 0 + 1 else hd i)) 5) := by
    rw [← hV6, cup_at, if_pos rfl]
    rw [rowC_congr (f := fun i => if i = 1 then Value.int (hd 1 + rv) else if i = 0 then .int (hd 0 + 1) else .int (hd i)) (g := fun i => .int (if i = 1 then hd 1 + rv else if i = 0 then hd 0 + 1 else hd i)) (fun i _ => by
      by_cases z : i = 1
      · simp [z]
      · by_cases z' : i = 0 <;> simp [z, z'])]
  have n2s : V6.2 = (chg S nb (16 * nb)).2 := by rw [← hV6, ← hV5, ← hV4]; exact v2s
  have n3 := (bD_f n0).2.1
  have n5r := (bD_f n0).2.2.2.2.1
  have n11 := (bD_f n0).2.2.2.2.2.2.2.2.2.2.1
  have kk5 := K13 n5'
  have nb2 : nb < 2147483648 := by omega
  have l3 : alGet V6 125 3 = some (.int (g 3)) := alGet_r (k := 3) n5' (by omega) nb2
  have l4 : alGet V6 125 4 = some (.int (g 4)) := alGet_r (k := 4) n5' (by omega) nb2
  have l5 : alGet V6 125 5 = some (.int (g 5)) := alGet_r (k := 5) n5' (by omega) nb2
  have l6 : alGet V6 125 6 = some (.int (g 6)) := alGet_r (k := 6) n5' (by omega) nb2
  obtain ⟨g3, hg3, e3'⟩ := hg 3 (by omega)
  obtain ⟨g4, hg4, e4'⟩ := hg 4 (by omega)
  obtain ⟨g5, hg5, e5'⟩ := hg 5 (by omega)
  have N3 : bN (g 3) = g3 := by rw [e3']; exact i_bN (by omega)
  have N4 : bN (g 4) = g4 := by rw [e4']; exact i_bN (by omega)
  have N5 : bN (g 5) = g5 := by rw [e5']; exact i_bN (by omega)
  have aim1 : (g 3 <<< ((8 : Int32) &&& 31)) ||| g 4 = Int32.ofNat (256 * g3 + g4) := by
    rw [e3', e4', show ((8 : Int32) &&& 31) = Int32.ofNat 8 from rfl, i_shl (by omega), i_or]
    have := Nat.shiftLeft_add_eq_or_of_lt (i := 8) (b := g4) (by omega) g3
    rw [Nat.shiftLeft_eq] at this
    rw [← this]
    congr 1
    omega
  have pro : xN V6 [(100, 4)] 115 = some 118 := by
    have : V6.1 115 = S.1 115 := by rw [ne _ (by omega) (by omega), v _ (by omega)]
    unfold xN xV at hpr ⊢
    rw [this]; exact hpr
  have n118 : V6.1 118 = some (true, true, 0, rowC (fun i => .int (p i)) 10) := by rw [ne _ (by omega) (by omega), v _ (by omega), hp]
  have start := c_run2 b1 c5 tg b3 k5 cl cp x1 (eC_f v2).2.2.2.2.2 rr (fit01 r01) y5 z1 z3 y6 y8 y7 q4 i0 p0 q4' i1 q5' rvv p1 n3 kk5 l3 l4 n5r l5 l6 aim1 n11 pro
  rw [start]
  refine ⟨m', ?_⟩
  have fin : ∀ P : Nat → Int32, (∀ i, i < 10 → P i = ptU p rv g i) → ∀ S', (S' = V6 ∨ S' = cup V6 118 (true, true, 0, rowC (fun i => .int (P i)) 10)) → S'.1 118 = some (true, true, 0, rowC (fun i => .int (P i)) 10) → S'.2 = (chg S nb (16 * nb)).2 ∧ (∀ q, q ≠ 125 → q ≠ 126 → q ≠ 120 → q ≠ 118 → S'.1 q = S.1 q) ∧ S'.1 125 = some (true, false, 1013, .int m' :: rowC (fun i => .int (g i)) nb) ∧ S'.1 126 = some (true, true, 0, rowC (fun i => .int (if i = 1 then hd 1 + rv else if i = 0 then hd 0 + 1 else hd i)) 5) ∧ S'.1 120 = some (bD rv e3 0 (-1) nw d bu) ∧ S'.1 118 = some (true, true, 0, rowC (fun i => .int (ptU p rv g i)) 10) := by
    intro P hP S' hS h118
    have s' : ∀ q, q ≠ 118 → S'.1 q = V6.1 q := fun q hq => by
      rcases hS with z | z
      · rw [z]
      · rw [z, cup_at, if_neg hq]
    refine ⟨by rcases hS with z | z <;> rw [z] <;> exact n2s, fun q a1 a2 a3 a4 => by rw [s' q a4, ne q a2 a3, v q a1], by rw [s' _ (by omega), n5'], by rw [s' _ (by omega), n6], by rw [s' _ (by omega), n0], ?_⟩
    rw [h118, rowC_congr (f := fun i => Value.int (P i)) (g := fun i => .int (ptU p rv g i)) (fun i hi => by rw [hP i hi])]
  have am4 : (Int32.ofNat (256 * g3 + g4) < 4) = (256 * g3 + g4 < 4) := propext (i_ltL (by omega) (by omega))
  have am10 : (Int32.ofNat (256 * g3 + g4) < 10) = (256 * g3 + g4 < 10) := propext (i_ltL (by omega) (by omega))
  have a127 : ((127 : Int32) < g 5) = (127 < g5) := by rw [e5']; exact propext (i_Llt (by omega) (by omega))
  by_cases all : ¬ rv = 0 ∧ 127 < g5 ∧ 4 ≤ 256 * g3 + g4 ∧ 256 * g3 + g4 < 10
  · obtain ⟨k1, k2, k3', k4'⟩ := all
    have ap := aPut_r (k := 256 * g3 + g4) (v := .int (g 6)) n118 k4' (by omega)
    refine ⟨_, ?_, fin (ptU p rv g) (fun _ _ => rfl) (cup V6 118 (true, true, 0, rowC (fun i => .int (ptU p rv g i)) 10)) (Or.inr rfl) (by rw [cup_at, if_pos rfl])⟩
    rw [if_neg k1, if_pos (by rw [a127]; exact k2), if_neg (by rw [am4]; omega), if_pos (by rw [am10]; exact k4'), ap, Option.bind_some]
    rw [rowC_congr (f := fun j => if j = 256 * g3 + g4 then Value.int (g 6) else Value.int (p j)) (g := fun i => .int (ptU p rv g i)) (fun i hi => by
      unfold ptU
      rw [N3, N4, N5]
      by_cases z : i = 256 * g3 + g4
      · rw [if_pos z, if_pos ⟨k1, k2, k3', k4', z⟩]
      · rw [if_neg z, if_neg (fun y => z y.2.2.2.2)])]
  · refine ⟨V6, ?_, fin p (fun i _ => ?_) V6 (Or.inl rfl) n118⟩
    · by_cases k1 : rv = 0
      · rw [if_pos k1]
      · rw [if_neg k1]
        by_cases k2 : 127 < g5
        · rw [if_pos (by rw [a127]; exact k2)]
          by_cases k3' : 256 * g3 + g4 < 4
          · rw [if_pos (by rw [am4]; exact k3')]
          · rw [if_neg (by rw [am4]; exact k3'), if_neg (by rw [am10]; exact fun z => all ⟨k1, k2, by omega, z⟩)]
        · rw [if_neg (by rw [a127]; exact k2)]
    · unfold ptU
      rw [N3, N4, N5, if_neg (fun z => all ⟨z.1, z.2.1, z.2.2.1, z.2.2.2.1⟩)]
