/-! building: all portals, the component -/
section
variable {s B U : CS} {t : TS} {L : PLn} {nl : Nat} {lab : Int → Int → Int} {LC LD : Nat → Nat} {GA : Nat → Nat} {gps : List (Nat × Nat × Nat)} {nsp : Int32} {k : Nat}
/-- a portal's cell as it is made -/
noncomputable def porX (t : TS) (L : PLn) (nl : Nat) (lab : Int → Int → Int) (GA : Nat → Nat) (nsp : Int32) (n0 k : Nat) (g : Nat × Nat × Nat) : lCell := (true, false, 80, [.int (Int32.ofNat k), .ref (GA k), .int (rmP nsp (gLL (gS L nl) lab (2 * g.2.2))), .int (rmP nsp (gLL (gS L nl) lab (2 * g.2.2 + 1))), .int (Int32.ofNat (pX L g.1) + (if pFl L g.1 = true then Int32.ofNat (max (dA t g.1 g.2.1) (kAn L nl g.2.2)) else 0)), .int (Int32.ofNat (pY L g.1) + (if pFl L g.1 = true then 0 else Int32.ofNat (max (dA t g.1 g.2.1) (kAn L nl g.2.2)))), .int (if pFl L g.1 = true then 1 else 0), .int 0, .int 0, .int 0, .int 2147483647, .ref (n0 + 3 * k + 1), .ref (n0 + 3 * k + 2)])
def GaS (B U : CS) (t : TS) (L : PLn) (nl : Nat) (lab : Int → Int → Int) (GA : Nat → Nat) (nsp : Int32) (gps : List (Nat × Nat × Nat)) (k : Nat) : Prop := wfS U ∧ U.2.1 = B.2.1 + 3 * k ∧ (∀ q, q < B.2.1 → q ≠ 110 → U.1 q = B.1 q) ∧ (∃ mc : Int32, U.1 110 = some (true, false, 1013, .int mc :: rowC (fun j => .ref (B.2.1 + 3 * j)) k)) ∧ (∀ j, j < k → U.1 (B.2.1 + 3 * j) = some (porX t L nl lab GA nsp B.2.1 j (gps.getD j (0, 0, 0))) ∧ U.1 (B.2.1 + 3 * j + 1) = some (true, false, 1004, []) ∧ U.1 (B.2.1 + 3 * j + 2) = some (true, false, 1003, [])) ∧ U.2.2.1 ≤ B.2.2.1 + 1 + 6 * k ∧ U.2.2.2 ≤ B.2.2.2 + 4 + 53 * k
theorem rm_i {F : Int} (h1 : -1 ≤ F) (h2 : F ≤ 400) : (if Int32.ofInt F = -1 then nsp else Int32.ofInt F) = rmP nsp F := by
  unfold rmP
  by_cases z : F = -1
  · rw [if_pos z, if_pos (by rw [z]; rfl)]
  · rw [if_neg z, if_neg (fun w => z ?_)]
    have w := congrArg Int32.toInt w
    rw [Int32.toInt_ofInt_of_le (by omega) (by omega)] at w
    exact w
theorem ga_pstep (hwB : wfS B) {nr : Nat} {st ln : Nat → Nat} {nm : Nat → Int32} (F : FT t L nl nr st ln lab nm) (h110 : 110 < B.2.1) (r : GaS B U t L nl lab GA nsp gps k) {f ff : List Value} {ml : Int32} (g1 : B.1 102 = some (true, false, 67, .ref 103 :: f)) (g3 : B.1 103 = some (true, false, 1013, .int ml :: rowC (fun l => .ref (LC l)) nl)) (hC : ∀ l, l < nl → B.1 (LC l) = some (lcC L LD l)) (g8 : B.1 108 = some (true, false, 89, .ref 101 :: .int nsp :: ff)) (hff : ff[1]? = some (.ref 110)) (hk : k < gps.length) (hg : gps.length ≤ 1400) (hl : (gps.getD k (0, 0, 0)).1 < nl) (hG : B.1 (GA k) = some (gapC t L nl lab (gps.getD k (0, 0, 0)))) (hGn : GA k ≠ 110) (hLn : ∀ l, l < nl → LC l ≠ 110) : ∃ U', Option.bind (toN U [79] (.ref (GA k))) (fun a14 => Option.bind (xN U [(89, 3)] 108) (fun a15 => Option.bind (some (nw U 80 [.int 0, .null, .int 0, .int 0, .int 0, .int 0, .int 0, .int 0, .int 0, .int 0, .int 0, .null, .null])) (fun n16 => Option.bind (xN n16.2 [(89, 3)] 108) (fun a17 => (if isK n16.2 [13] a17 = true then Option.bind (alSize n16.2 a17) (fun x18 => Option.bind (xI n16.2 [(89, 1)] 108) (fun x19 => (if isK n16.2 [80] n16.1 = true then Option.bind (c_989 n16.1 x18 a14 x19 102 n16.2) (fun x20 => (if isK x20 [13] a15 = true then Option.bind (alAdd x20 a15 (.ref n16.1)) (fun s21 => (some (.inl (s21, Int32.ofNat k + 1)) : Option (Sum (CS × Int32) CS))) else none)) else none))) else none))))) = some (.inl (U', Int32.ofNat (k + 1))) ∧ GaS B U' t L nl lab GA nsp gps (k + 1) := by
  obtain ⟨r1, r2, r3, ⟨mc, r4⟩, r5, r6, r7⟩ := r
  have n20 := F.1.1
  have gB : ∀ {q c}, B.1 q = some c → q ≠ 110 → U.1 q = some c := fun e h => by rw [r3 _ (wf_lt hwB e) h]; exact e
  have hCl := hC _ hl
  have g1U := gB g1 (by decide)
  have g3U := gB g3 (by decide)
  have g8U := gB g8 (by decide)
  have hCU := gB hCl (hLn _ hl)
  have hGU := gB hG hGn
  obtain ⟨S1, e1, u1⟩ := nw_o (s := U) 80 [.int 0, .null, .int 0, .int 0, .int 0, .int 0, .int 0, .int 0, .int 0, .int 0, .int 0, .null, .null] r1
  have kp : ∀ {q c}, U.1 q = some c → S1.1 q = some c := fun e => by rw [u1.2.1 _ (by have := wf_lt r1 e; omega)]; exact e
  rw [toN_o hGU rfl, Option.bind_some, xN_o (b := 110) g8U rfl hff, Option.bind_some, e1, Option.bind_some]
  dsimp only
  rw [xN_o (b := 110) (kp g8U) rfl hff, Option.bind_some, if_pos (isK_t (kp r4) rfl), alSize_r (kp r4), Option.bind_some, xI_o (x := nsp) (kp g8U) rfl rfl, Option.bind_some, if_pos (isK_t u1.1 rfl)]
  obtain ⟨S', e2, p⟩ := c_porI (LD := LD) (k := k) (nsp := nsp) u1.2.2.2.1 u1.1 (kp g1U) (kp g3U) hl n20 (kp hCU) (kp hGU)
  have l110 := wf_lt r1 r4
  obtain ⟨p1, p2, p3, p4, p5, p6, p7, p8⟩ := p
  have s110 : S'.1 110 = _ := (p3 110 (by rw [u1.2.2.1]; omega) (by omega)).trans (kp r4)
  rw [e2, Option.bind_some, if_pos (isK_t s110 rfl), alAdd_r s110 (by omega) (elO_o p2), Option.bind_some, i_suc]
  have l1 := LL_bd F (2 * (gps.getD k (0, 0, 0)).2.2)
  have l2 := LL_bd F (2 * (gps.getD k (0, 0, 0)).2.2 + 1)
  have n1 := u1.2.2.1
  refine ⟨_, rfl, ?_, ?_, fun q h1 h2 => ?_, ⟨mc + 1, ?_⟩, fun j hj => ?_, ?_, ?_⟩
  · intro q hq
    have hq : S'.2.1 ≤ q := hq
    rw [cput_ne (by omega)]
    exact p1 q hq
  · show S'.2.1 = _
    omega
  · rw [cput_ne h2, p3 q (by omega) (by omega), u1.2.1 q (by omega)]
    exact r3 q h1 h2
  · rw [cput_eq]
    refine congrArg (fun l => some (true, false, 1013, .int (mc + 1) :: l)) (rowC_congr (fun j hj => ?_))
    by_cases z : j = k
    · rw [if_pos z, z, r2]
    · rw [if_neg z]
  · by_cases z : j = k
    · rw [z]
      have a1 : B.2.1 + 3 * k = U.2.1 := r2.symm
      refine ⟨?_, ?_, ?_⟩
      · rw [cput_ne (by omega), a1, p2, rm_i l1.1 l1.2, rm_i l2.1 l2.2, n1, ← a1]
        rfl
      · rw [cput_ne (by omega), show B.2.1 + 3 * k + 1 = S1.2.1 by omega]
        exact p7 (by omega)
      · rw [cput_ne (by omega), show B.2.1 + 3 * k + 2 = S1.2.1 + 1 by omega]
        exact p8 (by omega)
    · obtain ⟨q1, q2, q3⟩ := r5 j (by omega)
      refine ⟨?_, ?_, ?_⟩
      · rw [cput_ne (by omega), p3 _ (by omega) (by omega), u1.2.1 _ (by omega)]; exact q1
      · rw [cput_ne (by omega), p3 _ (by omega) (by omega), u1.2.1 _ (by omega)]; exact q2
      · rw [cput_ne (by omega), p3 _ (by omega) (by omega), u1.2.1 _ (by omega)]; exact q3
  · show S'.2.2.1 + 1 ≤ _
    rw [p5, u1.2.2.2.2.1]; omega
  · show S'.2.2.2 + 16 ≤ _
    rw [p6, u1.2.2.2.2.2]
    show U.2.2.2 + 13 + 24 + 16 ≤ _
    omega
end
