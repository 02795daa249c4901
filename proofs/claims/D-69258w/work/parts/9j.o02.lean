/-! building: a portal is made, the component -/
section
variable {U V S : CS} {t : TS} {L : PLn} {nl nr : Nat} {LC LD : Nat → Nat} {a q n m : Nat} {fs : List Value}
/-- a portal being made -/
def PoM (U V : CS) (a : Nat) (fs : List Value) (q n m : Nat) : Prop := wfS V ∧ V.1 a = some (true, false, 80, fs) ∧ (∀ b, b < U.2.1 → b ≠ a → V.1 b = U.1 b) ∧ V.2.1 = U.2.1 + q ∧ V.2.2.1 = U.2.2.1 + n ∧ V.2.2.2 = U.2.2.2 + m ∧ (1 ≤ q → V.1 U.2.1 = some (true, false, 1004, [])) ∧ (2 ≤ q → V.1 (U.2.1 + 1) = some (true, false, 1003, []))
theorem PoM_set (r : PoM U V a fs q n m) (ha : a < U.2.1) (k : Nat) (v : Value) (hl : lLook [(80, k)] 80 = some k) (hk : k < fs.length) (fs' : List Value) (hf : fs.set k v = fs') : ∃ W, xP V [(80, k)] a v = some W ∧ PoM U W a fs' q n m := by
  obtain ⟨r1, r2, r3, r4, r5, r6, r7, r8⟩ := r
  refine ⟨_, xP_o r2 hl hk, wf_cup r1 (by omega), ?_, fun b h1 h2 => ?_, r4, r5, r6, fun h => ?_, fun h => ?_⟩
  · rw [hf]; exact cup_eq ..
  · rw [cup_ne h2]; exact r3 b h1 h2
  · rw [cup_ne (by omega)]; exact r7 h
  · rw [cup_ne (by omega)]; exact r8 h
theorem PoM_d (r : PoM U V a fs 0 n m) (ha : a < U.2.1) : ∃ S1, nw V 4 [.null, .int 0, .int 0] = (U.2.1, S1) ∧ S1.1 U.2.1 = some (true, false, 4, [.null, .int 0, .int 0]) ∧ PoM U (chg (cup S1 U.2.1 (true, false, 1004, [])) 1 17) a fs 1 (n + 2) (m + 20) := by
  obtain ⟨r1, r2, r3, r4, r5, r6, _⟩ := r
  obtain ⟨S1, e1, u1⟩ := nw_o (s := V) 4 [.null, .int 0, .int 0] r1
  have e0 : V.2.1 = U.2.1 := r4
  unfold Nw at u1
  rw [e0] at u1 e1
  refine ⟨S1, e1, u1.1, wf_chg (wf_cup u1.2.2.2.1 (by rw [u1.2.2.1]; omega)), ?_, fun b h1 h2 => ?_, u1.2.2.1, ?_, ?_, fun _ => cup_eq .., fun h => by omega⟩
  · show (cup S1 U.2.1 _).1 a = _
    rw [cup_ne (by omega), u1.2.1 a (by omega)]; exact r2
  · show (cup S1 U.2.1 _).1 b = _
    rw [cup_ne (by omega), u1.2.1 b (by omega)]; exact r3 b h1 h2
  · show S1.2.2.1 + 1 = _; rw [u1.2.2.2.2.1]; omega
  · show S1.2.2.2 + 17 = _; rw [u1.2.2.2.2.2]; show V.2.2.2 + 3 + 17 = _; omega
theorem PoM_b (r : PoM U V a fs 1 n m) (ha : a < U.2.1) : ∃ S1, nw V 3 [.null, .int 0, .int 0] = (U.2.1 + 1, S1) ∧ S1.1 (U.2.1 + 1) = some (true, false, 3, [.null, .int 0, .int 0]) ∧ PoM U (chg (cup S1 (U.2.1 + 1) (true, false, 1003, [])) 1 1) a fs 2 (n + 2) (m + 4) := by
  obtain ⟨r1, r2, r3, r4, r5, r6, r7, _⟩ := r
  obtain ⟨S1, e1, u1⟩ := nw_o (s := V) 3 [.null, .int 0, .int 0] r1
  unfold Nw at u1
  rw [r4] at u1 e1
  refine ⟨S1, e1, u1.1, wf_chg (wf_cup u1.2.2.2.1 (by rw [u1.2.2.1]; omega)), ?_, fun b h1 h2 => ?_, u1.2.2.1, ?_, ?_, fun _ => ?_, fun _ => cup_eq ..⟩
  · show (cup S1 (U.2.1 + 1) _).1 a = _
    rw [cup_ne (by omega), u1.2.1 a (by omega)]; exact r2
  · show (cup S1 (U.2.1 + 1) _).1 b = _
    rw [cup_ne (by omega), u1.2.1 b (by omega)]; exact r3 b h1 h2
  · show S1.2.2.1 + 1 = _; rw [u1.2.2.2.2.1]; omega
  · show S1.2.2.2 + 1 = _; rw [u1.2.2.2.2.2]; show V.2.2.2 + 3 + 1 = _; omega
  · show (cup S1 (U.2.1 + 1) _).1 U.2.1 = _
    rw [cup_ne (by omega), u1.2.1 _ (by omega)]; exact r7 (Nat.le_refl _)
theorem gp_f {G : Nat} {v0 v1 v2 v3 v4 v5 : Int32} (h : S.1 G = some (true, false, 79, [.int v0, .int v1, .int v2, .int v3, .int v4, .int v5])) : c_984 G S = some v2 ∧ c_985 G S = some v3 ∧ c_986 G S = some v0 ∧ c_987 G S = some v4 := by
  unfold c_984 c_985 c_986 c_987
  rw [xI_o (x := v2) h rfl rfl, xI_o (x := v3) h rfl rfl, xI_o (x := v0) h rfl rfl, xI_o (x := v4) h rfl rfl]
  exact ⟨rfl, rfl, rfl, rfl⟩
/-- fields of lines by their number -/
theorem c_lnF {f : List Value} {ml : Int32} {l : Nat} (g : S.1 102 = some (true, false, 67, .ref 103 :: f)) (g3 : S.1 103 = some (true, false, 1013, .int ml :: rowC (fun l => .ref (LC l)) nl)) (hl : l < nl) (hn : nl ≤ 20) (h : S.1 (LC l) = some (lcC L LD l)) : c_926 102 (Int32.ofNat l) S = some (if pFl L l = true then 1 else 0) ∧ c_927 102 (Int32.ofNat l) S = some (Int32.ofNat (pX L l)) ∧ c_928 102 (Int32.ofNat l) S = some (Int32.ofNat (pY L l)) := by
  refine ⟨?_, ?_, ?_⟩
  · unfold c_926
    rw [xN_o (b := 103) g rfl rfl, Option.bind_some, if_pos (isK_t g3 rfl), alGet_r g3 hl (by omega), Option.bind_some, toN_o h rfl, Option.bind_some, xI_o (x := if pFl L l = true then 1 else 0) h rfl rfl, Option.bind_some, if_pos (by cases pFl L l <;> rfl)]
  · unfold c_927
    rw [xN_o (b := 103) g rfl rfl, Option.bind_some, if_pos (isK_t g3 rfl), alGet_r g3 hl (by omega), Option.bind_some, toN_o h rfl, Option.bind_some, xI_o (x := Int32.ofNat (pX L l)) h rfl rfl, Option.bind_some]
  · unfold c_928
    rw [xN_o (b := 103) g rfl rfl, Option.bind_some, if_pos (isK_t g3 rfl), alGet_r g3 hl (by omega), Option.bind_some, toN_o h rfl, Option.bind_some, xI_o (x := Int32.ofNat (pY L l)) h rfl rfl, Option.bind_some]
/-- a portal from its gap -/
theorem c_porI (hw : wfS U) (ha : U.1 a = some (true, false, 80, [.int 0, .null, .int 0, .int 0, .int 0, .int 0, .int 0, .int 0, .int 0, .int 0, .int 0, .null, .null])) {f : List Value} {ml : Int32} {l k G : Nat} {nsp left right from_ dd to_ : Int32} (g : U.1 102 = some (true, false, 67, .ref 103 :: f)) (g3 : U.1 103 = some (true, false, 1013, .int ml :: rowC (fun l => .ref (LC l)) nl)) (hl : l < nl) (hn : nl ≤ 20) (h : U.1 (LC l) = some (lcC L LD l)) (hG : U.1 G = some (true, false, 79, [.int (Int32.ofNat l), .int dd, .int left, .int right, .int from_, .int to_])) : ∃ S', c_989 a (Int32.ofNat k) G nsp 102 U = some S' ∧ PoM U S' a [.int (Int32.ofNat k), .ref G, .int (if left = -1 then nsp else left), .int (if right = -1 then nsp else right), .int (Int32.ofNat (pX L l) + (if pFl L l = true then from_ else 0)), .int (Int32.ofNat (pY L l) + (if pFl L l = true then 0 else from_)), .int (if pFl L l = true then 1 else 0), .int 0, .int 0, .int 0, .int 2147483647, .ref U.2.1, .ref (U.2.1 + 1)] 2 4 24 := by
  have la := wf_lt hw ha
  have r0 : PoM U U a [.int 0, .null, .int 0, .int 0, .int 0, .int 0, .int 0, .int 0, .int 0, .int 0, .int 0, .null, .null] 0 0 0 := ⟨hw, ha, fun _ _ _ => rfl, rfl, rfl, rfl, fun h => by omega, fun h => by omega⟩
  have nG : G ≠ a := fun w => by rw [w, ha] at hG; cases hG
  have n2 : (102 : Nat) ≠ a := fun w => by rw [w, ha] at g; cases g
  have n3 : (103 : Nat) ≠ a := fun w => by rw [w, ha] at g3; cases g3
  have nL : LC l ≠ a := fun w => by rw [w, ha] at h; cases h
  have kp : ∀ {W : CS} {fs : List Value} {q n m b : Nat} {c : lCell}, PoM U W a fs q n m → U.1 b = some c → b ≠ a → W.1 b = some c := fun r e ne => by rw [r.2.2.1 _ (wf_lt hw e) ne]; exact e
  unfold c_989
  obtain ⟨s1, e1, p1⟩ := PoM_set r0 la 10 (.int 2147483647) rfl (by show 10 < 13; decide) _ rfl
  rw [e1, Option.bind_some]
  obtain ⟨x3, e3, y3, p3⟩ := PoM_d p1 la
  rw [e3, Option.bind_some]
  dsimp only
  rw [if_pos (isK_t y3 rfl), adInit_o y3, Option.bind_some]
  obtain ⟨s4, e4, p4⟩ := PoM_set p3 la 11 (.ref U.2.1) rfl (by show 11 < 13; decide) _ rfl
  rw [e4, Option.bind_some]
  obtain ⟨x6, e6, y6, p6⟩ := PoM_b p4 la
  rw [e6, Option.bind_some]
  dsimp only
  rw [if_pos (isK_t y6 rfl), bsInit_o y6, Option.bind_some]
  obtain ⟨s7, e7, p7⟩ := PoM_set p6 la 12 (.ref (U.2.1 + 1)) rfl (by show 12 < 13; decide) _ rfl
  rw [e7, Option.bind_some]
  obtain ⟨s8, e8, p8⟩ := PoM_set p7 la 0 (.int (Int32.ofNat k)) rfl (by show 0 < 13; decide) _ rfl
  rw [e8, Option.bind_some]
  obtain ⟨s9, e9, p9⟩ := PoM_set p8 la 1 (.ref G) rfl (by show 1 < 13; decide) _ rfl
  have G9 := kp p9 hG nG
  have rm : ∀ (x : Int32) {W : CS} (o : Option Int32) (hW : W.1 G = some (true, false, 79, [.int (Int32.ofNat l), .int dd, .int left, .int right, .int from_, .int to_])) (ho : o = some x), (if x = -1 then some nsp else (if isK W [79] G = true then Option.bind o (fun x11 => some x11) else none)) = some (if x = -1 then nsp else x) := fun x W o hW ho => by
    rw [if_pos (isK_t hW rfl), ho]
    split <;> rfl
  rw [e9, Option.bind_some, if_pos (isK_t G9 rfl), (gp_f G9).1, Option.bind_some, rm left (some left) G9 rfl, Option.bind_some]
  obtain ⟨s12, e12, p12⟩ := PoM_set p9 la 2 (.int (if left = -1 then nsp else left)) rfl (by show 2 < 13; decide) _ rfl
  have G12 := kp p12 hG nG
  rw [e12, Option.bind_some, if_pos (isK_t G12 rfl), (gp_f G12).2.1, Option.bind_some, rm right (some right) G12 rfl, Option.bind_some]
  obtain ⟨s15, e15, p15⟩ := PoM_set p12 la 3 (.int (if right = -1 then nsp else right)) rfl (by show 3 < 13; decide) _ rfl
  have G15 := kp p15 hG nG
  have f15 := c_lnF (LD := LD) (kp p15 g n2) (kp p15 g3 n3) hl hn (kp p15 h nL)
  rw [e15, Option.bind_some, if_pos (isK_t G15 rfl), (gp_f G15).2.2.1, Option.bind_some, if_pos (isK_t (kp p15 g n2) rfl), f15.1, Option.bind_some, if_pos (by cases pFl L l <;> rfl)]
  obtain ⟨s18, e18, p18⟩ := PoM_set p15 la 6 (.int (if pFl L l = true then 1 else 0)) rfl (by show 6 < 13; decide) _ rfl
  have G18 := kp p18 hG nG
  have f18 := c_lnF (LD := LD) (kp p18 g n2) (kp p18 g3 n3) hl hn (kp p18 h nL)
  have i1 : (if (if pFl L l = true then (1 : Int32) else 0) = 0 then some (0 : Int32) else (if isK s18 [79] G = true then Option.bind (c_987 G s18) (fun x22 => some x22) else none)) = some (if pFl L l = true then from_ else 0) := by
    rw [if_pos (isK_t G18 rfl), (gp_f G18).2.2.2]
    by_cases z : pFl L l = true
    · rw [if_pos z, if_pos z, if_neg n10]; rfl
    · rw [if_neg z, if_neg z, if_pos rfl]
  rw [e18, Option.bind_some, if_pos (isK_t G18 rfl), (gp_f G18).2.2.1, Option.bind_some, if_pos (isK_t (kp p18 g n2) rfl), f18.2.1, Option.bind_some, xI_o (x := if pFl L l = true then 1 else 0) p18.2.1 rfl rfl, Option.bind_some, i1, Option.bind_some]
  obtain ⟨s23, e23, p23⟩ := PoM_set p18 la 4 (.int (Int32.ofNat (pX L l) + (if pFl L l = true then from_ else 0))) rfl (by show 4 < 13; decide) _ rfl
  have G23 := kp p23 hG nG
  have f23 := c_lnF (LD := LD) (kp p23 g n2) (kp p23 g3 n3) hl hn (kp p23 h nL)
  have i2 : (if (if pFl L l = true then (1 : Int32) else 0) = 0 then (if isK s23 [79] G = true then Option.bind (c_987 G s23) (fun x27 => some x27) else none) else some (0 : Int32)) = some (if pFl L l = true then 0 else from_) := by
    rw [if_pos (isK_t G23 rfl), (gp_f G23).2.2.2]
    by_cases z : pFl L l = true
    · rw [if_pos z, if_pos z, if_neg n10]
    · rw [if_neg z, if_neg z, if_pos rfl]; rfl
  rw [e23, Option.bind_some, if_pos (isK_t G23 rfl), (gp_f G23).2.2.1, Option.bind_some, if_pos (isK_t (kp p23 g n2) rfl), f23.2.2, Option.bind_some, xI_o (x := if pFl L l = true then 1 else 0) p23.2.1 rfl rfl, Option.bind_some, i2, Option.bind_some]
  obtain ⟨s28, e28, p28⟩ := PoM_set p23 la 5 (.int (Int32.ofNat (pY L l) + (if pFl L l = true then 0 else from_))) rfl (by show 5 < 13; decide) _ rfl
  rw [e28, Option.bind_some]
  exact ⟨_, rfl, p28⟩
end
