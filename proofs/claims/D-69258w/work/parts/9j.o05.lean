/-! building: the gate, the component whole -/
section
variable {s S : CS} {t : TS} {L : PLn} {nl nr : Nat} {st ln : Nat → Nat} {lab : Int → Int → Int} {LC LD : Nat → Nat} {DC : Nat → Nat → Nat} {fd fL ou ol mp : Nat} {pid nid aid : Nat → Nat → Nat} {si rc rl sp sl : Nat → Nat} {nd : Nat → Nat}
theorem gapA_m {n : Nat} {g : Nat × Nat × Nat} (h : g ∈ gapA t L nl lab nd n) : g.1 < n ∧ g.2.1 < nd g.1 ∧ g.2.2 < nP L nl ∧ kL L nl g.2.2 = g.1 ∧ max (dA t g.1 g.2.1) (kAn L nl g.2.2) < min (dB t g.1 g.2.1) (kB L nl g.2.2) ∧ gLL (gS L nl) lab (2 * g.2.2) ≠ gLL (gS L nl) lab (2 * g.2.2 + 1) := by
  obtain ⟨l, hl, h1⟩ := List.mem_flatMap.mp h
  obtain ⟨d, hd, h2⟩ := List.mem_flatMap.mp h1
  obtain ⟨p, hp, rfl⟩ := List.mem_map.mp h2
  obtain ⟨h3, h4⟩ := List.mem_filter.mp hp
  obtain ⟨h5, h6⟩ := plst_m.mp (List.mem_of_mem_take h3)
  obtain ⟨h7, h8⟩ := of_decide_eq_true h4
  exact ⟨List.mem_range.mp hl, List.mem_range.mp hd, h5, h6, h7, h8⟩
theorem c_gate (hw : wfS s) (h179 : 179 ≤ s.2.1) (F : FNx s t L nl nr st ln lab LC fd fL ou ol mp pid nid aid si rc rl sp sl) (H : DrH s t L nl LC LD DC nd) (Hb : DrB nl LC LD DC nd) {f ff : List Value} {z0 z1 : Value} {ml mc : Int32} (g : s.1 102 = some (true, false, 67, .ref 103 :: .ref fd :: f)) (g3 : s.1 103 = some (true, false, 1013, .int ml :: rowC (fun l => .ref (LC l)) nl)) (g8 : s.1 108 = some (true, false, 89, .ref 101 :: z0 :: z1 :: .ref 110 :: ff)) (g110 : s.1 110 = some (true, false, 1013, [.int mc])) (hn : ∀ i, i < spn L nl st ln nr → bel (t.2.2.1 64 i) 1001) : ∃ U n0 GA, c_1021 108 102 s = some (Int32.ofNat (gapA t L nl lab nd nl).length, U) ∧ wfS U ∧ U.1 108 = some (true, false, 89, .ref 101 :: .int (Int32.ofNat (spn L nl st ln nr)) :: .ref s.2.1 :: .ref 110 :: ff) ∧ U.1 s.2.1 = some (true, true, 0, rowC (fun i => .int (zonF t i)) (spn L nl st ln nr)) ∧ (∃ mc : Int32, U.1 110 = some (true, false, 1013, .int mc :: rowC (fun j => .ref (n0 + 3 * j)) (gapA t L nl lab nd nl).length)) ∧ (∀ j, j < (gapA t L nl lab nd nl).length → (s.2.1 < GA j ∧ GA j < n0 ∧ U.1 (GA j) = some (gapC t L nl lab ((gapA t L nl lab nd nl).getD j (0, 0, 0)))) ∧ U.1 (n0 + 3 * j) = some (porX t L nl lab GA (Int32.ofNat (spn L nl st ln nr)) n0 j ((gapA t L nl lab nd nl).getD j (0, 0, 0))) ∧ U.1 (n0 + 3 * j + 1) = some (true, false, 1004, []) ∧ U.1 (n0 + 3 * j + 2) = some (true, false, 1003, [])) ∧ (∀ q, q < s.2.1 → q ≠ 108 → q ≠ 110 → U.1 q = s.1 q) ∧ s.2.1 + 1 ≤ n0 ∧ U.2.1 = n0 + 3 * (gapA t L nl lab nd nl).length ∧ U.2.2.1 ≤ s.2.2.1 + 132 + 8 * (gapA t L nl lab nd nl).length ∧ U.2.2.2 ≤ s.2.2.2 + 264 + spn L nl st ln nr + 75 * (gapA t L nl lab nd nl).length := by
  have hle := FN_le F
  have n20 := F.1.1.1
  have n6 : ∀ l, l < nl → nd l ≤ 6 := fun l hl => (H l hl).2.1
  have hlen := gapA_1320 (t := t) (lab := lab) F.1.1 (n := nl) (nd := nd) n6
  unfold c_1021
  rw [if_pos (isK_t g rfl)]
  obtain ⟨V, e1, v1, v2, v3, v4, v5, v6, v7⟩ := ga_zones hw h179 F g g8 hn (A := Int32 × CS) (fun v26 => (if isK v26 [67] 102 = true then Option.bind (c_924 102 v26) (fun x10 => (if isK x10.2 [13] x10.1 = true then Option.bind (alMc x10.2 x10.1) (fun i11 => Option.bind (wh (S := CS × Int32) (X := CS) (fun p30 => Option.bind (alHas p30.1 x10.1 p30.2) (fun x12 => (if x12 = 0 then some (.inr p30.1) else Option.bind (alNext p30.1 x10.1 i11.1 p30.2) (fun e13 => Option.bind (toN p30.1 [79] e13) (fun a14 => Option.bind (xN p30.1 [(89, 3)] 108) (fun a15 => Option.bind (some (nw p30.1 80 [.int 0, .null, .int 0, .int 0, .int 0, .int 0, .int 0, .int 0, .int 0, .int 0, .int 0, .null, .null])) (fun n16 => Option.bind (xN n16.2 [(89, 3)] 108) (fun a17 => (if isK n16.2 [13] a17 = true then Option.bind (alSize n16.2 a17) (fun x18 => Option.bind (xI n16.2 [(89, 1)] 108) (fun x19 => (if isK n16.2 [80] n16.1 = true then Option.bind (c_989 n16.1 x18 a14 x19 102 n16.2) (fun x20 => (if isK x20 [13] a15 = true then Option.bind (alAdd x20 a15 (.ref n16.1)) (fun s21 => some (.inl (s21, p30.2 + 1))) else none)) else none))) else none))))))))) (i11.2, 0)) (fun v52 => Option.bind (xN v52 [(89, 3)] 108) (fun a22 => (if isK v52 [13] a22 = true then Option.bind (alSize v52 a22) (fun x23 => some (x23, v52)) else none)))) else none)) else none))
  rw [e1]
  have eV : ∀ a c, 179 ≤ a → s.1 a = some c → V.1 a = some c := fun a c h1 h => by rw [v4 a (wf_lt hw h) (by omega)]; exact h
  have FV := FN_ext2 F eV
  have HV := DrH_ext2 H Hb eV
  have gV : V.1 102 = _ := (v4 102 (by omega) (by decide)).trans g
  have g3V : V.1 103 = _ := (v4 103 (by omega) (by decide)).trans g3
  have g110V : V.1 110 = _ := (v4 110 (by omega) (by decide)).trans g110
  obtain ⟨W, e2, w1, w2, w3, ⟨mg, GA, w4, w5⟩, w6, w7⟩ := c_gaps v1 FV HV gV g3V
  have lG := wf_lt w1 w4
  have eW : ∀ a c, V.1 a = some c → W.1 a = some c := fun a c e => by rw [w3 a (wf_lt v1 e)]; exact e
  rw [if_pos (isK_t gV rfl), e2, Option.bind_some]
  dsimp only
  rw [if_pos (isK_t w4 rfl), alMc_l w4, Option.bind_some]
  dsimp only
  have key : ∀ X : Option CS, Tr X (fun U => GaS W U t L nl lab GA (Int32.ofNat (spn L nl st ln nr)) (gapA t L nl lab nd nl) (gapA t L nl lab nd nl).length) → ∃ U, Option.bind X (fun v52 => Option.bind (xN v52 [(89, 3)] 108) (fun a22 => (if isK v52 [13] a22 = true then Option.bind (alSize v52 a22) (fun x23 => some (x23, v52)) else none))) = some (Int32.ofNat (gapA t L nl lab nd nl).length, U) ∧ GaS W U t L nl lab GA (Int32.ofNat (spn L nl st ln nr)) (gapA t L nl lab nd nl) (gapA t L nl lab nd nl).length := by
    rintro X ⟨U, rfl, h⟩
    refine ⟨U, ?_, h⟩
    obtain ⟨_, _, h3, ⟨m, h4⟩, _⟩ := h
    have u8 : U.1 108 = _ := (h3 108 (by omega) (by decide)).trans (eW _ _ v2)
    rw [Option.bind_some, xN_o (b := 110) u8 rfl rfl, Option.bind_some, if_pos (isK_t h4 rfl), alSize_r h4, Option.bind_some]
  have hgn : ∀ j, j < (gapA t L nl lab nd nl).length → (gapA t L nl lab nd nl).getD j (0, 0, 0) ∈ gapA t L nl lab nd nl := fun j hj => by
    rw [List.getD_eq_getElem?_getD, List.getElem?_eq_getElem hj]
    exact List.getElem_mem hj
  obtain ⟨U, e3, u⟩ := key _ (wh_cnt (f := fun (p30 : CS × Int32) => Option.bind (alHas p30.1 V.2.1 p30.2) (fun x12 => (if x12 = 0 then some (.inr p30.1) else Option.bind (alNext p30.1 V.2.1 mg p30.2) (fun e13 => Option.bind (toN p30.1 [79] e13) (fun a14 => Option.bind (xN p30.1 [(89, 3)] 108) (fun a15 => Option.bind (some (nw p30.1 80 [.int 0, .null, .int 0, .int 0, .int 0, .int 0, .int 0, .int 0, .int 0, .int 0, .int 0, .null, .null])) (fun n16 => Option.bind (xN n16.2 [(89, 3)] 108) (fun a17 => (if isK n16.2 [13] a17 = true then Option.bind (alSize n16.2 a17) (fun x18 => Option.bind (xI n16.2 [(89, 1)] 108) (fun x19 => (if isK n16.2 [80] n16.1 = true then Option.bind (c_989 n16.1 x18 a14 x19 102 n16.2) (fun x20 => (if isK x20 [13] a15 = true then Option.bind (alAdd x20 a15 (.ref n16.1)) (fun s21 => some (.inl (s21, p30.2 + 1))) else none)) else none))) else none))))))))) (gapA t L nl lab nd nl).length (fun k (a : CS × Int32) => a.2 = Int32.ofNat k ∧ GaS W a.1 t L nl lab GA (Int32.ofNat (spn L nl st ln nr)) (gapA t L nl lab nd nl) k) (by
    rintro k ⟨U, _⟩ hk ⟨rfl, hU⟩
    right
    dsimp only at hU ⊢
    have lU : U.1 V.2.1 = _ := (hU.2.2.1 V.2.1 lG (by omega)).trans w4
    rw [alHas_r lU (by omega) (by omega), if_neg (by omega), Option.bind_some, if_neg (by decide), alNext_r lU hk (by omega), Option.bind_some]
    obtain ⟨m1, _⟩ := gapA_m (hgn k hk)
    obtain ⟨U', q1, q2⟩ := ga_pstep w1 F.1 (by omega) hU (eW _ _ gV) (eW _ _ g3V) (fun l hl => eW _ _ (HV l hl).1) (eW _ _ v2) rfl hk (by omega) m1 (w5 k hk).2 (by have := (w5 k hk).1; omega) (fun l hl => by have := (Hb l hl).1; omega)
    rw [q1]
    exact ⟨_, rfl, rfl, q2⟩) (by
    rintro ⟨U, _⟩ ⟨rfl, hU⟩
    dsimp only at hU ⊢
    have lU : U.1 V.2.1 = _ := (hU.2.2.1 V.2.1 lG (by omega)).trans w4
    rw [alHas_r lU (by omega) (by omega), if_pos rfl, Option.bind_some, if_pos rfl]
    exact ⟨_, rfl, hU⟩) (a := (chg W 1 4, 0)) ⟨rfl, wf_chg w1, rfl, fun _ _ _ => rfl, ⟨mc, eW _ _ g110V⟩, fun j hj => absurd hj (Nat.not_lt_zero _), Nat.le_refl _, Nat.le_refl _⟩)
  rw [e3]
  obtain ⟨u1, u2, u3, u4, u5, u6, u7⟩ := u
  refine ⟨U, W.2.1, GA, rfl, u1, (u3 108 (by omega) (by decide)).trans (eW _ _ v2), (u3 s.2.1 (by omega) (by omega)).trans (eW _ _ v3), u4, fun j hj => ⟨⟨?_, ?_, ?_⟩, u5 j hj⟩, fun q h1 h2 h3 => ?_, by omega, u2, by omega, by omega⟩
  · have := (w5 j hj).1; omega
  · exact wf_lt w1 (w5 j hj).2
  · have lt := wf_lt w1 (w5 j hj).2
    have gt := (w5 j hj).1
    exact (u3 _ lt (by omega)).trans (w5 j hj).2
  · rw [u3 q (by omega) h3, w3 q (by omega), v4 q h1 h2]
end
