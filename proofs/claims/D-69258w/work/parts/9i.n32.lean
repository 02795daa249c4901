/-! the plan: a piece more -/
/-- what is found while lines are cut: c pieces, points V -/
def CT (b0 : Nat) (h0 : lHeap) (s : CS) (L : PLn) (nl : Nat) (LC : Nat → Nat) (F fL ou mp SL c : Nat) (V : Nat → Nat → Prop) (ms : Int32) (pid nid aid : Nat → Nat → Nat) (si : Nat → Nat) : Prop :=
  wfS s ∧ b0 ≤ s.2.1 ∧ (∀ q, q < b0 → s.1 q = h0 q) ∧ NDs b0 s.1 L nl mp c V pid nid aid si ∧ s.1 F = some (true, false, 61, [.ref fL, .ref ou, .ref mp, .int (Int32.ofNat c)]) ∧ s.1 SL = some (true, false, 1013, .int ms :: rowC (fun k => .ref (si k)) (2 * c)) ∧ (∀ k, k < 2 * c → b0 ≤ si k ∧ s.1 (si k) = some (sdC L nl LC nid si .null k) ∧ V (sX L nl k) (sY L nl k)) ∧ (∀ j k, j < 2 * c → k < 2 * c → si j = si k → j = k) ∧ b0 ≤ F ∧ b0 ≤ SL
section
variable {L : PLn} {nl : Nat} {LC LD : Nat → Nat} {b0 : Nat} {h0 : lHeap} {s : CS} {F fL ou mp SL c : Nat} {V : Nat → Nat → Prop} {ms : Int32} {pid nid aid : Nat → Nat → Nat} {si : Nat → Nat}
theorem CT_piece (hg : gdL L nl) (r : CT b0 h0 s L nl LC F fL ou mp SL c V ms pid nid aid si) (hc : c < nP L nl) (hl : h0 (LC (kL L nl c)) = some (lcC L LD (kL L nl c))) (hlb : LC (kL L nl c) < b0) (v1 : V (sX L nl (2 * c)) (sY L nl (2 * c))) (v2 : V (eX L nl (2 * c)) (eY L nl (2 * c))) :
    ∃ s' si' ms', Option.bind (some (nw s 65 [.null, .null, .null, .int 0, .null, .null])) (fun n19 => Option.bind (xI n19.2 [(59, 1)] (LC (kL L nl c))) (fun x20 => Option.bind ((if x20 = 0 then some (1 : Int32) else some 0)) (fun v73 => Option.bind (some (nid (sX L nl (2 * c)) (sY L nl (2 * c)))) (fun a21 => Option.bind (some (nid (eX L nl (2 * c)) (eY L nl (2 * c)))) (fun a22 => (if isK n19.2 [65] n19.1 = true then Option.bind (c_882 n19.1 (LC (kL L nl c)) a21 a22 v73 n19.2) (fun x23 => Option.bind (some (nw x23 65 [.null, .null, .null, .int 0, .null, .null])) (fun n24 => Option.bind (xI n24.2 [(59, 1)] (LC (kL L nl c))) (fun x25 => Option.bind ((if x25 = 0 then some (3 : Int32) else some 2)) (fun v86 => (if isK n24.2 [65] n24.1 = true then Option.bind (c_882 n24.1 (LC (kL L nl c)) a22 a21 v86 n24.2) (fun x26 => Option.bind (xP x26 [(65, 4)] n19.1 (.ref n24.1)) (fun s27 => Option.bind (xP s27 [(65, 4)] n24.1 (.ref n19.1)) (fun s28 => (if isK s28 [13] SL = true then Option.bind (alAdd s28 SL (.ref n19.1)) (fun s29 => (if isK s29 [13] SL = true then Option.bind (alAdd s29 SL (.ref n24.1)) (fun s30 => Option.bind (xI s30 [(61, 3)] F) (fun x31 => Option.bind (xP s30 [(61, 3)] F (.int (x31 + 1))) (fun s32 => some (s32, some a22)))) else none)) else none)))) else none))))) else none)))))) = some (s', some (nid (eX L nl (2 * c)) (eY L nl (2 * c)))) ∧ CT b0 h0 s' L nl LC F fL ou mp SL (c + 1) V ms' pid nid aid si' ∧ s'.2.2.1 = s.2.2.1 + 4 ∧ s'.2.2.2 = s.2.2.2 + 44 ∧ (∀ q, q < s.2.1 → q ≠ F → q ≠ SL → (∀ x y, V x y → q ≠ aid x y) → s'.1 q = s.1 q) ∧ s.2.1 ≤ s'.2.1 := by
  obtain ⟨hw, hb, hfr, hN, hF, hS, hsd, hij, bF, bS⟩ := r
  have hN400 := nP_le hg
  obtain ⟨k1, k2, k3, _⟩ := k_in hc
  obtain ⟨g1, g2, g3, g4, g5, g6, g7, g8, g9, g10⟩ := gS_even hc
  obtain ⟨p1, p2, p3, p4, p5, p6, p7, p8⟩ := hN.2.1 _ _ v1
  obtain ⟨q1, q2, q3, q4, q5, q6, q7, q8⟩ := hN.2.1 _ _ v2
  have nse : ¬ (sX L nl (2 * c) = eX L nl (2 * c) ∧ sY L nl (2 * c) = eY L nl (2 * c)) := by
    rw [g1, g2, g3, g4]
    rintro ⟨z1, z2⟩
    have := a_inj z1 z2
    omega
  generalize hx : sX L nl (2 * c) = x at *
  generalize hy : sY L nl (2 * c) = y at *
  generalize hu : eX L nl (2 * c) = u at *
  generalize hv : eY L nl (2 * c) = v at *
  generalize hll : kL L nl c = l at *
  have naa : aid x y ≠ aid u v := fun z => nse (hN.2.2.1 x y u v v1 v2 z)
  have d0 : (if (if pFl L l = true then (1 : Int32) else 0) = 0 then some (1 : Int32) else some 0) = some (Int32.ofNat (gdr (gS L nl) (2 * c))) := by
    rw [g5]; cases pFl L l <;> rfl
  have d1 : (if (if pFl L l = true then (1 : Int32) else 0) = 0 then some (3 : Int32) else some 2) = some (Int32.ofNat (gdr (gS L nl) (2 * c + 1))) := by
    rw [g10]; cases pFl L l <;> rfl
  have e4 : gdr (gS L nl) (2 * c) < 4 := gS_d4 (by omega)
  have e4' : gdr (gS L nl) (2 * c + 1) < 4 := gS_d4 (by omega)
  generalize hD0 : gdr (gS L nl) (2 * c) = D0 at *
  generalize hD1 : gdr (gS L nl) (2 * c + 1) = D1 at *
  have lt1 := wf_lt hw p7
  have lt2 := wf_lt hw q7
  have lt3 := wf_lt hw p8
  have lt4 := wf_lt hw q8
  have ltF := wf_lt hw hF
  have ltS := wf_lt hw hS
  have mlt : mp < s.2.1 := by obtain ⟨⟨mc, es, q, _⟩, _⟩ := hN; exact wf_lt hw q
  -- cells of the store
  have nF1 : F ≠ aid x y := apart hF p8 (by show ¬ (61 : Nat) = 7; decide)
  have nF2 : F ≠ aid u v := apart hF q8 (by show ¬ (61 : Nat) = 7; decide)
  have nS1 : SL ≠ aid x y := apart hS p8 (by show ¬ (1013 : Nat) = 7; decide)
  have nS2 : SL ≠ aid u v := apart hS q8 (by show ¬ (1013 : Nat) = 7; decide)
  have nFS : F ≠ SL := apart hF hS (by show ¬ (61 : Nat) = 1013; decide)
  have n64a : nid x y ≠ aid u v := apart p7 q8 (by show ¬ (64 : Nat) = 7; decide)
  have n64b : nid u v ≠ aid x y := apart q7 p8 (by show ¬ (64 : Nat) = 7; decide)
  have n64c : nid u v ≠ aid u v := apart q7 q8 (by show ¬ (64 : Nat) = 7; decide)
  have hlc : s.1 (LC l) = some (lcC L LD l) := (hfr _ hlb).trans hl
  generalize hA1 : (fun e : Nat => vR (Option.map si (lvC L nl c (x : Nat) (y : Nat) e))) = A1 at p8
  generalize hA2 : (fun e : Nat => vR (Option.map si (lvC L nl c (u : Nat) (v : Nat) e))) = A2 at q8
  obtain ⟨S1, z1, w1⟩ := nw_o (s := s) 65 [.null, .null, .null, .int 0, .null, .null] hw
  rw [z1]; repeat (first | rw [Option.bind_some] | rw [Sum.elim_inl] | rw [Sum.elim_inr])
  dsimp only
  have o1 := Nw_ext hw w1
  rw [xI_o (x := if pFl L l = true then 1 else 0) (o1 _ _ hlc) rfl rfl]; repeat (first | rw [Option.bind_some] | rw [Sum.elim_inl] | rw [Sum.elim_inr])
  rw [d0]; repeat (first | rw [Option.bind_some] | rw [Sum.elim_inl] | rw [Sum.elim_inr])
  rw [if_pos (isK_t w1.1 rfl), c_sid (line := LC l) (to := nid u v) w1.1 (o1 _ _ p7) (o1 _ _ p8) e4]; repeat (first | rw [Option.bind_some] | rw [Sum.elim_inl] | rw [Sum.elim_inr])
  -- after the first side
  have w11 := w1.1
  have w13 := w1.2.2.1
  obtain ⟨S2, hS2⟩ : ∃ S2, S2 = cup (cup S1 s.2.1 (true, false, 65, [.ref (LC l), .ref (nid x y), .ref (nid u v), .int (Int32.ofNat D0), .null, .null])) (aid x y) (true, true, 7, rowC (fun j => if j = D0 then .ref s.2.1 else A1 j) 4) := ⟨_, rfl⟩
  have t1 : ∀ q, S2.1 q = if q = aid x y then some (true, true, 7, rowC (fun j => if j = D0 then .ref s.2.1 else A1 j) 4) else if q = s.2.1 then some (true, false, 65, [.ref (LC l), .ref (nid x y), .ref (nid u v), .int (Int32.ofNat D0), .null, .null]) else s.1 q := by
    intro q
    rw [hS2, cup_a, cup_a]
    by_cases e : q = aid x y
    · rw [if_pos e, if_pos e]
    · rw [if_neg e, if_neg e]
      by_cases e2 : q = s.2.1
      · rw [if_pos e2, if_pos e2]
      · rw [if_neg e2, if_neg e2, w1.2.1 q e2]
  have wS2 : wfS S2 := by rw [hS2]; exact wf_cup (wf_cup w1.2.2.2.1 (by omega)) (by show aid x y < S1.2.1; omega)
  have l2 : S2.2.1 = s.2.1 + 1 ∧ S2.2.2.1 = s.2.2.1 + 1 ∧ S2.2.2.2 = s.2.2.2 + 6 := by rw [hS2]; exact ⟨w1.2.2.1, w1.2.2.2.2.1, w1.2.2.2.2.2⟩
  rw [← hS2]
  obtain ⟨S3, z3, w3⟩ := nw_o (s := S2) 65 [.null, .null, .null, .int 0, .null, .null] wS2
  rw [z3]
  dsimp only
  have t3 : ∀ q, q ≠ S2.2.1 → S3.1 q = S2.1 q := w3.2.1
  have hlc3 : S3.1 (LC l) = some (lcC L LD l) := by rw [t3 _ (by omega), t1, if_neg (by omega), if_neg (by omega)]; exact hlc
  rw [xI_o (x := if pFl L l = true then 1 else 0) hlc3 rfl rfl]; repeat (first | rw [Option.bind_some] | rw [Sum.elim_inl] | rw [Sum.elim_inr])
  rw [d1]; repeat (first | rw [Option.bind_some] | rw [Sum.elim_inl] | rw [Sum.elim_inr])
  have nu3 : S3.1 (nid u v) = some (true, false, 64, [.ref (pid u v), .ref (aid u v)]) := by rw [t3 _ (by omega), t1, if_neg n64b, if_neg (by omega)]; exact q7
  have au3 : S3.1 (aid u v) = some (true, true, 7, rowC A2 4) := by rw [t3 _ (by omega), t1, if_neg naa.symm, if_neg (by omega)]; exact q8
  rw [if_pos (isK_t w3.1 rfl), c_sid (line := LC l) (to := nid x y) w3.1 nu3 au3 e4']; repeat (first | rw [Option.bind_some] | rw [Sum.elim_inl] | rw [Sum.elim_inr])
  obtain ⟨S4, hS4⟩ : ∃ S4, S4 = cup (cup S3 S2.2.1 (true, false, 65, [.ref (LC l), .ref (nid u v), .ref (nid x y), .int (Int32.ofNat D1), .null, .null])) (aid u v) (true, true, 7, rowC (fun j => if j = D1 then .ref S2.2.1 else A2 j) 4) := ⟨_, rfl⟩
  have wS4 : wfS S4 := by rw [hS4]; exact wf_cup (wf_cup w3.2.2.2.1 (wf_lt w3.2.2.2.1 w3.1)) (by show aid u v < S3.2.1; exact wf_lt w3.2.2.2.1 au3)
  have l4 : S4.2.1 = s.2.1 + 2 ∧ S4.2.2.1 = s.2.2.1 + 2 ∧ S4.2.2.2 = s.2.2.2 + 12 := by
    rw [hS4]
    refine ⟨?_, ?_, ?_⟩
    · show S3.2.1 = _; rw [w3.2.2.1]; omega
    · show S3.2.2.1 = _; rw [w3.2.2.2.2.1]; omega
    · show S3.2.2.2 = _; rw [w3.2.2.2.2.2]; show S2.2.2.2 + 6 = _; omega
  rw [← hS4]
  have t4 : ∀ q, S4.1 q = if q = aid u v then some (true, true, 7, rowC (fun j => if j = D1 then .ref (s.2.1 + 1) else A2 j) 4) else if q = s.2.1 + 1 then some (true, false, 65, [.ref (LC l), .ref (nid u v), .ref (nid x y), .int (Int32.ofNat D1), .null, .null]) else if q = aid x y then some (true, true, 7, rowC (fun j => if j = D0 then .ref s.2.1 else A1 j) 4) else if q = s.2.1 then some (true, false, 65, [.ref (LC l), .ref (nid x y), .ref (nid u v), .int (Int32.ofNat D0), .null, .null]) else s.1 q := by
    intro q
    rw [hS4, cup_a, cup_a, l2.1]
    by_cases e : q = aid u v
    · rw [if_pos e, if_pos e]
    · rw [if_neg e, if_neg e]
      by_cases e2 : q = s.2.1 + 1
      · rw [if_pos e2, if_pos e2]
      · rw [if_neg e2, if_neg e2, t3 q (by omega), t1]
  rw [l2.1]
  have cs : S4.1 s.2.1 = some (true, false, 65, [.ref (LC l), .ref (nid x y), .ref (nid u v), .int (Int32.ofNat D0), .null, .null]) := by rw [t4, if_neg (by omega), if_neg (by omega), if_neg (by omega), if_pos rfl]
  have ct : S4.1 (s.2.1 + 1) = some (true, false, 65, [.ref (LC l), .ref (nid u v), .ref (nid x y), .int (Int32.ofNat D1), .null, .null]) := by rw [t4, if_neg (by omega), if_pos rfl]
  rw [xP_c (fs' := [.ref (LC l), .ref (nid x y), .ref (nid u v), .int (Int32.ofNat D0), .ref (s.2.1 + 1), .null]) cs rfl (by simp) rfl]; repeat (first | rw [Option.bind_some] | rw [Sum.elim_inl] | rw [Sum.elim_inr])
  rw [xP_c (fs' := [.ref (LC l), .ref (nid u v), .ref (nid x y), .int (Int32.ofNat D1), .ref s.2.1, .null]) ((cup_ne (by omega)).trans ct) rfl (by simp) rfl]; repeat (first | rw [Option.bind_some] | rw [Sum.elim_inl] | rw [Sum.elim_inr])
  obtain ⟨S6, hS6⟩ : ∃ S6, S6 = cup (cup S4 s.2.1 (true, false, 65, [.ref (LC l), .ref (nid x y), .ref (nid u v), .int (Int32.ofNat D0), .ref (s.2.1 + 1), .null])) (s.2.1 + 1) (true, false, 65, [.ref (LC l), .ref (nid u v), .ref (nid x y), .int (Int32.ofNat D1), .ref s.2.1, .null]) := ⟨_, rfl⟩
  rw [← hS6]
  have wS6 : wfS S6 := by rw [hS6]; exact wf_cup (wf_cup wS4 (by omega)) (by show _ < S4.2.1; omega)
  have l6 : S6.2.1 = s.2.1 + 2 ∧ S6.2.2.1 = s.2.2.1 + 2 ∧ S6.2.2.2 = s.2.2.2 + 12 := by rw [hS6]; exact l4
  have t6 : ∀ q, S6.1 q = if q = aid u v then some (true, true, 7, rowC (fun j => if j = D1 then .ref (s.2.1 + 1) else A2 j) 4) else if q = s.2.1 + 1 then some (true, false, 65, [.ref (LC l), .ref (nid u v), .ref (nid x y), .int (Int32.ofNat D1), .ref s.2.1, .null]) else if q = aid x y then some (true, true, 7, rowC (fun j => if j = D0 then .ref s.2.1 else A1 j) 4) else if q = s.2.1 then some (true, false, 65, [.ref (LC l), .ref (nid x y), .ref (nid u v), .int (Int32.ofNat D0), .ref (s.2.1 + 1), .null]) else s.1 q := by
    intro q
    rw [hS6, cup_a, cup_a, t4]
    by_cases e1 : q = s.2.1 + 1
    · have n1 : ¬ q = aid u v := by omega
      simp only [if_pos e1, if_neg n1]
    · by_cases e2 : q = s.2.1
      · have n1 : ¬ q = aid u v := by omega
        have n2 : ¬ q = aid x y := by omega
        simp only [if_neg e1, if_pos e2, if_neg n1, if_neg n2]
      · simp only [if_neg e1, if_neg e2]
  have hS6L : S6.1 SL = some (true, false, 1013, .int ms :: rowC (fun k => .ref (si k)) (2 * c)) := by rw [t6, if_neg nS2, if_neg (by omega), if_neg nS1, if_neg (by omega)]; exact hS
  rw [if_pos (isK_t hS6L rfl), alAdd_r (v := .ref s.2.1) hS6L (by omega) (elO_o (show S6.1 s.2.1 = some (true, false, 65, _) from by rw [hS6]; exact (cup_ne (by omega)).trans (cup_eq ..)))]; repeat (first | rw [Option.bind_some] | rw [Sum.elim_inl] | rw [Sum.elim_inr])
  rw [if_pos (isK_t (cput_eq ..) rfl), alAdd_r (v := .ref (s.2.1 + 1)) (cput_eq ..) (by omega) (elO_o ((cput_ne (by omega)).trans (show S6.1 (s.2.1 + 1) = some (true, false, 65, _) from by rw [hS6]; exact cup_eq ..)))]; repeat (first | rw [Option.bind_some] | rw [Sum.elim_inl] | rw [Sum.elim_inr])
  have hF8 : ∀ xs ys, (cput (cput S6 1013 SL 1 16 xs) 1013 SL 1 16 ys).1 F = some (true, false, 61, [.ref fL, .ref ou, .ref mp, .int (Int32.ofNat c)]) := fun xs ys => by
    rw [cput_ne nFS, cput_ne nFS, t6, if_neg nF2, if_neg (by omega), if_neg nF1, if_neg (by omega)]; exact hF
  rw [xI_o (x := Int32.ofNat c) (hF8 _ _) rfl rfl]; repeat (first | rw [Option.bind_some] | rw [Sum.elim_inl] | rw [Sum.elim_inr])
  rw [i_suc, xP_c (fs' := [.ref fL, .ref ou, .ref mp, .int (Int32.ofNat (c + 1))]) (hF8 _ _) rfl (by simp) rfl]; repeat (first | rw [Option.bind_some] | rw [Sum.elim_inl] | rw [Sum.elim_inr])
  obtain ⟨S9, hS9⟩ : ∃ S9, S9 = cup (cput (cput S6 1013 SL 1 16 (.int (ms + 1) :: rowC (fun j => if j = 2 * c then Value.ref s.2.1 else .ref (si j)) (2 * c + 1))) 1013 SL 1 16 (.int (ms + 1 + 1) :: rowC (fun j => if j = 2 * c + 1 then .ref (s.2.1 + 1) else (if j = 2 * c then Value.ref s.2.1 else .ref (si j))) (2 * c + 1 + 1))) F (true, false, 61, [.ref fL, .ref ou, .ref mp, .int (Int32.ofNat (c + 1))]) := ⟨_, rfl⟩
  rw [← hS9]
  have t9 : ∀ q, q ≠ F → q ≠ SL → S9.1 q = S6.1 q := fun q e1 e2 => by rw [hS9, cup_ne e1, cput_ne e2, cput_ne e2]
  have wS9 : wfS S9 := by rw [hS9]; exact wf_cup (wf_chg (wf_cup (wf_chg (wf_cup wS6 (by omega))) (by show _ < S6.2.1; omega))) (by show _ < S6.2.1; omega)
  have l9 : S9.2.1 = s.2.1 + 2 ∧ S9.2.2.1 = s.2.2.1 + 4 ∧ S9.2.2.2 = s.2.2.2 + 44 := by
    rw [hS9]
    refine ⟨l6.1, ?_, ?_⟩
    · show S6.2.2.1 + 1 + 1 = _; omega
    · show S6.2.2.2 + 16 + 16 = _; omega
  have keep : ∀ q d, s.1 q = some d → q ≠ F → q ≠ SL → q ≠ aid x y → q ≠ aid u v → S9.1 q = some d := fun q d h1 h2 h3 h4 h5 => by
    have := wf_lt hw h1
    rw [t9 q h2 h3, t6, if_neg h5, if_neg (by omega), if_neg h4, if_neg (by omega)]; exact h1
  have sib : ∀ k, k < 2 * c → si k < s.2.1 := fun k hk => wf_lt hw (hsd k hk).2.1
  -- the new sides
  obtain ⟨si', hsi⟩ : ∃ si' : Nat → Nat, si' = fun k => if k = 2 * c then s.2.1 else if k = 2 * c + 1 then s.2.1 + 1 else si k := ⟨_, rfl⟩
  have si0 : si' (2 * c) = s.2.1 := by rw [hsi]; exact if_pos rfl
  have si1 : si' (2 * c + 1) = s.2.1 + 1 := by rw [hsi]; dsimp only; rw [if_neg (by omega), if_pos rfl]
  have sio : ∀ k, k < 2 * c → si' k = si k := fun k hk => by rw [hsi]; dsimp only; rw [if_neg (by omega), if_neg (by omega)]
  have a0 := sX_i hg (show 2 * c < 2 * nP L nl by omega)
  have lvs : ∀ a b e : Nat, vR ((lvC L nl (c + 1) a b e).map si') = if a = x ∧ b = y ∧ e = D0 then .ref s.2.1 else if a = u ∧ b = v ∧ e = D1 then .ref (s.2.1 + 1) else vR ((lvC L nl c a b e).map si) := by
    intro a b e
    rw [lvC_succ hg hc, hx, hy, hD0, hD1, show sX L nl (2 * c + 1) = u by rw [g6, ← g3], show sY L nl (2 * c + 1) = v by rw [g7, ← g4]]
    by_cases e1 : a = x ∧ b = y ∧ e = D0
    · rw [if_pos e1, if_pos e1, Option.map_some, si0]; rfl
    · rw [if_neg e1, if_neg e1]
      by_cases e2 : a = u ∧ b = v ∧ e = D1
      · rw [if_pos e2, if_pos e2, Option.map_some, si1]; rfl
      · rw [if_neg e2, if_neg e2]
        cases hq : lvC L nl c (a : Int) b e with
        | none => rfl
        | some k =>
          have : k < 2 * c := by
            unfold lvC at hq
            have := (Option.filter_eq_some_iff.mp hq).2
            exact of_decide_eq_true this
          rw [Option.map_some, Option.map_some, sio k this]
  refine ⟨S9, si', ms + 1 + 1, rfl, ⟨wS9, by omega, fun q hq => ?_, ⟨?_, fun a b hV => ?_, hN.2.2.1, hN.2.2.2⟩, ?_, ?_, fun k hk => ?_, fun j k hj hk hjk => ?_, bF, bS⟩, l9.2.1, l9.2.2, fun q hq h1 h2 h3 => ?_, by omega⟩
  · rw [t9 q (by omega) (by omega), t6, if_neg (by omega), if_neg (by omega), if_neg (by omega), if_neg (by omega)]; exact hfr q hq
  · obtain ⟨⟨mc, es, m1, ⟨m, m2, m2b, m2c⟩, m3⟩, m4, m5, m6⟩ := hN
    have nm1 : mp ≠ F := apart m1 hF (by show ¬ (1042 : Nat) = 61; decide)
    have nm2 : mp ≠ SL := apart m1 hS (by show ¬ (1042 : Nat) = 1013; decide)
    have nm3 : mp ≠ aid x y := apart m1 p8 (by show ¬ (1042 : Nat) = 7; decide)
    have nm4 : mp ≠ aid u v := apart m1 q8 (by show ¬ (1042 : Nat) = 7; decide)
    refine ⟨mc, es, keep _ _ m1 nm1 nm2 nm3 nm4, ⟨m, Mp_rk m2 (fun z hz => ?_), m2b, m2c⟩, m3⟩
    obtain ⟨a, b, hV, rfl⟩ := m3 z hz
    obtain ⟨r1, r2, _, _, _, r3, _⟩ := m4 a b hV
    rw [rkP_pt r3 r1 r2, rkP_pt (keep _ _ r3 (apart r3 hF (by show ¬ (63 : Nat) = 61; decide)) (apart r3 hS (by show ¬ (63 : Nat) = 1013; decide)) (apart r3 p8 (by show ¬ (63 : Nat) = 7; decide)) (apart r3 q8 (by show ¬ (63 : Nat) = 7; decide))) r1 r2]
  · obtain ⟨r1, r2, r3, r4, r5, r6, r7, r8⟩ := hN.2.1 a b hV
    refine ⟨r1, r2, r3, r4, r5, keep _ _ r6 (apart r6 hF (by show ¬ (63 : Nat) = 61; decide)) (apart r6 hS (by show ¬ (63 : Nat) = 1013; decide)) (apart r6 p8 (by show ¬ (63 : Nat) = 7; decide)) (apart r6 q8 (by show ¬ (63 : Nat) = 7; decide)), keep _ _ r7 (apart r7 hF (by show ¬ (64 : Nat) = 61; decide)) (apart r7 hS (by show ¬ (64 : Nat) = 1013; decide)) (apart r7 p8 (by show ¬ (64 : Nat) = 7; decide)) (apart r7 q8 (by show ¬ (64 : Nat) = 7; decide)), ?_⟩
    have nf : aid a b ≠ F := apart r8 hF (by show ¬ (7 : Nat) = 61; decide)
    have ns : aid a b ≠ SL := apart r8 hS (by show ¬ (7 : Nat) = 1013; decide)
    have lt := wf_lt hw r8
    rw [t9 _ nf ns, t6]
    have row : (fun e : Nat => vR ((lvC L nl (c + 1) (a : Nat) (b : Nat) e).map si')) = fun e : Nat => if a = x ∧ b = y ∧ e = D0 then .ref s.2.1 else if a = u ∧ b = v ∧ e = D1 then .ref (s.2.1 + 1) else vR ((lvC L nl c a b e).map si) := funext (lvs a b)
    rw [row]
    by_cases e1 : a = u ∧ b = v
    · rw [if_pos (by rw [e1.1, e1.2])]
      refine congrArg (fun l => some (true, true, 7, l)) (rowC_congr (fun e _ => ?_))
      have n0 : ¬ (a = x ∧ b = y ∧ e = D0) := fun z => nse ⟨by rw [← z.1, e1.1], by rw [← z.2.1, e1.2]⟩
      simp only [if_neg n0]
      rw [← hA2]
      by_cases e2 : e = D1
      · rw [if_pos e2, if_pos ⟨e1.1, e1.2, e2⟩]
      · rw [if_neg e2, if_neg (fun z => e2 z.2.2), e1.1, e1.2]
    · rw [if_neg (fun z => e1 (hN.2.2.1 a b u v hV v2 z)), if_neg (by omega)]
      by_cases e2 : a = x ∧ b = y
      · rw [if_pos (by rw [e2.1, e2.2])]
        refine congrArg (fun l => some (true, true, 7, l)) (rowC_congr (fun e _ => ?_))
        rw [← hA1]
        by_cases e3 : e = D0
        · rw [if_pos e3, if_pos ⟨e2.1, e2.2, e3⟩]
        · rw [if_neg e3, if_neg (fun z => e3 z.2.2), if_neg (fun z => e1 ⟨z.1, z.2.1⟩), e2.1, e2.2]
      · rw [if_neg (fun z => e2 (hN.2.2.1 a b x y hV v1 z)), if_neg (by omega), r8]
        refine congrArg (fun l => some (true, true, 7, l)) (rowC_congr (fun e _ => ?_))
        rw [if_neg (fun z => e2 ⟨z.1, z.2.1⟩), if_neg (fun z => e1 ⟨z.1, z.2.1⟩)]
  · rw [hS9, cup_eq]
  · have : S9.1 SL = some (true, false, 1013, .int (ms + 1 + 1) :: rowC (fun j => if j = 2 * c + 1 then .ref (s.2.1 + 1) else (if j = 2 * c then Value.ref s.2.1 else .ref (si j))) (2 * c + 1 + 1)) := by rw [hS9, cup_ne nFS.symm, cput_eq]
    rw [this, show 2 * (c + 1) = 2 * c + 1 + 1 by omega]
    refine congrArg (fun l => some (true, false, 1013, .int (ms + 1 + 1) :: l)) (rowC_congr (fun j hj => ?_))
    rw [hsi]
    dsimp only
    by_cases e1 : j = 2 * c + 1
    · rw [if_pos e1, if_neg (by omega), if_pos e1]
    · rw [if_neg e1, if_neg e1]
      by_cases e2 : j = 2 * c
      · rw [if_pos e2, if_pos e2]
      · rw [if_neg e2, if_neg e2]
  · by_cases e0 : k = 2 * c
    · rw [e0, si0, hx, hy]
      refine ⟨hb, ?_, v1⟩
      rw [t9 _ (by omega) (by omega), t6, if_neg (by omega), if_neg (by omega), if_neg (by omega), if_pos rfl]
      unfold sdC
      rw [show 2 * c / 2 = c by omega, hll, hx, hy, hu, hv, hD0, show bkS (2 * c) = 2 * c + 1 by unfold bkS; rw [if_pos (by omega)], si1]
    · by_cases e1 : k = 2 * c + 1
      · rw [e1, si1, g6, g7, ← g3, ← g4]
        refine ⟨by omega, ?_, v2⟩
        rw [t9 _ (by omega) (by omega), t6, if_neg (by omega), if_pos rfl]
        unfold sdC
        rw [show (2 * c + 1) / 2 = c by omega, hll, g6, g7, g8, g9, hD1, show bkS (2 * c + 1) = 2 * c by unfold bkS; rw [if_neg (by omega)]; omega, si0, g1, g2, g3, g4]
      · have hk' : k < 2 * c := by omega
        obtain ⟨r1, r2, r3⟩ := hsd k hk'
        rw [sio k hk']
        refine ⟨r1, ?_, r3⟩
        rw [keep _ _ r2 (apart r2 hF (by show ¬ (65 : Nat) = 61; decide)) (apart r2 hS (by show ¬ (65 : Nat) = 1013; decide)) (apart r2 p8 (by show ¬ (65 : Nat) = 7; decide)) (apart r2 q8 (by show ¬ (65 : Nat) = 7; decide))]
        unfold sdC
        rw [sio (bkS k) (bkS_lt hk')]
  · have c3 : ∀ k, k < 2 * (c + 1) → (k < 2 * c ∧ si' k = si k ∧ si k < s.2.1) ∨ (k = 2 * c ∧ si' k = s.2.1) ∨ (k = 2 * c + 1 ∧ si' k = s.2.1 + 1) := fun k hk => by
      by_cases e0 : k = 2 * c
      · exact Or.inr (Or.inl ⟨e0, by rw [e0, si0]⟩)
      · by_cases e1 : k = 2 * c + 1
        · exact Or.inr (Or.inr ⟨e1, by rw [e1, si1]⟩)
        · exact Or.inl ⟨by omega, sio k (by omega), sib k (by omega)⟩
    rcases c3 j hj with ⟨a, b, d⟩ | ⟨a, b⟩ | ⟨a, b⟩ <;> rcases c3 k hk with ⟨a', b', d'⟩ | ⟨a', b'⟩ | ⟨a', b'⟩ <;> first | omega | (rw [b, b'] at hjk; exact hij j k a a' hjk)
  · rw [t9 q h1 h2, t6, if_neg (h3 u v v2), if_neg (by omega), if_neg (h3 x y v1), if_neg (by omega)]
end
