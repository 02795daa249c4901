/-! the plan: the component goes round a ring -/
/-- the least point of the first i sides from s0 on, by its number -/
noncomputable def lpt (L : PLn) (nl s0 : Nat) : Nat → Nat
  | 0 => 25 * sX L nl s0 + sY L nl s0
  | i + 1 => if 25 * sX L nl (itn (gNx L nl) i s0) + sY L nl (itn (gNx L nl) i s0) < lpt L nl s0 i then 25 * sX L nl (itn (gNx L nl) i s0) + sY L nl (itn (gNx L nl) i s0) else lpt L nl s0 i
noncomputable def tnS (L : PLn) (nl s : Nat) : Int := gx0 (gS L nl) s * gy1 (gS L nl) s - gx1 (gS L nl) s * gy0 (gS L nl) s
noncomputable def rvN (L : PLn) (nl s0 i : Nat) (R : Nat) (rv : Nat → Value) : Nat → Value := fun k => @ite _ (∃ j, j < i ∧ itn (gNx L nl) j s0 = k) (Classical.propDecidable _) (.ref R) (rv k)
theorem rvN_in {L : PLn} {nl s0 i R k : Nat} {rv : Nat → Value} (h : ∃ j, j < i ∧ itn (gNx L nl) j s0 = k) : rvN L nl s0 i R rv k = .ref R := if_pos h
theorem rvN_out {L : PLn} {nl s0 i R k : Nat} {rv : Nat → Value} (h : ¬ ∃ j, j < i ∧ itn (gNx L nl) j s0 = k) : rvN L nl s0 i R rv k = rv k := if_neg h
theorem i_mulI (a b : Nat) : Int32.ofNat a * Int32.ofNat b = Int32.ofInt ((a : Int) * b) := by rw [i_mul, ← i_ofI, Int.natCast_mul]
theorem i_subI (a b : Int) : Int32.ofInt a - Int32.ofInt b = Int32.ofInt (a - b) := (Int32.ofInt_sub a b).symm
section
variable {L : PLn} {nl : Nat} {LC LD : Nat → Nat} {b0 : Nat} {h h' h0 : lHeap} {s : CS} {mp : Nat} {pid nid aid : Nat → Nat → Nat} {si : Nat → Nat} {rv : Nat → Value}
theorem lpt_at (hg : gdL L nl) {s0 : Nat} (hs : s0 < 2 * nP L nl) (i : Nat) : ∃ j, j ≤ i ∧ (j < i ∨ j = 0) ∧ lpt L nl s0 i = 25 * sX L nl (itn (gNx L nl) j s0) + sY L nl (itn (gNx L nl) j s0) := by
  induction i with
  | zero => exact ⟨0, Nat.le_refl _, Or.inr rfl, rfl⟩
  | succ i ih =>
    unfold lpt
    split
    · exact ⟨i, by omega, Or.inl (by omega), rfl⟩
    · obtain ⟨j, h1, h2, h3⟩ := ih
      exact ⟨j, by omega, by omega, h3⟩
theorem lpt_pt (hg : gdL L nl) {s0 : Nat} (hs : s0 < 2 * nP L nl) (i : Nat) : isPt L nl (lpt L nl s0 i / 25) (lpt L nl s0 i % 25) ∧ lpt L nl s0 i / 25 < 25 := by
  obtain ⟨j, _, _, e⟩ := lpt_at hg hs i
  have hq := itn_lt gNx_lt hs j
  have b := sX_i hg hq
  obtain ⟨x, y, u, v, h1, h2, h3, h4, h5, h6⟩ := gS_pts hq
  rw [e, show (25 * sX L nl (itn (gNx L nl) j s0) + sY L nl (itn (gNx L nl) j s0)) / 25 = sX L nl (itn (gNx L nl) j s0) by omega, show (25 * sX L nl (itn (gNx L nl) j s0) + sY L nl (itn (gNx L nl) j s0)) % 25 = sY L nl (itn (gNx L nl) j s0) by omega]
  rw [show sX L nl (itn (gNx L nl) j s0) = x by omega, show sY L nl (itn (gNx L nl) j s0) = y by omega]
  exact ⟨h5, (pt_lt hg h5).1⟩
theorem c_cmpP {a b x y u v : Nat} (ha : s.1 a = some (poC x y)) (hb : s.1 b = some (poC u v)) (hx : x < 25) (hy : y < 25) (hu : u < 25) (hv : v < 25) : ∃ w, c_880 a b s = some w ∧ (w < 0 ↔ 25 * x + y < 25 * u + v) := by
  unfold c_880
  rw [xI_o (x := Int32.ofNat x) ha rfl rfl]; repeat (first | rw [Option.bind_some] | rw [Sum.elim_inl] | rw [Sum.elim_inr])
  rw [xI_o (x := Int32.ofNat u) hb rfl rfl]; repeat (first | rw [Option.bind_some] | rw [Sum.elim_inl] | rw [Sum.elim_inr])
  rw [xI_o (x := Int32.ofNat y) ha rfl rfl]; repeat (first | rw [Option.bind_some] | rw [Sum.elim_inl] | rw [Sum.elim_inr])
  rw [xI_o (x := Int32.ofNat v) hb rfl rfl]; repeat (first | rw [Option.bind_some] | rw [Sum.elim_inl] | rw [Sum.elim_inr])
  unfold c_102
  have cmp : ∀ p q : Nat, p < 25 → q < 25 → ∃ w, (if Int32.ofNat p < Int32.ofNat q then some (-1 : Int32) else (if Int32.ofNat p = Int32.ofNat q then some 0 else some 1)) = some w ∧ (w < 0 ↔ p < q) := by
    intro p q hp hq
    by_cases z : p < q
    · exact ⟨-1, if_pos ((i_lt (by omega) (by omega)).mpr z), ⟨fun _ => z, fun _ => by decide⟩⟩
    · rw [if_neg (fun w => z ((i_lt (by omega) (by omega)).mp w))]
      by_cases z2 : p = q
      · exact ⟨0, if_pos (by rw [z2]), ⟨fun w => absurd w (by decide), fun w => absurd w z⟩⟩
      · exact ⟨1, if_neg (fun w => z2 ((i_inj (by omega) (by omega)).mp w)), ⟨fun w => absurd w (by decide), fun w => absurd w z⟩⟩
  by_cases e : x = u
  · rw [if_pos (by rw [e])]
    obtain ⟨w, h1, h2⟩ := cmp y v hy hv
    rw [h1]; repeat (first | rw [Option.bind_some] | rw [Sum.elim_inl] | rw [Sum.elim_inr])
    exact ⟨w, rfl, h2.trans (by omega)⟩
  · rw [if_neg (fun z => e ((i_inj (by omega) (by omega)).mp z))]
    obtain ⟨w, h1, h2⟩ := cmp x u hx hu
    rw [h1]; repeat (first | rw [Option.bind_some] | rw [Sum.elim_inl] | rw [Sum.elim_inr])
    exact ⟨w, rfl, h2.trans (by omega)⟩
theorem c_ringN (hg : gdL L nl) (hw : wfS s) (r : GSt b0 s.1 L nl LC mp pid nid aid si rv) {R s0 m : Nat} (hR : s.1 R = some (true, false, 66, [.null, .null, .int 0, .null])) (hs : s0 < 2 * nP L nl) (hm0 : 0 < m) (hmN : m ≤ 2 * nP L nl) (hm : itn (gNx L nl) m s0 = s0) (hmm : ∀ j, 0 < j → j < m → itn (gNx L nl) j s0 ≠ s0) :
    ∃ s' mc, c_885 R (si s0) s = some s' ∧ wfS s' ∧ GSt b0 s'.1 L nl LC mp pid nid aid si (rvN L nl s0 m R rv) ∧ s'.1 R = some (true, false, 66, [.ref s.2.1, .ref (nid (lpt L nl s0 m / 25) (lpt L nl s0 m % 25)), .int (Int32.ofInt (gsm (tnS L nl) (orb (gNx L nl) m s0))), .null]) ∧ s'.1 s.2.1 = some (true, false, 1013, .int mc :: rowC (fun j => .ref (si (itn (gNx L nl) j s0))) m) ∧ (∀ q, q < s.2.1 → q ≠ R → (∀ k, k < 2 * nP L nl → q ≠ si k) → s'.1 q = s.1 q) ∧ s'.2.1 = s.2.1 + 1 ∧ s'.2.2.1 = s.2.2.1 + 1 + m ∧ s'.2.2.2 = s.2.2.2 + 3 + 16 * m := by
  have hN := nP_le hg
  have ltR := wf_lt hw hR
  have sib : ∀ k, k < 2 * nP L nl → si k < s.2.1 := fun k hk => wf_lt hw (r.2.1 k hk).2
  unfold c_885
  obtain ⟨S1, z1, w1⟩ := nw_o (s := s) 13 [.int 0, .null, .int 0] hw
  rw [z1]; repeat (first | rw [Option.bind_some] | rw [Sum.elim_inl] | rw [Sum.elim_inr])
  dsimp only
  have o1 := Nw_ext hw w1
  rw [if_pos (isK_t w1.1 rfl), alInit_o w1.1]; repeat (first | rw [Option.bind_some] | rw [Sum.elim_inl] | rw [Sum.elim_inr])
  have hR1 : (cup S1 s.2.1 (true, false, 1013, [.int 0])).1 R = some (true, false, 66, [.null, .null, .int 0, .null]) := (cup_ne (by omega)).trans (o1 _ _ hR)
  rw [xP_c (fs' := [.ref s.2.1, .null, .int 0, .null]) hR1 rfl (by simp) rfl]; repeat (first | rw [Option.bind_some] | rw [Sum.elim_inl] | rw [Sum.elim_inr])
  obtain ⟨S2, hS2⟩ : ∃ S2, S2 = cup (cup S1 s.2.1 (true, false, 1013, [.int 0])) R (true, false, 66, [.ref s.2.1, .null, .int 0, .null]) := ⟨_, rfl⟩
  rw [← hS2]
  have t2 : ∀ q, q ≠ R → q ≠ s.2.1 → S2.1 q = s.1 q := fun q h1 h2 => by rw [hS2, cup_ne h1, cup_ne h2, w1.2.1 q h2]
  have nkR : ∀ k, k < 2 * nP L nl → si k ≠ R := fun k hk => apart (r.2.1 k hk).2 hR (by show ¬ (65 : Nat) = 66; decide)
  have hs2 : S2.1 (si s0) = some (sdC L nl LC nid si (rv s0) s0) := by rw [t2 _ (nkR _ hs) (by have := sib _ hs; omega)]; exact (r.2.1 _ hs).2
  rw [xR_o (b := nid (sX L nl s0) (sY L nl s0)) hs2 rfl rfl]; repeat (first | rw [Option.bind_some] | rw [Sum.elim_inl] | rw [Sum.elim_inr])
  rw [xP_c (fs' := [.ref s.2.1, .ref (nid (sX L nl s0) (sY L nl s0)), .int 0, .null]) (by rw [hS2]; exact cup_eq ..) rfl (by simp) rfl]; repeat (first | rw [Option.bind_some] | rw [Sum.elim_inl] | rw [Sum.elim_inr])
  obtain ⟨S3, hS3⟩ : ∃ S3, S3 = cup S2 R (true, false, 66, [.ref s.2.1, .ref (nid (sX L nl s0) (sY L nl s0)), .int 0, .null]) := ⟨_, rfl⟩
  rw [← hS3]
  have t3 : ∀ q, q ≠ R → q ≠ s.2.1 → S3.1 q = s.1 q := fun q h1 h2 => by rw [hS3, cup_ne h1, t2 q h1 h2]
  have l3 : S3.1 s.2.1 = some (true, false, 1013, [.int 0]) := by rw [hS3, cup_ne (by omega), hS2, cup_ne (by omega), cup_eq]
  have R3 : S3.1 R = some (true, false, 66, [.ref s.2.1, .ref (nid (sX L nl s0) (sY L nl s0)), .int 0, .null]) := by rw [hS3, cup_eq]
  have wS3 : wfS S3 := by rw [hS3]; refine wf_cup ?_ ?_; rw [hS2]; exact wf_cup (wf_cup w1.2.2.2.1 (by rw [w1.2.2.1]; omega)) (by show R < S1.2.1; rw [w1.2.2.1]; omega); rw [hS2]; show R < S1.2.1; rw [w1.2.2.1]; omega
  have c3 : S3.2.1 = s.2.1 + 1 ∧ S3.2.2.1 = s.2.2.1 + 1 ∧ S3.2.2.2 = s.2.2.2 + 3 := by rw [hS3, hS2]; exact ⟨w1.2.2.1, w1.2.2.2.2.1, w1.2.2.2.2.2⟩
  have lp0 : lpt L nl s0 0 / 25 = sX L nl s0 ∧ lpt L nl s0 0 % 25 = sY L nl s0 := by
    have := sX_i hg hs
    unfold lpt
    omega
  refine Exists.elim (Tr.bd (o := wh (S := CS × Option Nat) (X := CS) (fun p13 => Option.bind (xN p13.1 [(66, 0)] R) (fun a32 => (if isK p13.1 [13] a32 = true then Option.bind (alAdd p13.1 a32 (vR p13.2)) (fun s33 => Option.bind (p13.2) (fun a34 => Option.bind (xP s33 [(65, 5)] a34 (.ref R)) (fun s35 => Option.bind (xI s35 [(66, 2)] R) (fun x36 => Option.bind (xN s35 [(65, 1)] a34) (fun a37 => Option.bind (xN s35 [(64, 0)] a37) (fun a38 => Option.bind (xI s35 [(63, 0)] a38) (fun x39 => Option.bind (xN s35 [(65, 2)] a34) (fun a40 => Option.bind (xN s35 [(64, 0)] a40) (fun a41 => Option.bind (xI s35 [(63, 1)] a41) (fun x42 => Option.bind (xN s35 [(65, 2)] a34) (fun a43 => Option.bind (xN s35 [(64, 0)] a43) (fun a44 => Option.bind (xI s35 [(63, 0)] a44) (fun x45 => Option.bind (xN s35 [(65, 1)] a34) (fun a46 => Option.bind (xN s35 [(64, 0)] a46) (fun a47 => Option.bind (xI s35 [(63, 1)] a47) (fun x48 => Option.bind (xP s35 [(66, 2)] R (.int (x36 + ((x39 * x42) - (x45 * x48))))) (fun s49 => Option.bind (xN s49 [(65, 1)] a34) (fun a50 => Option.bind (xN s49 [(64, 0)] a50) (fun a51 => Option.bind (xN s49 [(66, 1)] R) (fun a52 => Option.bind (xN s49 [(64, 0)] a52) (fun a53 => (if isK s49 [63] a51 = true then Option.bind (c_880 a51 a53 s49) (fun x54 => Option.bind ((if x54 < 0 then Option.bind (xR s49 [(65, 1)] a34) (fun r56 => some r56) else Option.bind (xR s49 [(66, 1)] R) (fun r55 => some r55))) (fun v59 => Option.bind (xP s49 [(66, 1)] R (vR v59)) (fun s57 => (if isK s57 [65] a34 = true then Option.bind (c_883 a34 s57) (fun x58 => (if x58 = some (si s0) then some (.inr s57) else (if nst s57 (vR x58) = true then some (.inl (s57, x58)) else none))) else none)))) else none)))))))))))))))))))))) else none))) (S3, some (si s0))) (f := fun v66 => some v66) (P := fun s' => ∃ mc : Int32, wfS s' ∧ GSt b0 s'.1 L nl LC mp pid nid aid si (rvN L nl s0 m R rv) ∧ s'.1 R = some (true, false, 66, [.ref s.2.1, .ref (nid (lpt L nl s0 m / 25) (lpt L nl s0 m % 25)), .int (Int32.ofInt (gsm (tnS L nl) (orb (gNx L nl) m s0))), .null]) ∧ s'.1 s.2.1 = some (true, false, 1013, .int mc :: rowC (fun j => .ref (si (itn (gNx L nl) j s0))) m) ∧ (∀ q, q < s.2.1 → q ≠ R → (∀ k, k < 2 * nP L nl → q ≠ si k) → s'.1 q = s.1 q) ∧ s'.2.1 = s.2.1 + 1 ∧ s'.2.2.1 = s.2.2.1 + 1 + m ∧ s'.2.2.2 = s.2.2.2 + 3 + 16 * m) (Q := fun s' => ∃ mc : Int32, wfS s' ∧ GSt b0 s'.1 L nl LC mp pid nid aid si (rvN L nl s0 m R rv) ∧ s'.1 R = some (true, false, 66, [.ref s.2.1, .ref (nid (lpt L nl s0 m / 25) (lpt L nl s0 m % 25)), .int (Int32.ofInt (gsm (tnS L nl) (orb (gNx L nl) m s0))), .null]) ∧ s'.1 s.2.1 = some (true, false, 1013, .int mc :: rowC (fun j => .ref (si (itn (gNx L nl) j s0))) m) ∧ (∀ q, q < s.2.1 → q ≠ R → (∀ k, k < 2 * nP L nl → q ≠ si k) → s'.1 q = s.1 q) ∧ s'.2.1 = s.2.1 + 1 ∧ s'.2.2.1 = s.2.2.1 + 1 + m ∧ s'.2.2.2 = s.2.2.2 + 3 + 16 * m) (wh_cnt m (fun i a => i < m ∧ a.2 = some (si (itn (gNx L nl) i s0)) ∧ ∃ mc : Int32, wfS a.1 ∧ GSt b0 a.1.1 L nl LC mp pid nid aid si (rvN L nl s0 i R rv) ∧ a.1.1 R = some (true, false, 66, [.ref s.2.1, .ref (nid (lpt L nl s0 i / 25) (lpt L nl s0 i % 25)), .int (Int32.ofInt (gsm (tnS L nl) (orb (gNx L nl) i s0))), .null]) ∧ a.1.1 s.2.1 = some (true, false, 1013, .int mc :: rowC (fun j => .ref (si (itn (gNx L nl) j s0))) i) ∧ (∀ q, q < s.2.1 → q ≠ R → (∀ k, k < 2 * nP L nl → q ≠ si k) → a.1.1 q = s.1 q) ∧ a.1.2.1 = s.2.1 + 1 ∧ a.1.2.2.1 = s.2.2.1 + 1 + i ∧ a.1.2.2.2 = s.2.2.2 + 3 + 16 * i) ?_ ?_ ?_) ?_) ?_
  · rintro i ⟨U, _⟩ hi ⟨_, rfl, mc, u1, u2, u3, u4, u5, u6, u7, u8⟩
    dsimp only at u1 u2 u3 u4 u5 u6 u7 u8 ⊢
    have hk := itn_lt gNx_lt hs i
    generalize hke : itn (gNx L nl) i s0 = k at *
    have p1 := (lpt_pt hg hs i).1
    have p2 := (pt_lt hg p1).1
    have p3 := (pt_lt hg p1).2
    rw [xN_o (b := s.2.1) u3 rfl rfl]; repeat (first | rw [Option.bind_some] | rw [Sum.elim_inl] | rw [Sum.elim_inr])
    rw [if_pos (isK_t u4 rfl), show vR (some (si k)) = Value.ref (si k) from rfl, alAdd_r u4 (by omega) (elO_o (show U.1 (si k) = some (true, false, 65, _) from (u2.2.1 k hk).2))]; repeat (first | rw [Option.bind_some] | rw [Sum.elim_inl] | rw [Sum.elim_inr])
    have nl1 : si k ≠ s.2.1 := by have := sib k hk; omega
    have sk : ∀ xs, (cput U 1013 s.2.1 1 16 xs).1 (si k) = some (sdC L nl LC nid si (rvN L nl s0 i R rv k) k) := fun xs => (cput_ne nl1).trans (u2.2.1 k hk).2
    rw [xP_c (fs' := [.ref (LC (kL L nl (k / 2))), .ref (nid (sX L nl k) (sY L nl k)), .ref (nid (eX L nl k) (eY L nl k)), .int (Int32.ofNat (gdr (gS L nl) k)), .ref (si (bkS k)), .ref R]) (sk _) rfl (by simp) rfl]; repeat (first | rw [Option.bind_some] | rw [Sum.elim_inl] | rw [Sum.elim_inr])
    obtain ⟨U2, hU2⟩ : ∃ U2, U2 = cup (cput U 1013 s.2.1 1 16 (.int (mc + 1) :: rowC (fun j => if j = i then Value.ref (si k) else .ref (si (itn (gNx L nl) j s0))) (i + 1))) (si k) (true, false, 65, [.ref (LC (kL L nl (k / 2))), .ref (nid (sX L nl k) (sY L nl k)), .ref (nid (eX L nl k) (eY L nl k)), .int (Int32.ofNat (gdr (gS L nl) k)), .ref (si (bkS k)), .ref R]) := ⟨_, rfl⟩
    rw [← hU2]
    have v1 : ∀ q, q ≠ si k → q ≠ s.2.1 → U2.1 q = U.1 q := fun q h1 h2 => by rw [hU2, cup_ne h1, cput_ne h2]
    have v2 : U2.1 s.2.1 = some (true, false, 1013, .int (mc + 1) :: rowC (fun j => .ref (si (itn (gNx L nl) j s0))) (i + 1)) := by
      rw [hU2, cup_ne nl1.symm, cput_eq]
      refine congrArg (fun l => some (true, false, 1013, .int (mc + 1) :: l)) (rowC_congr (fun j _ => ?_))
      by_cases e : j = i
      · rw [if_pos e, e, hke]
      · rw [if_neg e]
    have v3 : U2.1 (si k) = some (sdC L nl LC nid si (.ref R) k) := by rw [hU2, cup_eq]; rfl
    have wU2 : wfS U2 := by rw [hU2]; exact wf_cup (wf_chg (wf_cup u1 (by omega))) (by show si k < U.2.1; have := sib k hk; omega)
    have cU2 : U2.2.1 = s.2.1 + 1 ∧ U2.2.2.1 = s.2.2.1 + 1 + (i + 1) ∧ U2.2.2.2 = s.2.2.2 + 3 + 16 * (i + 1) := by
      rw [hU2]
      refine ⟨u6, ?_, ?_⟩
      · show U.2.2.1 + 1 = _; omega
      · show U.2.2.2 + 16 = _; omega
    have g2 : GSt b0 U2.1 L nl LC mp pid nid aid si (rvN L nl s0 (i + 1) R rv) := by
      refine GSt_ext u2 (fun q d hq hd hd2 => ?_) (fun j hj => ?_)
      · have n1 : q ≠ si k := apart hq (u2.2.1 k hk).2 hd
        have n2 : q ≠ s.2.1 := apart hq u4 (by intro z; rw [show ((true, false, 1013, Value.int mc :: rowC (fun j => Value.ref (si (itn (gNx L nl) j s0))) i) : lCell).2.2.1 = 1013 from rfl] at z; omega)
        rw [v1 q n1 n2]; exact hq
      · by_cases e : j = k
        · rw [e, v3, rvN_in ⟨i, by omega, hke⟩]
        · have n1 : si j ≠ si k := fun z => e (u2.2.2 j k hj hk z)
          rw [v1 _ n1 (by have := sib j hj; omega), (u2.2.1 j hj).2]
          by_cases w : ∃ q, q < i ∧ itn (gNx L nl) q s0 = j
          · obtain ⟨q, w1, w2⟩ := w
            rw [rvN_in ⟨q, w1, w2⟩, rvN_in ⟨q, by omega, w2⟩]
          · rw [rvN_out w, rvN_out]
            rintro ⟨q, w1, w2⟩
            by_cases e2 : q = i
            · rw [e2, hke] at w2; exact e w2.symm
            · exact w ⟨q, by omega, w2⟩
    have R2 : U2.1 R = some (true, false, 66, [.ref s.2.1, .ref (nid (lpt L nl s0 i / 25) (lpt L nl s0 i % 25)), .int (Int32.ofInt (gsm (tnS L nl) (orb (gNx L nl) i s0))), .null]) := by rw [v1 _ (nkR k hk).symm (by omega)]; exact u3
    obtain ⟨y1, y2, y3, y4, y5, y6, y7⟩ := GSt_sd hg g2 hk
    rw [rvN_in ⟨i, by omega, hke⟩] at y1
    have bk := sX_i hg hk
    rw [xI_o (x := Int32.ofInt (gsm (tnS L nl) (orb (gNx L nl) i s0))) R2 rfl rfl]; repeat (first | rw [Option.bind_some] | rw [Sum.elim_inl] | rw [Sum.elim_inr])
    rw [xN_o (b := nid (sX L nl k) (sY L nl k)) y1 rfl rfl]; repeat (first | rw [Option.bind_some] | rw [Sum.elim_inl] | rw [Sum.elim_inr])
    rw [xN_o (b := pid (sX L nl k) (sY L nl k)) y2 rfl rfl]; repeat (first | rw [Option.bind_some] | rw [Sum.elim_inl] | rw [Sum.elim_inr])
    rw [xI_o (x := Int32.ofNat (sX L nl k)) y3 rfl rfl]; repeat (first | rw [Option.bind_some] | rw [Sum.elim_inl] | rw [Sum.elim_inr])
    rw [xN_o (b := nid (eX L nl k) (eY L nl k)) y1 rfl rfl]; repeat (first | rw [Option.bind_some] | rw [Sum.elim_inl] | rw [Sum.elim_inr])
    rw [xN_o (b := pid (eX L nl k) (eY L nl k)) y4 rfl rfl]; repeat (first | rw [Option.bind_some] | rw [Sum.elim_inl] | rw [Sum.elim_inr])
    rw [xI_o (x := Int32.ofNat (eY L nl k)) y5 rfl rfl]; repeat (first | rw [Option.bind_some] | rw [Sum.elim_inl] | rw [Sum.elim_inr])
    rw [xN_o (b := pid (eX L nl k) (eY L nl k)) y4 rfl rfl]; repeat (first | rw [Option.bind_some] | rw [Sum.elim_inl] | rw [Sum.elim_inr])
    rw [xI_o (x := Int32.ofNat (eX L nl k)) y5 rfl rfl]; repeat (first | rw [Option.bind_some] | rw [Sum.elim_inl] | rw [Sum.elim_inr])
    rw [xN_o (b := pid (sX L nl k) (sY L nl k)) y2 rfl rfl]; repeat (first | rw [Option.bind_some] | rw [Sum.elim_inl] | rw [Sum.elim_inr])
    rw [xI_o (x := Int32.ofNat (sY L nl k)) y3 rfl rfl]; repeat (first | rw [Option.bind_some] | rw [Sum.elim_inl] | rw [Sum.elim_inr])
    rw [i_mulI, i_mulI, i_subI, i_addI]
    have et : gsm (tnS L nl) (orb (gNx L nl) i s0) + ((sX L nl k : Int) * (eY L nl k : Int) - (eX L nl k : Int) * (sY L nl k : Int)) = gsm (tnS L nl) (orb (gNx L nl) (i + 1) s0) := by
      have e : orb (gNx L nl) (i + 1) s0 = orb (gNx L nl) i s0 ++ [itn (gNx L nl) i s0] := by unfold orb; rw [List.range_succ, List.map_append]; rfl
      rw [e, sm_app, sm_sg, hke]
      unfold tnS
      rw [bk.1, bk.2.1, bk.2.2.1, bk.2.2.2.1]
    rw [et, xP_c (fs' := [.ref s.2.1, .ref (nid (lpt L nl s0 i / 25) (lpt L nl s0 i % 25)), .int (Int32.ofInt (gsm (tnS L nl) (orb (gNx L nl) (i + 1) s0))), .null]) R2 rfl (by simp) rfl]; repeat (first | rw [Option.bind_some] | rw [Sum.elim_inl] | rw [Sum.elim_inr])
    obtain ⟨U3, hU3⟩ : ∃ U3, U3 = cup U2 R (true, false, 66, [.ref s.2.1, .ref (nid (lpt L nl s0 i / 25) (lpt L nl s0 i % 25)), .int (Int32.ofInt (gsm (tnS L nl) (orb (gNx L nl) (i + 1) s0))), .null]) := ⟨_, rfl⟩
    rw [← hU3]
    have v4 : ∀ q, q ≠ R → U3.1 q = U2.1 q := fun q hq => by rw [hU3, cup_ne hq]
    have R4 : U3.1 R = some (true, false, 66, [.ref s.2.1, .ref (nid (lpt L nl s0 i / 25) (lpt L nl s0 i % 25)), .int (Int32.ofInt (gsm (tnS L nl) (orb (gNx L nl) (i + 1) s0))), .null]) := by rw [hU3, cup_eq]
    have keep : ∀ q d, U2.1 q = some d → d.2.2.1 ≠ 66 → U3.1 q = some d := fun q d h1 h2 => by rw [v4 q (apart h1 R2 h2)]; exact h1
    have y1' := keep _ _ y1 (by show ¬ (65 : Nat) = 66; decide)
    have y2' := keep _ _ y2 (by show ¬ (64 : Nat) = 66; decide)
    have y3' := keep _ _ y3 (by show ¬ (63 : Nat) = 66; decide)
    obtain ⟨_, _, _, _, _, q6, q7, _⟩ := g2.1.2.1 _ _ p1
    have q6' := keep _ _ q6 (by show ¬ (63 : Nat) = 66; decide)
    have q7' := keep _ _ q7 (by show ¬ (64 : Nat) = 66; decide)
    rw [xN_o (b := nid (sX L nl k) (sY L nl k)) y1' rfl rfl]; repeat (first | rw [Option.bind_some] | rw [Sum.elim_inl] | rw [Sum.elim_inr])
    rw [xN_o (b := pid (sX L nl k) (sY L nl k)) y2' rfl rfl]; repeat (first | rw [Option.bind_some] | rw [Sum.elim_inl] | rw [Sum.elim_inr])
    rw [xN_o (b := nid (lpt L nl s0 i / 25) (lpt L nl s0 i % 25)) R4 rfl rfl]; repeat (first | rw [Option.bind_some] | rw [Sum.elim_inl] | rw [Sum.elim_inr])
    rw [xN_o (b := pid (lpt L nl s0 i / 25) (lpt L nl s0 i % 25)) q7' rfl rfl]; repeat (first | rw [Option.bind_some] | rw [Sum.elim_inl] | rw [Sum.elim_inr])
    rw [if_pos (isK_t y3' rfl)]
    obtain ⟨w, c1, c2⟩ := c_cmpP y3' q6' bk.2.2.2.2.1 bk.2.2.2.2.2.1 p2 p3
    rw [show 25 * (lpt L nl s0 i / 25) + lpt L nl s0 i % 25 = lpt L nl s0 i by omega] at c2
    rw [c1]; repeat (first | rw [Option.bind_some] | rw [Sum.elim_inl] | rw [Sum.elim_inr])
    have v59 : (if w < 0 then Option.bind (xR U3 [(65, 1)] (si k)) (fun r56 => some r56) else Option.bind (xR U3 [(66, 1)] R) (fun r55 => some r55)) = some (some (nid (lpt L nl s0 (i + 1) / 25) (lpt L nl s0 (i + 1) % 25))) := by
      have e : lpt L nl s0 (i + 1) = if 25 * sX L nl k + sY L nl k < lpt L nl s0 i then 25 * sX L nl k + sY L nl k else lpt L nl s0 i := by rw [← hke]; rfl
      rw [e]
      by_cases z : w < 0
      · rw [if_pos z, if_pos (c2.mp z), xR_o (b := nid (sX L nl k) (sY L nl k)) y1' rfl rfl, Option.bind_some, show (25 * sX L nl k + sY L nl k) / 25 = sX L nl k by omega, show (25 * sX L nl k + sY L nl k) % 25 = sY L nl k by omega]
      · rw [if_neg z, if_neg (fun q => z (c2.mpr q)), xR_o (b := nid (lpt L nl s0 i / 25) (lpt L nl s0 i % 25)) R4 rfl rfl, Option.bind_some]
    rw [v59]; repeat (first | rw [Option.bind_some] | rw [Sum.elim_inl] | rw [Sum.elim_inr])
    rw [xP_c (fs' := [.ref s.2.1, .ref (nid (lpt L nl s0 (i + 1) / 25) (lpt L nl s0 (i + 1) % 25)), .int (Int32.ofInt (gsm (tnS L nl) (orb (gNx L nl) (i + 1) s0))), .null]) R4 rfl (by simp) rfl]; repeat (first | rw [Option.bind_some] | rw [Sum.elim_inl] | rw [Sum.elim_inr])
    obtain ⟨U5, hU5⟩ : ∃ U5, U5 = cup U3 R (true, false, 66, [.ref s.2.1, .ref (nid (lpt L nl s0 (i + 1) / 25) (lpt L nl s0 (i + 1) % 25)), .int (Int32.ofInt (gsm (tnS L nl) (orb (gNx L nl) (i + 1) s0))), .null]) := ⟨_, rfl⟩
    rw [← hU5]
    have v5 : ∀ q, q ≠ R → U5.1 q = U2.1 q := fun q hq => by rw [hU5, cup_ne hq, v4 q hq]
    have R5 : U5.1 R = some (true, false, 66, [.ref s.2.1, .ref (nid (lpt L nl s0 (i + 1) / 25) (lpt L nl s0 (i + 1) % 25)), .int (Int32.ofInt (gsm (tnS L nl) (orb (gNx L nl) (i + 1) s0))), .null]) := by rw [hU5, cup_eq]
    have g5 : GSt b0 U5.1 L nl LC mp pid nid aid si (rvN L nl s0 (i + 1) R rv) := by
      refine GSt_ext g2 (fun q d hq hd hd2 => ?_) (fun j hj => ?_)
      · rw [v5 q (apart hq R2 (by intro z; rw [show ((true, false, 66, [Value.ref s.2.1, Value.ref (nid (lpt L nl s0 i / 25) (lpt L nl s0 i % 25)), Value.int (Int32.ofInt (gsm (tnS L nl) (orb (gNx L nl) i s0))), Value.null]) : lCell).2.2.1 = 66 from rfl] at z; omega))]; exact hq
      · rw [v5 _ (nkR j hj)]; exact (g2.2.1 j hj).2
    have wU5 : wfS U5 := by rw [hU5, hU3]; exact wf_cup (wf_cup wU2 (by omega)) (by show R < U2.2.1; omega)
    have cU5 : U5.2 = U2.2 := by rw [hU5, hU3]; rfl
    rw [if_pos (isK_t (g5.2.1 k hk).2 rfl), c_next hg g5 hk]; repeat (first | rw [Option.bind_some] | rw [Sum.elim_inl] | rw [Sum.elim_inr])
    have hnx := gNx_lt k hk
    have l5 : U5.1 s.2.1 = some (true, false, 1013, .int (mc + 1) :: rowC (fun j => .ref (si (itn (gNx L nl) j s0))) (i + 1)) := by rw [v5 _ (by omega)]; exact v2
    have fr5 : ∀ q, q < s.2.1 → q ≠ R → (∀ k, k < 2 * nP L nl → q ≠ si k) → U5.1 q = s.1 q := fun q h1 h2 h3 => by
      rw [v5 q h2, v1 q (h3 k hk) (by omega)]; exact u5 q h1 h2 h3
    have nxe : gNx L nl k = itn (gNx L nl) (i + 1) s0 := by rw [← hke]; rfl
    by_cases e : i + 1 = m
    · left
      have : gNx L nl k = s0 := by rw [nxe, e]; exact hm
      rw [this, if_pos rfl]
      rw [e] at g5 R5 l5 cU2
      exact ⟨U5, rfl, mc + 1, wU5, g5, R5, l5, fr5, by rw [cU5]; exact cU2.1, by rw [cU5]; exact cU2.2.1, by rw [cU5]; exact cU2.2.2⟩
    · right
      have ne : ¬ some (si (gNx L nl k)) = some (si s0) := fun z => by
        have := g5.2.2 _ _ hnx hs (Option.some.inj z)
        rw [nxe] at this
        exact hmm (i + 1) (by omega) (by omega) this
      rw [if_neg ne, if_pos (show nst U5 (vR (some (si (gNx L nl k)))) = true by show (match U5.1 (si (gNx L nl k)) with | some x => x.2.2.1 != 1000 | none => false) = true; rw [(g5.2.1 _ hnx).2]; rfl)]
      exact ⟨_, rfl, by omega, by rw [nxe], mc + 1, wU5, g5, R5, l5, fr5, by show U5.2.1 = _; rw [cU5]; exact cU2.1, by show U5.2.2.1 = _; rw [cU5]; exact cU2.2.1, by show U5.2.2.2 = _; rw [cU5]; exact cU2.2.2⟩
  · rintro ⟨U, _⟩ ⟨h1, _⟩
    exact absurd h1 (Nat.lt_irrefl _)
  · refine ⟨hm0, rfl, 0, wS3, GSt_ext r (fun q d hq hd hd2 => ?_) (fun j hj => ?_), ?_, l3, fun q h1 h2 h3 => t3 q h2 (by omega), c3.1, by dsimp only; omega, by dsimp only; omega⟩
    · have n1 : q ≠ R := apart hq hR (by intro z; rw [show ((true, false, 66, [Value.null, Value.null, Value.int 0, Value.null]) : lCell).2.2.1 = 66 from rfl] at z; omega)
      dsimp only
      rw [t3 q n1 (by have := wf_lt hw hq; omega)]; exact hq
    · dsimp only
      rw [t3 _ (nkR j hj) (by have := sib j hj; omega), rvN_out (by rintro ⟨q, hq, _⟩; exact absurd hq (Nat.not_lt_zero _))]
      exact (r.2.1 j hj).2
    · dsimp only
      rw [R3, lp0.1, lp0.2]; rfl
  · rintro s' hs'
    exact Tr.ok hs'
  · rintro s' ⟨e, mc, z⟩
    exact ⟨s', mc, e, z⟩
end
