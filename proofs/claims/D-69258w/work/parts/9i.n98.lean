/-! the plan: gaps, the component: a line's walk -/
section
variable {s S : CS} {t T : TS} {L : PLn} {nl nr : Nat} {st ln : Nat → Nat} {lab : Int → Int → Int} {LC LD : Nat → Nat} {DC : Nat → Nat → Nat} {fd fL ou ol mp : Nat} {pid nid aid : Nat → Nat → Nat} {si rc rl sp sl : Nat → Nat} {nd : Nat → Nat} {gps : List (Nat × Nat × Nat)} {x y : Nat}
theorem LL_bd {nm : Nat → Int32} (F : FT t L nl nr st ln lab nm) (q : Nat) : -1 ≤ gLL (gS L nl) lab q ∧ gLL (gS L nl) lab q ≤ 400 := by
  have hle := FT_le F
  rcases LL_lt F q with h | ⟨n, h, hn⟩ <;> omega
/-- where a walk along a line is -/
noncomputable def cwG (L : PLn) (nl l i : Nat) : Nat := if i < (plst L nl l).length then kAn L nl ((plst L nl l).getD i 0) else pN L l
theorem gp_step (hw : wfS s) (F : FNx s t L nl nr st ln lab LC fd fL ou ol mp pid nid aid si rc rl sp sl) (H : DrH s t L nl LC LD DC nd) (r : GpS s S t L nl lab gps x y) (hlen : gps.length < 2000) {l d i : Nat} (hl : l < nl) (hd : d < nd l) (hi : i < (plst L nl l).length) : ∃ S', Option.bind (some (nid (aX L l (cwG L nl l i)) (aY L l (cwG L nl l i)))) (fun a12 => Option.bind (xN S [(64, 0)] a12) (fun a13 => Option.bind (xI S [(63, 0)] a13) (fun x14 => (if isK S [59] (LC l) = true then Option.bind (c_867 (LC l) S) (fun x15 => Option.bind ((if x14 = x15 then Option.bind (xN S [(64, 0)] a12) (fun a16 => Option.bind (xI S [(63, 1)] a16) (fun x17 => (if isK S [59] (LC l) = true then Option.bind (c_868 (LC l) S) (fun x18 => (if x17 = x18 then some (.inr (.inr S)) else some (.inl ()))) else none))) else some (.inl ()))) (Sum.elim (fun (v31 : Unit) => Option.bind (xR S [(64, 1)] a12) (fun r19 => Option.bind (xI S [(59, 1)] (LC l)) (fun x20 => Option.bind ((if x20 = 0 then some 1 else some 0)) (fun v39 => Option.bind (r19) (fun a21 => Option.bind (aR S a21 v39) (fun r22 => Option.bind (r22) (fun a23 => Option.bind (xN S [(65, 1)] a23) (fun a24 => Option.bind (xN S [(64, 0)] a24) (fun a25 => Option.bind (xI S [(63, 0)] a25) (fun x26 => Option.bind (xI S [(59, 3)] (LC l)) (fun x27 => Option.bind (xN S [(65, 1)] a23) (fun a28 => Option.bind (xN S [(64, 0)] a28) (fun a29 => Option.bind (xI S [(63, 1)] a29) (fun x30 => Option.bind (xI S [(59, 4)] (LC l)) (fun x31 => Option.bind (xI S [(60, 0)] (DC l d)) (fun x32 => Option.bind (c_47 x32 (((x26 - x27) + x30) - x31) S) (fun x33 => Option.bind (xI S [(60, 1)] (DC l d)) (fun x34 => (if isK S [65] a23 = true then Option.bind (c_884 a23 S) (fun x35 => Option.bind (c_48 x34 ((((x26 - x27) + x30) - x31) + x35) S) (fun x36 => Option.bind (xN S [(65, 5)] a23) (fun a37 => Option.bind (xN S [(66, 3)] a37) (fun a38 => Option.bind (xI S [(62, 0)] a38) (fun x39 => Option.bind (xN S [(65, 4)] a23) (fun a40 => Option.bind (xN S [(65, 5)] a40) (fun a41 => Option.bind (xN S [(66, 3)] a41) (fun a42 => Option.bind (xI S [(62, 0)] a42) (fun x43 => Option.bind ((if x33 < x36 then (if x39 = x43 then some S else Option.bind (some (nw S 79 [.int 0, .int 0, .int 0, .int 0, .int 0, .int 0])) (fun n44 => Option.bind (xI n44.2 [(59, 0)] (LC l)) (fun x45 => (if isK n44.2 [79] n44.1 = true then Option.bind (c_983 n44.1 x45 (Int32.ofNat d) x39 x43 x33 x36 n44.2) (fun x46 => (if isK x46 [13] s.2.1 = true then Option.bind (alAdd x46 s.2.1 (.ref n44.1)) (fun s47 => some s47) else none)) else none)))) else some S)) (fun v100 => Option.bind (xR v100 [(65, 2)] a23) (fun r48 => (some (.inl (v100, r48)) : Option (Sum (CS × Option Nat) CS))))))))))))) else none))))))))))))))))))) (fun z => some z))) else none)))) = some (.inl (S', some (nid (aX L l (cwG L nl l (i + 1))) (aY L l (cwG L nl l (i + 1)))))) ∧ GpS s S' t L nl lab (gps ++ (if okG t L nl lab l d ((plst L nl l).getD i 0) = true then [(l, d, (plst L nl l).getD i 0)] else [])) x y := by
  have hle := FN_le F
  have old : ∀ {V : CS}, (∀ q, q < s.2.1 → V.1 q = s.1 q) → ∀ a c, s.1 a = some c → V.1 a = some c := fun {V} h a c e => by rw [h a (wf_lt hw e)]; exact e
  have ex := old r.2.2.1
  have FS := FN_ext F ex
  obtain ⟨p1, p2⟩ := plst_at hi
  obtain ⟨k1, k2, k3, _⟩ := k_in p1
  have cw : cwG L nl l i = kAn L nl ((plst L nl l).getD i 0) := if_pos hi
  have cw2 : cwG L nl l (i + 1) = kB L nl ((plst L nl l).getD i 0) := by
    unfold cwG
    by_cases z : i + 1 < (plst L nl l).length
    · rw [if_pos z, plst_s hl z]
    · rw [if_neg z, plst_e hl (by omega)]
  rw [cw, cw2]
  generalize (plst L nl l).getD i 0 = p at *
  subst p2
  have hq : 2 * p < 2 * nP L nl := by omega
  obtain ⟨h1, h2, _, h4⟩ := H _ hl
  obtain ⟨da, db, dr, d1, d2, d3, d4, d5⟩ := h4 d hd
  have eA : dA t (kL L nl p) d = da := by unfold dA; rw [d2, i_clamp (by omega)]
  have eB : dB t (kL L nl p) d = db := by unfold dB; rw [d3, i_clamp (by omega)]
  have hg := F.1.1
  obtain ⟨⟨rv, G, _⟩, _⟩ := FS.2
  obtain ⟨y1, y2, y3, y4, y5, y6, y7⟩ := GSt_sd hg G hq
  obtain ⟨x1, x2, x3, x4, b1, b2, b3, b4⟩ := sX_i hg hq
  obtain ⟨p', l', A, B, e1, e2, e3, e4, e5, e6, e7, e8, e9⟩ := gS_c hq
  rw [show 2 * p / 2 = p by omega] at e1
  subst e1
  subst e3
  subst e4
  subst e5
  have md : ¬ 2 * p' % 2 = 1 := by omega
  have dirs : sX L nl (2 * p') = aX L (kL L nl p') (kAn L nl p') ∧ sY L nl (2 * p') = aY L (kL L nl p') (kAn L nl p') ∧ eX L nl (2 * p') = aX L (kL L nl p') (kB L nl p') ∧ eY L nl (2 * p') = aY L (kL L nl p') (kB L nl p') ∧ gdr (gS L nl) (2 * p') = (if pFl L (kL L nl p') = true then 0 else 1) := by
    unfold aX aY
    rcases e9 with ⟨z0, zF, z, z1, z2, z3, z4⟩ | ⟨z0, zF, z, z1, z2, z3, z4⟩ | ⟨z0, _⟩ | ⟨z0, _⟩
    · rw [if_pos zF, if_pos zF, if_pos zF, if_pos zF, if_pos zF]
      exact ⟨by omega, by omega, by omega, by omega, z⟩
    · have zF' : ¬ pFl L (kL L nl p') = true := by rw [zF]; decide
      rw [if_neg zF', if_neg zF', if_neg zF', if_neg zF', if_neg zF']
      exact ⟨by omega, by omega, by omega, by omega, z⟩
    · exact absurd z0 md
    · exact absurd z0 md
  obtain ⟨s1, s2, s3, s4, s5⟩ := dirs
  rw [← s1, ← s2, ← s3, ← s4]
  have lC := ex _ _ h1
  have dC := ex _ _ d1
  obtain ⟨kq, svq, a', b', c', _, _, w0, w1, w2⟩ := FN_sr FS hq
  obtain ⟨kb, svb, a'', b'', c'', _, _, v0, v1, v2⟩ := FN_sr FS (bkS_lt hq)
  have eb : bkS (2 * p') = 2 * p' + 1 := by unfold bkS; rw [if_pos (by omega)]
  have ifv : (if (if pFl L (kL L nl p') = true then (1 : Int32) else 0) = 0 then some (1 : Int32) else some 0) = some (Int32.ofNat (gdr (gS L nl) (2 * p'))) := by
    rw [s5]
    by_cases z : pFl L (kL L nl p') = true
    · rw [if_pos z, if_pos z]; rfl
    · rw [if_neg z, if_neg z]; rfl
  have hdr : gdr (gS L nl) (2 * p') < 4 := gS_d4 hq
  have lvq : lvF L nl (sX L nl (2 * p')) (sY L nl (2 * p')) (gdr (gS L nl) (2 * p')) = some (2 * p') := lv_cut hg hq ⟨x1, x2, rfl⟩
  have hN : kB L nl p' ≤ 24 := by
    obtain ⟨_, c1, c2⟩ := hg.2.1 _ k1
    unfold pHX at c1
    unfold pHY at c2
    by_cases z : pFl L (kL L nl p') = true
    · rw [if_pos z] at c1; omega
    · rw [if_neg z] at c2; omega
  have off : ((Int32.ofNat (sX L nl (2 * p')) - Int32.ofNat (pX L (kL L nl p'))) + Int32.ofNat (sY L nl (2 * p'))) - Int32.ofNat (pY L (kL L nl p')) = Int32.ofNat (kAn L nl p') := by
    rw [← i_ofI, ← i_ofI, ← i_ofI, ← i_ofI, ← i_ofI, i_subI, i_addI, i_subI]
    congr 1
    rw [s1, s2]
    unfold aX aY
    by_cases z : pFl L (kL L nl p') = true
    · rw [if_pos z, if_pos z]; omega
    · rw [if_neg z, if_neg z]; omega
  have slq : sln L nl (2 * p') = kB L nl p' - kAn L nl p' := by unfold sln; rw [show 2 * p' / 2 = p' by omega]
  have g1 : ∀ g : Sum Unit (Sum (CS × Option Nat) CS) → Option (Sum (CS × Option Nat) CS), Option.bind (if Int32.ofNat (sX L nl (2 * p')) = Int32.ofNat (pHX L (kL L nl p')) then Option.bind (some (pid (sX L nl (2 * p')) (sY L nl (2 * p')))) (fun a16 => Option.bind (xI S [(63, 1)] a16) (fun x17 => (if isK S [59] (LC (kL L nl p')) = true then Option.bind (c_868 (LC (kL L nl p')) S) (fun x18 => (if x17 = x18 then some (.inr (.inr S)) else some (.inl ()))) else none))) else some (.inl ())) g = g (.inl ()) := by
    intro g
    have bb := hg.2.1 _ k1
    by_cases z : Int32.ofNat (sX L nl (2 * p')) = Int32.ofNat (pHX L (kL L nl p'))
    · rw [if_pos z, Option.bind_some, xI_o (x := Int32.ofNat (sY L nl (2 * p'))) y3 rfl rfl, Option.bind_some, if_pos (isK_t lC rfl), c_eY lC, Option.bind_some, if_neg (fun w => ?_)]
      · rfl
      · have z1 := (i_inj (by omega) (by omega)).mp z
        have z2 := (i_inj (by omega) (by omega)).mp w
        rw [s1] at z1
        rw [s2] at z2
        unfold aX pHX at z1
        unfold aY pHY at z2
        by_cases zF : pFl L (kL L nl p') = true
        · rw [if_pos zF, if_pos zF] at z1; omega
        · rw [if_neg zF, if_neg zF] at z2; omega
    · rw [if_neg z]
      rfl
  rw [Option.bind_some, xN_o (b := pid (sX L nl (2 * p')) (sY L nl (2 * p'))) y2 rfl rfl, Option.bind_some, xI_o (x := Int32.ofNat (sX L nl (2 * p'))) y3 rfl rfl, Option.bind_some, if_pos (isK_t lC rfl), c_eX lC, Option.bind_some, g1, Sum.elim_inl]
  rw [xR_o (b := aid (sX L nl (2 * p')) (sY L nl (2 * p'))) y2 rfl rfl, Option.bind_some, xI_o (x := if pFl L (kL L nl p') = true then 1 else 0) lC rfl rfl, Option.bind_some, ifv, Option.bind_some, Option.bind_some, aR_out y7 hdr, lvq, Option.bind_some]
  rw [show Option.map si (some (2 * p')) = some (si (2 * p')) from rfl, Option.bind_some, xN_o (b := nid (sX L nl (2 * p')) (sY L nl (2 * p'))) y1 rfl rfl, Option.bind_some, xN_o (b := pid (sX L nl (2 * p')) (sY L nl (2 * p'))) y2 rfl rfl, Option.bind_some, xI_o (x := Int32.ofNat (sX L nl (2 * p'))) y3 rfl rfl, Option.bind_some, xI_o (x := Int32.ofNat (pX L (kL L nl p'))) lC rfl rfl, Option.bind_some, Option.bind_some, xN_o (b := pid (sX L nl (2 * p')) (sY L nl (2 * p'))) y2 rfl rfl, Option.bind_some, xI_o (x := Int32.ofNat (sY L nl (2 * p'))) y3 rfl rfl, Option.bind_some, xI_o (x := Int32.ofNat (pY L (kL L nl p'))) lC rfl rfl, Option.bind_some, xI_o (x := Int32.ofNat da) dC rfl rfl, Option.bind_some, off, c_max (by omega) (by omega), Option.bind_some, xI_o (x := Int32.ofNat db) dC rfl rfl, Option.bind_some, if_pos (isK_t w0 rfl), c_slen FS hq, Option.bind_some, slq, i_ofI, i_add, show kAn L nl p' + (kB L nl p' - kAn L nl p') = kB L nl p' by omega, c_min (by omega) (by omega), Option.bind_some]
  rw [xN_o (b := rc kq) w0 rfl rfl, Option.bind_some, xN_o (b := spo ou sp (gLL (gS L nl) lab (2 * p'))) w1 rfl rfl, Option.bind_some, xI_o (x := Int32.ofInt (gLL (gS L nl) lab (2 * p'))) w2 rfl rfl, Option.bind_some, xN_o (b := si (bkS (2 * p'))) w0 rfl rfl, Option.bind_some, xN_o (b := rc kb) v0 rfl rfl, Option.bind_some, xN_o (b := spo ou sp (gLL (gS L nl) lab (bkS (2 * p')))) v1 rfl rfl, Option.bind_some, xI_o (x := Int32.ofInt (gLL (gS L nl) lab (bkS (2 * p')))) v2 rfl rfl, Option.bind_some, eb]
  have eL : Int32.ofInt (gLL (gS L nl) lab (2 * p')) = Int32.ofInt (gLL (gS L nl) lab (2 * p' + 1)) ↔ gLL (gS L nl) lab (2 * p') = gLL (gS L nl) lab (2 * p' + 1) := by
    constructor
    · intro h
      have h := congrArg Int32.toInt h
      have c1 := LL_bd F.1 (2 * p')
      have c2 := LL_bd F.1 (2 * p' + 1)
      rw [Int32.toInt_ofInt_of_le (by omega) (by omega), Int32.toInt_ofInt_of_le (by omega) (by omega)] at h
      exact h
    · intro h; rw [h]
  have ok : okG t L nl lab (kL L nl p') d p' = true ↔ max da (kAn L nl p') < min db (kB L nl p') ∧ gLL (gS L nl) lab (2 * p') ≠ gLL (gS L nl) lab (2 * p' + 1) := by
    unfold okG
    rw [decide_eq_true_iff, eA, eB]
  have fin : ∀ S', GpS s S' t L nl lab (gps ++ (if okG t L nl lab (kL L nl p') d p' = true then [(kL L nl p', d, p')] else [])) x y → ∃ S'_1, Option.bind (some S') (fun v100 => Option.bind (xR v100 [(65, 2)] (si (2 * p'))) (fun r48 => (some (.inl (v100, r48)) : Option (Sum (CS × Option Nat) CS)))) = some (.inl (S'_1, some (nid (eX L nl (2 * p')) (eY L nl (2 * p'))))) ∧ GpS s S'_1 t L nl lab (gps ++ (if okG t L nl lab (kL L nl p') d p' = true then [(kL L nl p', d, p')] else [])) x y := by
    intro S' h
    have FS' := FN_ext F (old h.2.2.1)
    obtain ⟨⟨rv', G', _⟩, _⟩ := FS'.2
    have y1' := (GSt_sd hg G' hq).1
    rw [Option.bind_some, xR_o (b := nid (eX L nl (2 * p')) (eY L nl (2 * p'))) y1' rfl rfl, Option.bind_some]
    exact ⟨_, rfl, h⟩
  by_cases z : max da (kAn L nl p') < min db (kB L nl p')
  · rw [if_pos ((i_lt (by omega) (by omega)).mpr z)]
    by_cases w : gLL (gS L nl) lab (2 * p') = gLL (gS L nl) lab (2 * p' + 1)
    · rw [if_pos (eL.mpr w)]
      refine fin S ?_
      rw [if_neg (fun q => (ok.mp q).2 w), List.append_nil]
      exact r
    · rw [if_neg (fun q => w (eL.mp q))]
      obtain ⟨S1, n1, u1⟩ := nw_o (s := S) 79 [.int 0, .int 0, .int 0, .int 0, .int 0, .int 0] r.1
      have hln : xI (nw S 79 [.int 0, .int 0, .int 0, .int 0, .int 0, .int 0]).2 [(59, 0)] (LC (kL L nl p')) = some (Int32.ofNat (kL L nl p')) := by
        rw [n1]
        have lt := wf_lt r.1 lC
        have e : S1.1 (LC (kL L nl p')) = _ := (u1.2.1 _ (by omega)).trans lC
        exact xI_o e rfl rfl
      obtain ⟨S', g2, g3⟩ := gp_add (l := kL L nl p') (d := d) (p := p') (v2 := Int32.ofNat d) (v3 := Int32.ofInt (gLL (gS L nl) lab (2 * p'))) (v4 := Int32.ofInt (gLL (gS L nl) lab (2 * p' + 1))) (v5 := Int32.ofNat (max da (kAn L nl p'))) (v6 := Int32.ofNat (min db (kB L nl p'))) r hlen (by unfold gapC; rw [eA, eB]) hln
      rw [g2]
      refine fin S' ?_
      rw [if_pos (ok.mpr ⟨z, w⟩)]
      exact g3
  · rw [if_neg (fun q => z ((i_lt (by omega) (by omega)).mp q))]
    refine fin S ?_
    rw [if_neg (fun q => z (ok.mp q).1), List.append_nil]
    exact r
end
