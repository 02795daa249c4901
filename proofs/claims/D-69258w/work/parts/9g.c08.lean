/-! cells: smoke, both sides -/
section
variable {own : Nat → Nat} {s : CS} {t : TS} {nl nr nd sm : Nat} {W : Nat → Nat} {e q g wn : Nat → Int32} {sc : Nat → Nat}
theorem nsB_fr {xs : List Value} (hv : ∀ c, bit xs c = true ↔ c < 576 ∧ t.2.2.1 44 c = 1) (hn : nl ≤ 20) {k : Nat} (hk : k < 576) : (bit xs k = true ∨ frS xs t nl 576 0 k) ↔ nsB t nl k 4 := by
  unfold nsB
  rw [hv k]
  constructor
  · rintro (h | ⟨c, d, g1, g2, g3, g4, g5⟩)
    · exact Or.inl h.2
    · have hc : c < 576 := by omega
      have hne : bsd c d ≠ 576 := by omega
      refine Or.inr ⟨opp d, opp_lt g2, ?_, ?_, ?_⟩
      · rw [← g4, bsd_opp hc g2 hne]; omega
      · rw [← g4, bsd_opp hc g2 hne]; exact ((hv c).mp g1).2
      · rw [← g4]; exact (psB_opp hn hc g2 hne).mp g5
  · rintro (h | ⟨d, g2, g3, g4, g5⟩)
    · exact Or.inl ⟨hk, h⟩
    · have hc := ((grd hk g2).2 g3).2.2
      exact Or.inr ⟨bsd k d, opp d, (hv _).mpr ⟨hc, g4⟩, opp_lt g2, Or.inl hc, bsd_opp hk g2 g3, (psB_opp hn hk g2 g3).mp g5⟩
theorem ce_smk {nw' : Nat} (hw : wfS s) (hs : 179 ≤ s.2.1) (hK : K9 s.1) (r : R9x (rs s.1 own 9) t nl nr nd sm W e q g wn sc) (hb : t.1 1 ≠ 0) (hnw : nw' ≤ 6000) (h101 : s.1 101 = some (true, false, 56, [.int (t.1 2)])) (h2 : t.1 2 = Int32.ofNat nw') : ∃ s' T own' sm', c_547 170 s = some s' ∧ (if t.1 2 - t.1 2 / (10 : Int32) * (10 : Int32) = 0 then Option.bind (t_664 t) (fun x4 => some x4) else some t) = some T ∧ R9x (rs s'.1 own' 9) T nl nr nd sm' W e q g wn sc ∧ Frm (fun X => X = 9) own own' s s' ∧ T.1 = t.1 ∧ (∀ Z, Z ≠ 9 → rt T Z = rt t Z) ∧ s'.2.2.1 ≤ s.2.2.1 + (if nw' % 10 = 0 then 12 else 0) ∧ s'.2.2.2 ≤ s.2.2.2 + (if nw' % 10 = 0 then 190 else 0) := by
  have qq := R9_raw r
  have qq0 := qq
  obtain ⟨⟨a1, a2, a3, a4, a5, a6, a7, a8⟩, ⟨s1, ⟨xs, s2, s3, s4⟩, s5⟩, vb, hnow, hbb, _⟩ := qq
  obtain ⟨b1, b2, b3, b4, b5, b6, b7⟩ := hbb hb
  unfold c_547
  rw [xN_o (b := 101) a1 rfl rfl]; repeat (first | rw [Option.bind_some] | rw [Sum.elim_inl] | rw [Sum.elim_inr])
  rw [xI_o (x := t.1 2) h101 rfl rfl]; repeat (first | rw [Option.bind_some] | rw [Sum.elim_inl] | rw [Sum.elim_inr])
  rw [h2, i_modL (by omega) (by omega)]
  by_cases z : ¬ nw' % 10 = 0
  · have : ¬ Int32.ofNat (nw' % 10) = 0 := by rw [i_eqL (by omega) (by omega)]; exact z
    rw [if_neg this, if_neg this, if_neg z, if_neg z]
    exact ⟨s, t, own, sm, rfl, rfl, r, Frm.refl hw, rfl, fun _ _ => rfl, Nat.le_refl _, Nat.le_refl _⟩
  replace z := Classical.not_not.mp z
  rw [z, if_pos (show Int32.ofNat 0 = 0 from rfl), if_pos (show Int32.ofNat 0 = 0 from rfl), if_pos rfl, if_pos rfl]
  obtain ⟨T, t1, t2, t3, t4, t5⟩ := t_spr (nl := nl) s5 b1
  rw [t1]; repeat (first | rw [Option.bind_some] | rw [Sum.elim_inl] | rw [Sum.elim_inr])
  obtain ⟨S1, e1, n1, n2, n3, n4, n5, n6⟩ := nw_o (s := s) 3 [.null, .int 0, .int 0] hw
  have n6' : S1.2.2.2 = s.2.2.2 + 3 := n6
  rw [e1]; repeat (first | rw [Option.bind_some] | rw [Sum.elim_inl] | rw [Sum.elim_inr] | rw [if_neg (show ¬ (1 : Int32) = 0 by decide)] | rw [if_pos (show (0 : Int32) = 0 from rfl)] | rw [if_pos (show true = true from rfl)] | rw [if_neg (show ¬ false = true by decide)] | dsimp only)
  rw [if_pos (isK_t n1 rfl), bsInit_o n1]; repeat (first | rw [Option.bind_some] | rw [Sum.elim_inl] | rw [Sum.elim_inr])
  have l170 := wf_lt hw a1
  have lsm := wf_lt hw s2
  generalize hS4 : chg (cup S1 s.2.1 (true, false, 1003, [])) 1 1 = S4
  have m1 : S4.1 s.2.1 = some (true, false, 1003, []) := by rw [← hS4]; exact cup_eq ..
  have m2 : ∀ q, q ≠ s.2.1 → S4.1 q = s.1 q := fun q hq => by rw [← hS4]; exact (cup_ne hq).trans (n2 q hq)
  have m3 : S4.2.1 = s.2.1 + 1 := by rw [← hS4]; exact n3
  have m4 : wfS S4 := by rw [← hS4]; exact wf_chg (wf_cup n4 (by omega))
  have m5 : S4.2.2.1 = s.2.2.1 + 2 := by rw [← hS4]; show S1.2.2.1 + 1 = _; omega
  have m6 : S4.2.2.2 = s.2.2.2 + 4 := by rw [← hS4]; show S1.2.2.2 + 1 = _; omega
  have c170 : S4.1 170 = _ := (m2 170 (by omega)).trans a1
  have csm : S4.1 sm = _ := (m2 sm (by omega)).trans s2
  rw [xR_o (b := sm) c170 rfl rfl]; repeat (first | rw [Option.bind_some] | rw [Sum.elim_inl] | rw [Sum.elim_inr])
  obtain ⟨zs, y1, y2, y3⟩ := bsOr_r m1 csm (by omega) s3
  rw [if_pos (isK_t m1 rfl), y1]; repeat (first | rw [Option.bind_some] | rw [Sum.elim_inl] | rw [Sum.elim_inr])
  generalize hS7 : cput S4 1003 s.2.1 1 (2 * (xs.length / 64) + 2) zs = S7
  have hlen : xs.length ≤ 576 := by
    rcases s3 with h | h
    · omega
    · have := ((s4 _).mp h).1; omega
  have zlen : zs.length = xs.length := by rw [y2]; simp
  have k1 : S7.1 s.2.1 = some (true, false, 1003, zs) := by rw [← hS7]; exact cput_eq ..
  have k2 : ∀ q, q ≠ s.2.1 → S7.1 q = s.1 q := fun q hq => by rw [← hS7]; exact (cput_ne hq).trans (m2 q hq)
  have k3 : S7.2.1 = s.2.1 + 1 := by rw [← hS7]; exact m3
  have k4 : wfS S7 := by rw [← hS7]; exact wf_cup m4 (by omega)
  have k5 : S7.2.2.1 = s.2.2.1 + 3 := by rw [← hS7]; show S4.2.2.1 + 1 = _; omega
  have k6 : S7.2.2.2 ≤ s.2.2.2 + 24 := by rw [← hS7]; show S4.2.2.2 + (2 * (xs.length / 64) + 2) ≤ _; omega
  have zb : ∀ k, bit zs k = bit xs k := fun k => by rw [y3]; simp [bit]
  have d170 : S7.1 170 = _ := (k2 170 (by omega)).trans a1
  have dsm : S7.1 sm = _ := (k2 sm (by omega)).trans s2
  have hK7 : K9 S7.1 := by
    obtain ⟨⟨w1, x1⟩, w2, x2⟩ := hK
    exact ⟨⟨w1, (k2 61 (by omega)).trans x1⟩, w2, (k2 62 (by omega)).trans x2⟩
  have r7 : R9x S7.1 t nl nr nd sm W e q g wn sc := R9x_cg qq0 (fun a c h => by rw [k2 a (by have := wf_lt hw h; omega)]; exact h) rfl rfl rfl rfl (fun _ => rfl)
  have i0 : SpI S7 S7 xs t nl s.2.1 0 0 := by
    refine ⟨zs, k1, ?_, fun k => ?_, fun _ _ => rfl, rfl, k4, ?_, ?_⟩
    · rw [zlen, zb]; exact s3
    · rw [zb]
      constructor
      · exact fun h => ⟨((s4 k).mp h).1, Or.inl h⟩
      · rintro ⟨g1, g2 | ⟨c, d, _, _, g3, _⟩⟩
        · exact g2
        · omega
    · unfold wcB; omega
    · unfold wcB; omega
  -- the bits in their order
  have mv : ∀ (S : CS) (i j : Nat), i ≤ j → (∀ k, i ≤ k → k < j → bit xs k = false) → SpI S7 S xs t nl s.2.1 i 0 → SpI S7 S xs t nl s.2.1 j 0 := fun S i j hij hno h => SpI_cg h (fun k => by
    constructor
    · rintro ⟨c', d', g1, g2, g3, g4, g5⟩
      exact ⟨c', d', g1, g2, by omega, g4, g5⟩
    · rintro ⟨c', d', g1, g2, g3, g4, g5⟩
      refine ⟨c', d', g1, g2, Or.inl ?_, g4, g5⟩
      apply Classical.byContradiction
      intro hu
      rw [hno c' (by omega) (by omega)] at g1
      cases g1)
  have key : ∀ (S : CS) (i : Nat), i ≤ 576 → S.1 sm = some (true, false, 1003, xs) → SpI S7 S xs t nl s.2.1 i 0 → ∃ n, bsNext S sm (Int32.ofNat i) = some n ∧ ((n < 0 ∧ SpI S7 S xs t nl s.2.1 576 0) ∨ ∃ j, n = Int32.ofNat j ∧ i ≤ j ∧ j < 576 ∧ bit xs j = true ∧ SpI S7 S xs t nl s.2.1 j 0) := fun S i hi hS h => by
    rcases bsNext_r hS (show i < 2147483648 by omega) with ⟨h1, h2⟩ | ⟨j, h1, h2, h3, h4⟩
    · exact ⟨_, h1, Or.inl ⟨by decide, mv S i 576 hi (fun k h5 _ => h2 k h5) h⟩⟩
    · have hj := ((s4 j).mp h3).1
      exact ⟨_, h1, Or.inr ⟨j, rfl, h2, hj, h3, mv S i j h2 (fun k h5 h6 => h4 k h5 h6) h⟩⟩
  obtain ⟨n0, f1, f2⟩ := key S7 0 (by omega) dsm i0
  replace f1 : bsNext S7 sm 0 = some n0 := f1
  rw [xN_o (b := sm) d170 rfl rfl]; repeat (first | rw [Option.bind_some] | rw [Sum.elim_inl] | rw [Sum.elim_inr])
  rw [if_pos (isK_t dsm rfl), f1]; repeat (first | rw [Option.bind_some] | rw [Sum.elim_inl] | rw [Sum.elim_inr])
  obtain ⟨x, h1, h2'⟩ := wh_ind (step := (fun p20 : CS × Int32 => (if p20.2 < 0 then some (.inr p20.1) else Option.bind (wh (S := CS × Int32) (X := CS) (fun p24 => Option.bind (aLen p24.1 61) (fun x10 => (if p24.2 < x10 then Option.bind (c_543 p20.2 p24.2 p24.1) (fun x11 => Option.bind ((if x11 = (-1) then some p24.1 else Option.bind (xN p24.1 [(50, 3)] 170) (fun a12 => Option.bind (aI p24.1 [0, 12] a12 ((4 * p20.2) + p24.2)) (fun x13 => (if x13 = (-2) then some p24.1 else (if isK p24.1 [3] s.2.1 = true then Option.bind (bsSet p24.1 s.2.1 x11) (fun s14 => some s14) else none)))))) (fun v48 => some (.inl (v48, p24.2 + 1)))) else some (.inr p24.1)))) (p20.1, 0)) (fun v50 => Option.bind (xN v50 [(50, 7)] 170) (fun a15 => (if isK v50 [3] a15 = true then Option.bind (bsNext v50 a15 (p20.2 + 1)) (fun x16 => some (Sum.inl (β := CS) (v50, x16))) else none)))))) (st := (S7, n0)) (P := fun a : CS × Int32 => (a.2 < 0 ∧ SpI S7 a.1 xs t nl s.2.1 576 0) ∨ ∃ j, a.2 = Int32.ofNat j ∧ j < 576 ∧ bit xs j = true ∧ SpI S7 a.1 xs t nl s.2.1 j 0) (Q := fun x => SpI S7 x xs t nl s.2.1 576 0) (fun a => if a.2 < 0 then 0 else 577 - bN a.2) (by
    rintro ⟨S, n⟩ (⟨h1, h2⟩ | ⟨j, rfl, hj, hb', h2⟩)
    · left
      dsimp only at h1 h2 ⊢
      exact ⟨_, by rw [if_pos h1], h2⟩
    · right
      dsimp only at h2 ⊢
      obtain ⟨S', g1, g2⟩ := sp_cell hK7 r7 hb hs hj hb' h2
      have g2' := g2
      obtain ⟨ys, _, _, _, h4, _⟩ := g2'
      have e170 : S'.1 170 = _ := (h4 170 (by omega)).trans d170
      have esm : S'.1 sm = _ := (h4 sm (by omega)).trans dsm
      obtain ⟨n, u1, u2⟩ := key S' (j + 1) (by omega) esm g2
      refine ⟨(S', n), ?_, ?_, ?_⟩
      · rw [if_neg (i_nlt0 (by omega)), g1, Option.bind_some, xN_o (b := sm) e170 rfl rfl, Option.bind_some, if_pos (isK_t esm rfl), i_suc, u1, Option.bind_some]
      · rcases u2 with ⟨u2, u3⟩ | ⟨k, rfl, u2, u3, u4, u5⟩
        · exact Or.inl ⟨u2, u3⟩
        · exact Or.inr ⟨k, rfl, u3, u4, u5⟩
      · rw [if_neg (i_nlt0 (by omega)), bN_of (by omega)]
        rcases u2 with ⟨u2, u3⟩ | ⟨k, rfl, u2, u3, u4, u5⟩
        · rw [if_pos u2]; omega
        · rw [if_neg (i_nlt0 (by omega)), bN_of (by omega)]; omega) (by
    rcases f2 with ⟨u2, u3⟩ | ⟨k, rfl, u2, u3, u4, u5⟩
    · exact Or.inl ⟨u2, u3⟩
    · exact Or.inr ⟨k, rfl, u3, u4, u5⟩)
  rw [h1]; repeat (first | rw [Option.bind_some] | rw [Sum.elim_inl] | rw [Sum.elim_inr])
  obtain ⟨ys, v1, v2, v3, v4, v5, v6, v7, v8⟩ := h2'
  have g170 : x.1 170 = _ := (v4 170 (by omega)).trans d170
  rw [xP_c (fs' := [.ref 101, .int (t.1 1), .ref 171, .ref 172, .ref 173, .ref 174, .ref 175, .ref s.2.1, .ref 177, .ref 178]) g170 rfl (by simp) rfl]; repeat (first | rw [Option.bind_some] | rw [Sum.elim_inl] | rw [Sum.elim_inr])
  have hyl : ys.length ≤ 576 := by
    rcases v2 with h | h
    · omega
    · have := ((v3 _).mp h).1; omega
  have hwc : wcB ys ≤ 9 := by unfold wcB; omega
  have oC := rs_in r.1.1
  have ho : ∀ q, q < s.2.1 → givs own s.2.1 1 9 q = own q := fun q hq => if_neg (by omega)
  have hx2 : x.2.1 = s.2.1 + 1 := v5.trans k3
  have qx : ∀ q, q < s.2.1 → x.1 q = s.1 q := fun q hq => (v4 q (by omega)).trans (k2 q (by omega))
  refine ⟨_, T, givs own s.2.1 1 9, s.2.1, rfl, rfl, R9_smk (sm' := s.2.1) (xs := ys) r (fun a c h5 h6 h7 => rs_keep hw ho h7 ((cup_ne h5).trans (qx a (wf_lt hw (rs_in h7).1)))) (rs_some.mpr ⟨(ho 170 l170).trans oC.2, cup_eq ..⟩) (Or.inr hs) (rs_some.mpr ⟨if_pos ⟨Nat.le_refl _, by omega⟩, (cup_ne (by omega)).trans v1⟩) v2 (fun c => ?_) (fun c hc => (t4 c hc).1) (fun c _ => by rw [t2]) t3, ⟨?_, ho, fun b hb1 hb2 => ?_, fun b h5 h6 => ?_, wf_cup v6 (by omega)⟩, t2, t5, ?_, ?_⟩
  · rw [v3]
    constructor
    · rintro ⟨g1, g2⟩
      exact ⟨g1, (t4 c g1).2.mpr ((nsB_fr s4 b1.2.1 g1).mp g2)⟩
    · rintro ⟨g1, g2⟩
      exact ⟨g1, (nsB_fr s4 b1.2.1 g1).mpr ((t4 c g1).2.mp g2)⟩
  · show s.2.1 ≤ x.2.1; omega
  · exact (cup_ne (fun z => hb2 (by rw [z]; exact oC.2))).trans (qx b hb1)
  · have h6' : b < x.2.1 := h6
    exact if_pos ⟨h5, by omega⟩
  · show x.2.2.1 ≤ _; omega
  · show x.2.2.2 ≤ _; omega
end
