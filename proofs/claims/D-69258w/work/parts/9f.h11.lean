/-! the gate: airlocks, the operation -/
theorem lok_mtc {t : TS} {nL p q : Nat} : lok t nL p q ↔ ∃ k, k < nL ∧ mtc t p q k := Iff.rfl
theorem pr_ne {x1 x2 p q p1 p2 : Nat} (h1 : (x1 = p1 ∧ x2 = p2) ∨ (x1 = p2 ∧ x2 = p1)) (h2 : (x1 = p ∧ x2 = q) ∨ (x1 = q ∧ x2 = p)) (h3 : ¬ ((p = p1 ∧ q = p2) ∨ (p = p2 ∧ q = p1))) : False := by omega
section
variable {own : Nat → Nat} {s : CS} {t : TS} {K : Nat}
theorem ga_airlock (hw : wfS s) (hK : K < 1000) (r : R4 (rs s.1 own 4) t K) (v1 v2 v3 : Int32) (hv : v01 v3) : Rg thr0 (fun X => X = 4) 4 (fun H t => R4 (H 4) t (K + 1)) own s t 2 100 (c_1035 108 v1 v2 v3 s) (t_602 v1 v2 v3 t) := by
  obtain ⟨zn, nr, nS, nT, nC, nR, nP, nL, a, rel, S, C, CS', CM, CT, E, RS, RM', RT, P, G, D, L, F, RW, r⟩ := r
  have q := R4_raw r
  have hR := ga_ex r
  have q' := q
  obtain ⟨⟨g, _⟩, _, _, _, _, _, ⟨_, q10, qn, q4, q5, _, qL, q24, qp⟩, _, ⟨_, nlK, _⟩, z0⟩ := q'
  have k89 : isK s [89] 108 = true := isK_t g rfl
  unfold c_1035 t_602
  rw [if_pos k89, ga_por q, q10, isInB, isInB]; repeat (first | rw [Option.bind_some] | rw [Sum.elim_inl] | rw [Sum.elim_inr])
  cases hb : inB v1 (Int32.ofNat nP) with
  | false =>
    exact Rg.arg (x := 0) (a := 0) (b := 0) hw hR rfl (by simp [goes_0]) (by omega) (by omega)
  | true =>
  rw [if_pos rfl]; repeat (first | rw [Option.bind_some] | rw [Sum.elim_inl] | rw [Sum.elim_inr])
  dsimp only
  rw [if_pos k89, ga_por q]
  cases hb2 : inB v2 (Int32.ofNat nP) with
  | false =>
    exact Rg.arg (x := 0) (a := 0) (b := 0) hw hR rfl (by simp [goes_0]) (by omega) (by omega)
  | true =>
  obtain ⟨p1, hp1, rfl⟩ := inB_nat nP (by omega) hb
  obtain ⟨p2, hp2, rfl⟩ := inB_nat nP (by omega) hb2
  have hbu : ¬ t.1 1 = 0 := fun z => by have := (z0 z).2.2.2.2.1; omega
  obtain ⟨h1, h1b, h1c⟩ := q4 p1 hp1
  obtain ⟨h2, h2b, h2c⟩ := q4 p2 hp2
  rw [if_pos rfl, bN_of (by omega), bN_of (by omega)]; repeat (first | rw [Option.bind_some] | rw [Sum.elim_inl] | rw [Sum.elim_inr] | rw [if_neg (show ¬ (1 : Int32) = 0 by decide)] | rw [if_pos (show (0 : Int32) = 0 from rfl)] | rw [if_pos (show true = true from rfl)] | rw [if_neg (show ¬ false = true by decide)] | dsimp only)
  have hns : nst s (.ref (P p1)) = true := by
    unfold nst
    simp only [h1, porC]; rfl
  by_cases hne : p1 = p2
  · rw [if_pos (congrArg P hne)]; repeat (first | rw [Option.bind_some] | rw [Sum.elim_inl] | rw [Sum.elim_inr])
    rw [need_eq, if_pos rfl]
    exact Rg.arg (x := 0) (a := 0) (b := 0) hw hR rfl (by rw [hne]; simp [goes_0]) (by omega) (by omega)
  · rw [if_neg (fun z => hne (q5 p1 p2 hp1 hp2 z)), if_pos hns, if_neg (show ¬ Int32.ofNat p1 = Int32.ofNat p2 from fun z => hne ((i_inj (by omega) (by omega)).mp z))]; repeat (first | rw [Option.bind_some] | rw [Sum.elim_inl] | rw [Sum.elim_inr])
    rw [need_eq]; repeat (first | rw [Option.bind_some] | rw [Sum.elim_inl] | rw [Sum.elim_inr] | rw [if_neg (show ¬ (1 : Int32) = 0 by decide)] | rw [if_pos (show (0 : Int32) = 0 from rfl)] | rw [if_pos (show true = true from rfl)] | rw [if_neg (show ¬ false = true by decide)] | dsimp only)
    rw [goes_1 t hbu]; repeat (first | rw [Option.bind_some] | rw [Sum.elim_inl] | rw [Sum.elim_inr] | rw [if_neg (show ¬ (1 : Int32) = 0 by decide)] | rw [if_pos (show (0 : Int32) = 0 from rfl)] | rw [if_pos (show true = true from rfl)] | rw [if_neg (show ¬ false = true by decide)] | dsimp only)
    obtain ⟨_, _, _, _, _, _, _, _, _, xa, xa1, xa2⟩ := h1c
    obtain ⟨_, _, _, _, _, _, _, _, _, xb, xb1, xb2⟩ := h2c
    have nLL : L p1 ≠ L p2 := fun z => hne (qL p1 p2 hp1 hp2 z)
    have lL1 := wf_lt hw xa1
    have lL2 := wf_lt hw xb1
    rw [xN_o (b := L p1) h1 rfl rfl]; repeat (first | rw [Option.bind_some] | rw [Sum.elim_inl] | rw [Sum.elim_inr])
    rw [if_pos (isK_t xa1 rfl), bsGet_r xa1 (by omega)]; repeat (first | rw [Option.bind_some] | rw [Sum.elim_inl] | rw [Sum.elim_inr])
    rw [if_pos (isK_t xa1 rfl)]
    obtain ⟨n1, m1, ys1, e1, e2, e3, e4⟩ := bsSetB_r (v := v3) xa1 (show p2 < 1000000 by omega)
    rw [e1]; repeat (first | rw [Option.bind_some] | rw [Sum.elim_inl] | rw [Sum.elim_inr])
    have w1 : (cput s 1003 (L p1) n1 m1 ys1).1 (P p2) = _ := (cput_ne (apart h2 xa1 (by show (80 : Nat) ≠ 1003; decide))).trans h2
    have w2 : (cput s 1003 (L p1) n1 m1 ys1).1 (L p2) = _ := (cput_ne nLL.symm).trans xb1
    rw [xN_o (b := L p2) w1 rfl rfl]; repeat (first | rw [Option.bind_some] | rw [Sum.elim_inl] | rw [Sum.elim_inr])
    obtain ⟨n2, m2, ys2, f1, f2, f3, f4⟩ := bsSetB_r (v := v3) w2 (show p1 < 1000000 by omega)
    rw [if_pos (isK_t w2 rfl), f1]; repeat (first | rw [Option.bind_some] | rw [Sum.elim_inl] | rw [Sum.elim_inr])
    have h24 : (ptI t 0 0).1 24 = Int32.ofNat nL := q24
    obtain ⟨x, g1, g2⟩ := t_lock (t := ptI t 0 0) (p := p1) (q := p2) h24 (by omega)
    rw [g1]; repeat (first | rw [Option.bind_some] | rw [Sum.elim_inl] | rw [Sum.elim_inr])
    have hvB : (!(v3 == 0)) = true ↔ v3 = 1 := by rcases hv with z | z <;> rw [z] <;> decide
    have hfit : fits .boolean (.int (if bit xa p2 = true then (1 : Int32) else 0)) = true := by
      by_cases z : bit xa p2 = true
      · rw [if_pos z]; rfl
      · rw [if_neg z]; rfl
    rw [if_pos hfit]
    -- whether they are an airlock
    have hlk : bit xa p2 = true ↔ ∃ k, k < nL ∧ mtc t p1 p2 k := by
      rw [xa2 p2]
      exact ⟨fun z => z.2, fun z => ⟨by omega, z⟩⟩
    -- the end, by what the twin's pairs are
    have fin : ∀ (T : TS) (nL' : Nat) (x0 : Int32), x0 = (if bit xa p2 = true then 1 else 0) → T.1 0 = 0 → (∀ Z, Z ≠ 4 → Z ≠ 99 → rt T Z = rt t Z) → (∀ c, c ≠ 0 → c ≠ 24 → T.1 c = t.1 c) → T.1 24 = Int32.ofNat nL' → nL' ≤ K + 1 → (∀ c j, c ≠ 20 → c ≠ 21 → T.2.2.1 c j = t.2.2.1 c j) → (∀ p q, p < nP → q < 1400 → (lok T nL' p q ↔ if (p = p1 ∧ q = p2) ∨ (p = p2 ∧ q = p1) then v3 = 1 else lok t nL p q)) → (∀ k, k < nL' → bel (T.2.2.1 20 k) nP ∧ bel (T.2.2.1 21 k) nP ∧ T.2.2.1 20 k ≠ T.2.2.1 21 k ∧ ∀ j, j < k → ¬ ((T.2.2.1 20 j = T.2.2.1 20 k ∧ T.2.2.1 21 j = T.2.2.1 21 k) ∨ (T.2.2.1 20 j = T.2.2.1 21 k ∧ T.2.2.1 21 j = T.2.2.1 20 k))) → Rg thr0 (fun X => X = 4) 4 (fun H t => R4 (H 4) t (K + 1)) own s t 2 100 (some (.inl ((if bit xa p2 = true then (1 : Int32) else 0), cput (cput s 1003 (L p1) n1 m1 ys1) 1003 (L p2) n2 m2 ys2))) (some (x0, T)) := by
      intro T nL' x0 hx0 y0 yrt y1 y24 yn y3 yl yp
      have oA := rs_in (r.2.2.2.2.2.2.1.2.2.2.1 p1 hp1).2.2.2.2.2.2.2.2.2.2.2.choose_spec.1
      have oB := rs_in (r.2.2.2.2.2.2.1.2.2.2.1 p2 hp2).2.2.2.2.2.2.2.2.2.2.2.choose_spec.1
      have hs' : ∀ q, q ≠ L p1 → q ≠ L p2 → (cput (cput s 1003 (L p1) n1 m1 ys1) 1003 (L p2) n2 m2 ys2).1 q = s.1 q := fun q h1 h2 => by rw [cput_ne h2, cput_ne h1]
      refine Or.inl ⟨_, _, T, own, rfl, by rw [hx0], y0, yrt, ⟨Nat.le_refl _, fun _ _ => rfl, fun q hq hx => hs' q (fun z => hx (by rw [z]; exact oA.2)) (fun z => hx (by rw [z]; exact oB.2)), fun q h1 h2 => absurd h2 (Nat.not_lt.mpr h1), ?_⟩, ⟨zn, nr, nS, nT, nC, nR, nP, nL', a, rel, S, C, CS', CM, CT, E, RS, RM', RT, P, G, D, L, F, RW, R4_lok r hbu hp1 hp2 (fun q c h1 h2 h3 => rs_keep hw (fun _ _ => rfl) h3 (hs' q h1 h2)) y1 y24 yn y3 (fun p hp => ?_) yp⟩, by show s.2.2.1 + n1 + n2 ≤ _; omega, by show s.2.2.2 + m1 + m2 ≤ _; omega⟩
      · intro q hq
        have hq : s.2.1 ≤ q := hq
        rw [hs' q (by omega) (by omega)]; exact hw q hq
      · obtain ⟨xs, z1, z2⟩ := (r.2.2.2.2.2.2.1.2.2.2.1 p hp).2.2.2.2.2.2.2.2.2.2.2
        have oz := rs_in z1
        by_cases k1 : p = p1
        · subst k1
          refine ⟨ys1, rs_some.mpr ⟨oA.2, by rw [cput_ne nLL, cput_eq]⟩, fun q => ?_⟩
          rw [e4 q]
          by_cases k2 : q = p2
          · subst k2
            rw [if_pos rfl, hvB]
            constructor
            · intro z; exact ⟨by omega, (yl p q hp (by omega)).mpr (by rw [if_pos (Or.inl ⟨rfl, rfl⟩)]; exact z)⟩
            · intro z; have := (yl p q hp z.1).mp z.2; rw [if_pos (Or.inl ⟨rfl, rfl⟩)] at this; exact this
          · rw [if_neg k2, xa2 q]
            constructor
            · intro z; exact ⟨z.1, (yl p q hp z.1).mpr (by rw [if_neg (by omega)]; exact z.2)⟩
            · intro z; have := (yl p q hp z.1).mp z.2; rw [if_neg (by omega)] at this; exact ⟨z.1, this⟩
        · by_cases k3 : p = p2
          · subst k3
            refine ⟨ys2, rs_some.mpr ⟨oB.2, by rw [cput_eq]⟩, fun q => ?_⟩
            rw [f4 q]
            by_cases k2 : q = p1
            · subst k2
              rw [if_pos rfl, hvB]
              constructor
              · intro z; exact ⟨by omega, (yl p q hp (by omega)).mpr (by rw [if_pos (Or.inr ⟨rfl, rfl⟩)]; exact z)⟩
              · intro z; have := (yl p q hp z.1).mp z.2; rw [if_pos (Or.inr ⟨rfl, rfl⟩)] at this; exact this
            · rw [if_neg k2, xb2 q]
              constructor
              · intro z; exact ⟨z.1, (yl p q hp z.1).mpr (by rw [if_neg (by omega)]; exact z.2)⟩
              · intro z; have := (yl p q hp z.1).mp z.2; rw [if_neg (by omega)] at this; exact ⟨z.1, this⟩
          · refine ⟨xs, rs_some.mpr ⟨oz.2, by rw [hs' _ (fun z => k1 (qL p p1 hp hp1 z)) (fun z => k3 (qL p p2 hp hp2 z))]; exact oz.1⟩, fun q => ?_⟩
            rw [z2 q]
            constructor
            · intro z; exact ⟨z.1, (yl p q hp z.1).mpr (by rw [if_neg (by omega)]; exact z.2)⟩
            · intro z; have := (yl p q hp z.1).mp z.2; rw [if_neg (by omega)] at this; exact ⟨z.1, this⟩
    have inj : ∀ {j k : Nat}, j < 1400 → k < 1400 → (Int32.ofNat j = Int32.ofNat k ↔ j = k) := fun h1 h2 => i_inj (by omega) (by omega)
    -- pairs matched
    have mt : ∀ {T : TS} {k x1 x2 p q : Nat}, p < 1400 → q < 1400 → x1 < 1400 → x2 < 1400 → T.2.2.1 20 k = Int32.ofNat x1 → T.2.2.1 21 k = Int32.ofNat x2 → (mtc T p q k ↔ (x1 = p ∧ x2 = q) ∨ (x1 = q ∧ x2 = p)) := by
      intro T k x1 x2 p q hp hq hx1 hx2 e1 e2
      unfold mtc
      rw [e1, e2, inj hx1 hp, inj hx2 hq, inj hx1 hq, inj hx2 hp]
    rcases g2 with ⟨rfl, hno⟩ | ⟨k0, hk0, rfl, hmt⟩
    · have hno' : ∀ j, j < nL → ¬ mtc t p1 p2 j := hno
      have hb0 : bit xa p2 = false := by
        cases hh : bit xa p2 with
        | false => rfl
        | true =>
          obtain ⟨k, z1, z2⟩ := hlk.mp hh
          exact absurd z2 (hno' k z1)
      have hl0 : ∀ p q, (p = p1 ∧ q = p2) ∨ (p = p2 ∧ q = p1) → ¬ lok t nL p q := by
        intro p q hpq ⟨k, z1, z2⟩
        refine hno' k z1 ?_
        rcases hpq with ⟨rfl, rfl⟩ | ⟨rfl, rfl⟩
        · exact z2
        · exact z2.symm
      rw [if_pos (show (-1 : Int32) < 0 by decide), if_pos (show (-1 : Int32) < 0 by decide)]
      rcases hv with rfl | rfl
      · rw [if_pos rfl]; repeat (first | rw [Option.bind_some] | rw [Sum.elim_inl] | rw [Sum.elim_inr])
        rw [if_pos (show (-1 : Int32) < 0 by decide)]
        refine fin (ptI t 0 0) nL 0 (by rw [hb0]; rfl) rfl (fun Z _ h9 => ptI_rt h9) (fun c h1 _ => if_neg h1) h24 (by omega) (fun _ _ _ _ => rfl) (fun p q hp hq => ?_) qp
        by_cases z : (p = p1 ∧ q = p2) ∨ (p = p2 ∧ q = p1)
        · rw [if_pos z]
          exact ⟨fun w => absurd w (hl0 p q z), fun w => absurd w (by decide)⟩
        · rw [if_neg z]; exact Iff.rfl
      · rw [if_neg (show ¬ (1 : Int32) = 0 by decide), h24, stI_n (by omega) (by omega)]; repeat (first | rw [Option.bind_some] | rw [Sum.elim_inl] | rw [Sum.elim_inr])
        rw [show (wrI (ptI t 0 0) 20 nL (Int32.ofNat p1)).1 24 = Int32.ofNat nL from q24, stI_n (by omega) (by omega)]; repeat (first | rw [Option.bind_some] | rw [Sum.elim_inl] | rw [Sum.elim_inr])
        rw [show (wrI (wrI (ptI t 0 0) 20 nL (Int32.ofNat p1)) 21 nL (Int32.ofNat p2)).1 24 = Int32.ofNat nL from q24, i_suc]; repeat (first | rw [Option.bind_some] | rw [Sum.elim_inl] | rw [Sum.elim_inr])
        rw [if_pos (show (-1 : Int32) < 0 by decide)]
        have T3 : ∀ c j, (ptI (wrI (wrI (ptI t 0 0) 20 nL (Int32.ofNat p1)) 21 nL (Int32.ofNat p2)) 24 (Int32.ofNat (nL + 1))).2.2.1 c j = if c = 21 ∧ j = nL then Int32.ofNat p2 else if c = 20 ∧ j = nL then Int32.ofNat p1 else t.2.2.1 c j := fun _ _ => rfl
        have mT : ∀ p q k, k ≠ nL → (mtc (ptI (wrI (wrI (ptI t 0 0) 20 nL (Int32.ofNat p1)) 21 nL (Int32.ofNat p2)) 24 (Int32.ofNat (nL + 1))) p q k ↔ mtc t p q k) := fun p q k hk => by
          unfold mtc
          simp only [T3, hk, and_false, if_false]
        have T20 : (ptI (wrI (wrI (ptI t 0 0) 20 nL (Int32.ofNat p1)) 21 nL (Int32.ofNat p2)) 24 (Int32.ofNat (nL + 1))).2.2.1 20 nL = Int32.ofNat p1 := by rw [T3, if_neg (by omega), if_pos ⟨rfl, rfl⟩]
        have T21 : (ptI (wrI (wrI (ptI t 0 0) 20 nL (Int32.ofNat p1)) 21 nL (Int32.ofNat p2)) 24 (Int32.ofNat (nL + 1))).2.2.1 21 nL = Int32.ofNat p2 := by rw [T3, if_pos ⟨rfl, rfl⟩]
        refine fin _ (nL + 1) 0 (by rw [hb0]; rfl) rfl (fun Z h4 h9 => by rw [rt_ptI (by show (4 : Nat) ≠ Z; omega), rt_wrI (by show (4 : Nat) ≠ Z; omega), rt_wrI (by show (4 : Nat) ≠ Z; omega), ptI_rt h9]) (fun c h1 h2 => by rw [pt_1, if_neg h2]; exact if_neg h1) rfl (by omega) (fun c j z1 z2 => by rw [T3, if_neg (by omega), if_neg (by omega)]) (fun p q hp hq => ?_) (fun k hk => ?_)
        · have key : lok (ptI (wrI (wrI (ptI t 0 0) 20 nL (Int32.ofNat p1)) 21 nL (Int32.ofNat p2)) 24 (Int32.ofNat (nL + 1))) (nL + 1) p q ↔ lok t nL p q ∨ (p1 = p ∧ p2 = q) ∨ (p1 = q ∧ p2 = p) := by
            rw [lok_mtc, lok_mtc]
            constructor
            · rintro ⟨k, z1, z2⟩
              by_cases z : k = nL
              · subst z
                exact Or.inr ((mt (by omega) hq (by omega) (by omega) T20 T21).mp z2)
              · exact Or.inl ⟨k, by omega, (mT p q k z).mp z2⟩
            · rintro (⟨k, z1, z2⟩ | z)
              · exact ⟨k, by omega, (mT p q k (by omega)).mpr z2⟩
              · exact ⟨nL, by omega, (mt (by omega) hq (by omega) (by omega) T20 T21).mpr z⟩
          rw [key]
          by_cases z : (p = p1 ∧ q = p2) ∨ (p = p2 ∧ q = p1)
          · rw [if_pos z]
            exact ⟨fun _ => rfl, fun _ => Or.inr (by omega)⟩
          · rw [if_neg z]
            exact ⟨fun w => by rcases w with w | w; exact w; omega, fun w => Or.inl w⟩
        · by_cases z : k = nL
          · subst z
            rw [T20, T21]
            refine ⟨⟨p1, hp1, rfl⟩, ⟨p2, hp2, rfl⟩, fun w => hne ((inj (by omega) (by omega)).mp w), fun j hj => ?_⟩
            have := hno' j hj
            unfold mtc at this
            simp only [T3, show ¬ j = k by omega, and_false, if_false]
            exact this
          · obtain ⟨w1, w2, w3, w4⟩ := qp k (by omega)
            simp only [T3, z, and_false, if_false]
            refine ⟨w1, w2, w3, fun j hj => ?_⟩
            simp only [show ¬ j = nL by omega, if_false]
            exact w4 j hj
    · have hmt' : mtc t p1 p2 k0 := hmt
      have hb1 : bit xa p2 = true := hlk.mpr ⟨k0, hk0, hmt'⟩
      have hk0n : ¬ Int32.ofNat k0 < 0 := i_nlt0 (by omega)
      rw [if_neg hk0n]; repeat (first | rw [Option.bind_some] | rw [Sum.elim_inl] | rw [Sum.elim_inr])
      rw [if_neg hk0n]
      rcases hv with rfl | rfl
      · rw [if_pos rfl, h24, i_subL (show 1 ≤ nL by omega)]; repeat (first | rw [Option.bind_some] | rw [Sum.elim_inl] | rw [Sum.elim_inr])
        rw [pt_1, if_pos rfl, rdI_n (by omega) (by omega)]; repeat (first | rw [Option.bind_some] | rw [Sum.elim_inl] | rw [Sum.elim_inr])
        rw [stI_n (by omega) (by omega)]; repeat (first | rw [Option.bind_some] | rw [Sum.elim_inl] | rw [Sum.elim_inr])
        rw [show (wrI (ptI (ptI t 0 0) 24 (Int32.ofNat (nL - 1))) 20 k0 ((ptI (ptI t 0 0) 24 (Int32.ofNat (nL - 1))).2.2.1 20 (nL - 1))).1 24 = Int32.ofNat (nL - 1) from rfl, rdI_n (by omega) (by omega)]; repeat (first | rw [Option.bind_some] | rw [Sum.elim_inl] | rw [Sum.elim_inr])
        rw [stI_n (by omega) (by omega)]; repeat (first | rw [Option.bind_some] | rw [Sum.elim_inl] | rw [Sum.elim_inr])
        rw [if_neg hk0n]
        generalize hT : wrI (wrI (ptI (ptI t 0 0) 24 (Int32.ofNat (nL - 1))) 20 k0 _) 21 k0 _ = T
        have T3 : ∀ c j, T.2.2.1 c j = if (c = 20 ∨ c = 21) ∧ j = k0 then t.2.2.1 c (nL - 1) else t.2.2.1 c j := by
          intro c j
          rw [← hT, wr_at, wr_at, wr_at, if_neg (show ¬ ((21 : Nat) = 20 ∧ nL - 1 = k0) by omega)]
          show (if c = 21 ∧ j = k0 then t.2.2.1 21 (nL - 1) else if c = 20 ∧ j = k0 then t.2.2.1 20 (nL - 1) else t.2.2.1 c j) = _
          by_cases z1 : c = 21 ∧ j = k0
          · rw [if_pos z1, if_pos ⟨Or.inr z1.1, z1.2⟩, z1.1]
          · rw [if_neg z1]
            by_cases z2 : c = 20 ∧ j = k0
            · rw [if_pos z2, if_pos ⟨Or.inl z2.1, z2.2⟩, z2.1]
            · rw [if_neg z2, if_neg (by omega)]
        have T1 : ∀ c, c ≠ 0 → c ≠ 24 → T.1 c = t.1 c := fun c h1 h2 => by rw [← hT]; show (ptI (ptI t 0 0) 24 _).1 c = _; rw [pt_1, if_neg h2]; exact if_neg h1
        have T24 : T.1 24 = Int32.ofNat (nL - 1) := by rw [← hT]; rfl
        have T0 : T.1 0 = 0 := by rw [← hT]; rfl
        have Trt : ∀ Z, Z ≠ 4 → Z ≠ 99 → rt T Z = rt t Z := fun Z h4 h9 => by rw [← hT, rt_wrI (by show (4 : Nat) ≠ Z; omega), rt_wrI (by show (4 : Nat) ≠ Z; omega), rt_ptI (by show (4 : Nat) ≠ Z; omega), ptI_rt h9]
        clear hT
        have T20 : ∀ j, T.2.2.1 20 j = t.2.2.1 20 (if j = k0 then nL - 1 else j) := fun j => by
          rw [T3]
          by_cases z : j = k0
          · rw [if_pos ⟨Or.inl rfl, z⟩, if_pos z]
          · rw [if_neg (fun w => z w.2), if_neg z]
        have T21 : ∀ j, T.2.2.1 21 j = t.2.2.1 21 (if j = k0 then nL - 1 else j) := fun j => by
          rw [T3]
          by_cases z : j = k0
          · rw [if_pos ⟨Or.inr rfl, z⟩, if_pos z]
          · rw [if_neg (fun w => z w.2), if_neg z]
        have uniq : ∀ j k, j < nL → k < nL → j ≠ k → ¬ ((t.2.2.1 20 j = t.2.2.1 20 k ∧ t.2.2.1 21 j = t.2.2.1 21 k) ∨ (t.2.2.1 20 j = t.2.2.1 21 k ∧ t.2.2.1 21 j = t.2.2.1 20 k)) := by
          intro j k hj hk hjk
          rcases Nat.lt_or_ge j k with z | z
          · exact (qp k hk).2.2.2 j z
          · intro w
            refine (qp j hj).2.2.2 k (by omega) ?_
            rcases w with w | w
            · exact Or.inl ⟨w.1.symm, w.2.symm⟩
            · exact Or.inr ⟨w.2.symm, w.1.symm⟩
        have mT : ∀ p q k, mtc T p q k ↔ mtc t p q (if k = k0 then nL - 1 else k) := fun p q k => by
          unfold mtc; rw [T20, T21]
        refine fin T (nL - 1) 1 (by rw [hb1]; rfl) T0 Trt T1 T24 (by omega) (fun c j z1 z2 => by rw [T3, if_neg (by omega)]) (fun p q hp hq => ?_) (fun k hk => ?_)
        · have key : lok T (nL - 1) p q ↔ ∃ k, k < nL ∧ k ≠ k0 ∧ mtc t p q k := by
            rw [lok_mtc]
            constructor
            · rintro ⟨k, z1, z2⟩
              rw [mT] at z2
              by_cases z : k = k0
              · rw [if_pos z] at z2; exact ⟨nL - 1, by omega, by omega, z2⟩
              · rw [if_neg z] at z2; exact ⟨k, by omega, z, z2⟩
            · rintro ⟨k, z1, z2, z3⟩
              by_cases z : k = nL - 1
              · exact ⟨k0, by omega, (mT p q k0).mpr (by rw [if_pos rfl, ← z]; exact z3)⟩
              · exact ⟨k, by omega, (mT p q k).mpr (by rw [if_neg z2]; exact z3)⟩
          rw [key]
          obtain ⟨⟨x1, hx1, ex1⟩, ⟨x2, hx2, ex2⟩, hx3, _⟩ := qp k0 hk0
          have m0 := (mt (T := t) (by omega) (by omega) (by omega) (by omega) ex1 ex2).mp hmt'
          by_cases z : (p = p1 ∧ q = p2) ∨ (p = p2 ∧ q = p1)
          · rw [if_pos z]
            refine ⟨fun ⟨k, w1, w2, w3⟩ => ?_, fun w => absurd w (by decide)⟩
            obtain ⟨⟨u1, hu1, eu1⟩, ⟨u2, hu2, eu2⟩, _⟩ := qp k w1
            have m1 := (mt (T := t) (by omega) hq (by omega) (by omega) eu1 eu2).mp w3
            refine absurd ?_ (uniq k k0 w1 hk0 w2)
            rw [eu1, eu2, ex1, ex2, inj (by omega) (by omega), inj (by omega) (by omega), inj (by omega) (by omega), inj (by omega) (by omega)]
            omega
          · rw [if_neg z, lok_mtc]
            refine ⟨fun ⟨k, w1, _, w3⟩ => ⟨k, w1, w3⟩, fun ⟨k, w1, w3⟩ => ⟨k, w1, fun w => ?_, w3⟩⟩
            subst w
            have m1 := (mt (T := t) (by omega) hq (by omega) (by omega) ex1 ex2).mp w3
            exact pr_ne m0 m1 z
        · rw [T20, T21]
          have hkk : (if k = k0 then nL - 1 else k) < nL := by split <;> omega
          obtain ⟨w1, w2, w3, _⟩ := qp _ hkk
          refine ⟨w1, w2, w3, fun j hj => ?_⟩
          rw [T20, T21]
          refine uniq _ _ (by split <;> omega) hkk ?_
          by_cases z1 : j = k0
          · rw [if_pos z1, if_neg (by omega)]; omega
          · rw [if_neg z1]
            by_cases z2 : k = k0
            · rw [if_pos z2]; omega
            · rw [if_neg z2]; omega
      · rw [if_neg (show ¬ (1 : Int32) = 0 by decide)]; repeat (first | rw [Option.bind_some] | rw [Sum.elim_inl] | rw [Sum.elim_inr])
        rw [if_neg hk0n]
        refine fin (ptI t 0 0) nL 1 (by rw [hb1]; rfl) rfl (fun Z _ h9 => ptI_rt h9) (fun c h1 _ => if_neg h1) h24 (by omega) (fun _ _ _ _ => rfl) (fun p q hp hq => ?_) qp
        by_cases z : (p = p1 ∧ q = p2) ∨ (p = p2 ∧ q = p1)
        · rw [if_pos z]
          refine ⟨fun _ => rfl, fun _ => ⟨k0, hk0, ?_⟩⟩
          rcases z with ⟨rfl, rfl⟩ | ⟨rfl, rfl⟩
          · exact hmt'
          · exact hmt'.symm
        · rw [if_neg z]; exact Iff.rfl
end
