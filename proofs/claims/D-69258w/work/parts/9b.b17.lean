/-! the bus: a bit for the ear, with what becomes complete -/
noncomputable def earC (v : Int32) (x : Int32 × CS) : Option CS := (if x.1 = 0 then some x.2 else (if isK x.2 [122] 120 = true then Option.bind (α := CS) (c_1146 120 x.2) (fun x33 => (if v = 0 then Option.bind (α := Nat) (xN x33 [(122, 1)] 120) (fun a34 => Option.bind (α := Int32) (xI x33 [(122, 9)] 120) (fun x35 => (if isK x33 [130] a34 = true then Option.bind (α := Int32 × CS) (c_1155 a34 v x35 x33) (fun x36 => some x36.2) else none))) else some x33)) else none))
theorem bus_hear {own : Nat → Nat} {s : CS} {t : TS} {N Nd M l : Nat} (hw : wfS s) (r : R6x (rs s.1 own 6) t N N Nd M) (hM : M = N + 1) (hl : l = 0 ∨ l = 1) (hline : t.2.2.1 141 M = Int32.ofNat l) (o118 : own 118 = 10) (hpr : xN s [(100, 4)] 115 = some 118) (o115 : own 115 ≠ 6 ∧ own 115 ≠ 10) (hp : s.1 118 = some (true, true, 0, rowC (fun i => .int (t.2.2.1 136 i)) 10)) :
    ∃ x s' t', c_1155 122 (Int32.ofNat l) (t.1 500) s = some x ∧ earC (Int32.ofNat l) x = some s' ∧ t_839 t = some t' ∧ R6x (rs s'.1 own 6) t' N M Nd M ∧ BT own s t s' t' ∧ s'.1 118 = some (true, true, 0, rowC (fun i => .int (pU t t' (t.2.2.1 136) i)) 10) ∧ s'.2.2.1 + potc t' M ≤ s.2.2.1 + potc t N + 1 ∧ s'.2.2.2 + pots t' M ≤ s.2.2.2 + pots t N + 4 ∧ (t'.1 500 = t.1 500 ∧ t'.1 503 = t.1 503) ∧ (∀ j, t'.2.2.1 141 j = t.2.2.1 141 j) ∧ (t.2.2.1 157 1 < t'.2.2.1 157 1 → t'.1 524 ≠ 0) := by
  have r2 := r
  obtain ⟨g, ⟨_, _, _, _, _, _, _, _, _, _, qe1, qe2, _, _, hcb, _⟩, _⟩ := r2
  have g2 := g
  obtain ⟨⟨d, gi, gd⟩, g121, _, g126, g500, gM, _, _, g1, _, g141, g142, _⟩ := g2
  rcases ear_step hw r hM hl hline with ⟨s', t', c1, c2, c3, c4, c5, c6, c7, c8⟩ | ⟨mc, e1, e2, e3, e5, e6, e7, nb, b, f, c1, c2, c3, c4, c5, c6, c7, c8, c9, c10, c11, c12, c13, c14, c15, c16, c17, c18, c19⟩
  · -- nothing is complete
    refine ⟨_, s', t', c1, ?_, c2, c3, c4.bt, ?_, c7, c8, c6, fun j => c5 141 j (by omega), fun z => by rw [c5 157 1 (by omega)] at z; exact (Int32.lt_irrefl z).elim⟩
    · unfold earC; rw [if_pos rfl]
    · have fr := c4.1.2.2.1 118 (wf_lt hw hp) (by rw [o118]; decide)
      rw [fr, hp]
      rw [rowC_congr (f := fun i => Value.int (t.2.2.1 136 i)) (g := fun i => .int (pU t t' (t.2.2.1 136) i)) (fun i _ => ?_)]
      unfold pU
      obtain ⟨hc0, hc1, hc2⟩ := hcb
      rw [c5 157 1 (by omega), if_neg (fun z => by
        have := z.1
        rw [hc1] at this
        exact absurd ((i_lt (by omega) (by omega)).mp this) (by omega))]
  · -- something is complete
    obtain ⟨S', T, d1, d2, d3, d4, d5, d6, d7, d8, ⟨m9, n9, d9, d9a, d9b, d9c, d9d⟩, d10, d11, d12, d13, d14, d15, d16, d17, d18, d19, d20, d21⟩ := bus_cmp (e5 := e5) (e6 := e6) (e7 := e7) g gd c2 c6 c7 c8 c9 c10 c11 c12 (by omega) c15 c14 c16 c17 c18 hcb hM hpr hp
    have o123 := rs_in c2
    have w120 : own 120 = 6 := (rs_in gd).2
    have w125 : own 125 = 6 := by obtain ⟨_, _, ⟨_, _, z, _⟩, _⟩ := g; exact (rs_in z).2
    have w126 : own 126 = 6 := (rs_in g126).2
    have T500 : T.1 500 = t.1 500 := d12 500 (by omega) (by omega) (by omega) (by omega) (by omega)
    have T141 : ∀ j, T.2.2.1 141 j = t.2.2.1 141 j := fun j => d15 141 j (by omega) (by omega)
    have st := t_starts (u := T) (M := M) hl (by rw [T500, g500]) gM (by rw [T141]; exact hline)
    have k122 : isK (cup s 122 (eC e1 e2 e3 0 e5 e6 e7)) [122] 120 = true := by
      have : (cup s 122 (eC e1 e2 e3 0 e5 e6 e7)).1 120 = s.1 120 := by rw [cup_at, if_neg (by omega)]
      simp only [isK, kdo, this, (rs_in gd).1]; decide
    -- behind complete(): a state whose ear hears nothing, or begins
    let v : Int32 := if l = 0 then Int32.ofNat M else 0
    let T3 := ptI (ptI (ptI (ptI T 516 v) 528 v) 517 0) 519 0
    have th : t_839 t = some T3 := by rw [t_cp c4 c5, d2, Option.bind_some, st, Option.bind_some]
    have fin : ∃ s', earC (Int32.ofNat l) (1, cup s 122 (eC e1 e2 e3 0 e5 e6 e7)) = some s' ∧ s'.2 = S'.2 ∧ (∀ q, q ≠ 122 → q ≠ 123 → s'.1 q = S'.1 q) ∧ ∃ (m a1 a2 a3 a4 a5 a6 a7 : Int32) (n : Nat) (f' : Nat → Value), s'.1 122 = some (eC a1 a2 a3 a4 a5 a6 a7) ∧ s'.1 123 = some (true, false, 1013, .int m :: rowC f' n) ∧ n ≤ 14000 ∧ v01 a1 ∧ ((l = 1 ∧ a4 = 0) ∨ (l = 0 ∧ a1 = 0 ∧ a2 = Int32.ofNat M ∧ a4 = 1 ∧ a5 = 1 ∧ a6 = 0 ∧ a7 = 0 ∧ n = 0)) := by
      have h123 : S'.1 123 = some (true, false, 1013, .int mc :: rowC f nb) := by rw [d6 _ (by omega) (by omega) (by omega) (by omega) (by omega), o123.1]
      rcases hl with rfl | rfl
      · have eb := ear_begin (v := t.1 500) d7 h123
        obtain ⟨x1, _, _, _, _, _, _, _, x9, _⟩ := bD_f d8
        obtain ⟨_, _, _, _, y4, y5⟩ := eC_f d7
        have c2' : c_1155 122 (Int32.ofNat 0) (t.1 500) S' = some (0, chg (cup (cup S' 123 (true, false, 1013, [.int (mc + 1)])) 122 (eC 0 (t.1 500) e3 1 1 0 0)) 0 0) := by
          unfold c_1155
          rw [y4, Option.bind_some, if_pos rfl, if_pos (show Int32.ofNat 0 = 0 from rfl), if_pos y5, eb, Option.bind_some]
        refine ⟨chg (cup (cup S' 123 (true, false, 1013, [.int (mc + 1)])) 122 (eC 0 (t.1 500) e3 1 1 0 0)) 0 0, ?_, rfl, ?_, mc + 1, 0, t.1 500, e3, 1, 1, 0, 0, 0, f, ?_, ?_, by omega, Or.inl rfl, Or.inr ⟨rfl, rfl, g500, rfl, rfl, rfl, rfl, rfl⟩⟩
        · unfold earC
          rw [if_neg (show ¬ (1 : Int32) = 0 by decide), if_pos k122, d1, Option.bind_some, if_pos (show Int32.ofNat 0 = 0 from rfl), x1, Option.bind_some, x9, Option.bind_some, if_pos y5, c2', Option.bind_some]
        · intro q q1 q2
          show lUpd (lUpd S'.1 123 (true, false, 1013, [.int (mc + 1)])) 122 (eC 0 (t.1 500) e3 1 1 0 0) q = _
          rw [lUpd_at, if_neg q1, lUpd_at, if_neg q2]
        · show lUpd (lUpd S'.1 123 (true, false, 1013, [.int (mc + 1)])) 122 (eC 0 (t.1 500) e3 1 1 0 0) 122 = _
          rw [lUpd_at, if_pos rfl]
        · show lUpd (lUpd S'.1 123 (true, false, 1013, [.int (mc + 1)])) 122 (eC 0 (t.1 500) e3 1 1 0 0) 123 = _
          rw [lUpd_at, if_neg (by omega), lUpd_at, if_pos rfl]
          rfl
      · refine ⟨S', ?_, rfl, fun _ _ _ => rfl, mc, e1, e2, e3, 0, e5, e6, e7, nb, f, d7, h123, c13, c11, Or.inl ⟨rfl, rfl⟩⟩
        unfold earC
        rw [if_neg (show ¬ (1 : Int32) = 0 by decide), if_pos k122, d1, Option.bind_some, if_neg (show ¬ Int32.ofNat 1 = 0 by decide)]
    obtain ⟨s', f1, f2, f3, m, a1, a2, a3, a4, a5, a6, a7, n, f', f4, f5, f6, f7, f8⟩ := fin
    -- the reference's numbers
    have N3 : ∀ c, c ≠ 516 → c ≠ 528 → c ≠ 517 → c ≠ 519 → T3.1 c = T.1 c := fun c q1 q2 q3 q4 => by show (ptI (ptI (ptI (ptI T 516 v) 528 v) 517 0) 519 0).1 c = _; rw [pt_1, if_neg q4, pt_1, if_neg q3, pt_1, if_neg q2, pt_1, if_neg q1]
    have R3 : ∀ c j, T3.2.2.1 c j = T.2.2.1 c j := fun _ _ => rfl
    have n516 : T3.1 516 = v := rfl
    have n528 : T3.1 528 = v := rfl
    have n517 : T3.1 517 = 0 := rfl
    have n519 : T3.1 519 = 0 := rfl
    have qq : ∀ q, q ≠ 125 → q ≠ 126 → q ≠ 120 → q ≠ 118 → q ≠ 122 → q ≠ 123 → s'.1 q = s.1 q := fun q a b c e x y => by rw [f3 q x y, d6 q a b c e x]
    have rq : ∀ q, q ≠ 125 → q ≠ 126 → q ≠ 120 → q ≠ 122 → q ≠ 123 → rs s'.1 own 6 q = rs s.1 own 6 q := fun q a b c x y => by
      unfold rs
      by_cases z : own q = 6
      · rw [if_pos z, if_pos z, qq q a b c (fun w => by rw [w, o118] at z; omega) x y]
      · rw [if_neg z, if_neg z]
    have r6 : ∀ q c, own q = 6 → s'.1 q = some c → rs s'.1 own 6 q = some c := fun q c h1 h2 => rs_some.mpr ⟨h1, h2⟩
    have newG : R6g (rs s'.1 own 6) T3 N M := by
      refine ⟨⟨d, ?_, ?_⟩, ?_, ⟨m9, n9, ?_, ?_, d9b, ?_, ?_⟩, ?_, ?_, gM, ?_, ?_, ?_, ?_, ?_, ?_, ?_⟩
      · unfold R6i at gi ⊢
        simp only [R3, T141]
        exact gi
      · refine r6 120 _ w120 ?_
        rw [f3 _ (by omega) (by omega), d8, N3 523 (by omega) (by omega) (by omega) (by omega), N3 524 (by omega) (by omega) (by omega) (by omega), N3 525 (by omega) (by omega) (by omega) (by omega), N3 526 (by omega) (by omega) (by omega) (by omega), N3 500 (by omega) (by omega) (by omega) (by omega), N3 1 (by omega) (by omega) (by omega) (by omega), T500, d12 1 (by omega) (by omega) (by omega) (by omega) (by omega)]
        rfl
      · rw [rq 121 (by omega) (by omega) (by omega) (by omega) (by omega)]; exact g121
      · exact r6 125 _ w125 (by rw [f3 _ (by omega) (by omega)]; exact d9)
      · rw [N3 521 (by omega) (by omega) (by omega) (by omega)]; exact d9a
      · exact d9c
      · rw [N3 524 (by omega) (by omega) (by omega) (by omega)]; exact d9d
      · exact r6 126 _ w126 (by rw [f3 _ (by omega) (by omega)]; exact d10)
      · rw [N3 500 (by omega) (by omega) (by omega) (by omega), T500]; exact g500
      · rw [N3 523 (by omega) (by omega) (by omega) (by omega)]; exact d16
      · rw [N3 525 (by omega) (by omega) (by omega) (by omega)]; exact d17
      · rw [N3 1 (by omega) (by omega) (by omega) (by omega), d12 1 (by omega) (by omega) (by omega) (by omega) (by omega)]; exact g1
      · rw [N3 524 (by omega) (by omega) (by omega) (by omega)]; exact d18
      · intro i hi; rw [R3, T141]; exact g141 i hi
      · intro i hi; rw [R3, d15 142 i (by omega) (by omega)]; exact g142 i hi
      · rw [N3 526 (by omega) (by omega) (by omega) (by omega)]; exact d19
    have newE : R6e (rs s'.1 own 6) T3 M := by
      refine ⟨m, a1, a2, a3, a4, a5, a6, a7, n, f', r6 122 _ c3 f4, r6 123 _ o123.2 f5, f6, f7, d20, ?_⟩
      rcases f8 with ⟨l1, z⟩ | ⟨l0, z1, z2, z3, z4, z5, z6, z7⟩
      · exact Or.inl ⟨by rw [n516]; show (if l = 0 then Int32.ofNat M else 0) = 0; rw [if_neg (by omega)], z⟩
      · have hv : v = Int32.ofNat M := if_pos l0
        refine Or.inr ⟨M, by rw [n516, hv], by omega, by omega, z3, z2, by rw [n519, z1], by rw [n517, z7]; rfl, fun i hi => absurd hi (by omega), Or.inl ⟨by rw [n528, hv, z7]; rfl, by omega, by omega, ?_, ?_, z6⟩⟩
        · rw [z4, z7, show M - (M + 13 * 0) + 1 = 1 by omega]; rfl
        · rw [z5, z7, show M - (M + 13 * 0) = 0 by omega]; rfl
    have R' : R6x (rs s'.1 own 6) T3 N M Nd M := R6_ge r (fun q a b c e x => rq q e x a b c) (fun c j h1 h2 => by rw [R3]; exact d15 c j (by omega) (by omega)) (by rw [N3 503 (by omega) (by omega) (by omega) (by omega)]; exact d12 503 (by omega) (by omega) (by omega) (by omega) (by omega)) newG newE
    have bt : BT own s t s' T3 := by
      refine ⟨⟨by rw [f2, d3]; exact Nat.le_refl _, fun _ _ => rfl, ?_, fun a h1 h2 => absurd h2 (by rw [f2, d3]; omega), ?_⟩, ?_⟩
      · intro a ha hx
        refine qq a ?_ ?_ ?_ ?_ ?_ ?_ <;> (intro z; subst z)
        · exact hx (Or.inl w125)
        · exact hx (Or.inl w126)
        · exact hx (Or.inl w120)
        · exact hx (Or.inr o118)
        · exact hx (Or.inl c3)
        · exact hx (Or.inl o123.2)
      · intro a ha
        rw [f2, d3] at ha
        have lt : ∀ q c, s.1 q = some c → a ≠ q := fun q c h z => by rw [← z, hw a ha] at h; cases h
        obtain ⟨c125, h125⟩ : ∃ c, s.1 125 = some c := by obtain ⟨_, _, ⟨_, _, z, _⟩, _⟩ := g; exact ⟨_, (rs_in z).1⟩
        rw [qq a (lt 125 _ h125) (lt 126 _ (rs_in g126).1) (lt 120 _ (rs_in gd).1) (lt 118 _ hp) (lt 122 _ (rs_in qe1).1) (lt 123 _ o123.1)]
        exact hw a ha
      · intro Z hZ
        unfold rt
        refine Prod.ext ?_ (Prod.ext ?_ (Prod.ext ?_ ?_))
        · funext c
          by_cases hz : mI c = Z
          · simp only [if_pos hz]
            have ne : ∀ k, mI k = 6 → c ≠ k := fun k hk z => hZ (by rw [← hz, z, hk])
            rw [N3 c (ne _ rfl) (ne _ rfl) (ne _ rfl) (ne _ rfl), d12 c (ne _ rfl) (ne _ rfl) (ne _ rfl) (ne _ rfl) (ne _ rfl)]
          · simp only [if_neg hz]
        · show (fun c => if mI c = Z then T.2.1 c else 0) = _
          rw [d13]
        · funext c j
          by_cases hz : mR c = Z
          · simp only [if_pos hz]
            have ne : ∀ k, mR k = 6 → c ≠ k := fun k hk z => hZ (by rw [← hz, z, hk])
            rw [R3, d15 c j (ne _ rfl) (ne _ rfl)]
          · simp only [if_neg hz]
        · show (fun c k => if mR c = Z then T.2.2.2 c k else 0) = _
          rw [d14]
    have P0 := pot_g (t := t) (N := N) (nb := nb) c4 c12 c13 c19
    have P3 : potc T3 M ≤ 1 ∧ pots T3 M ≤ 4 := by
      rcases hl with l0 | l1
      · have hv : v = Int32.ofNat M := if_pos l0
        have z := pot_c (t := T3) (N := M) (nb := 0) (q := M) (by rw [n516, hv]; exact fun z => absurd ((i_inj (j := M) (k := 0) (by omega) (by omega)).mp z) (by omega)) rfl (by omega) (by rw [n528, hv]) (by omega) (by omega)
        omega
      · have hv : v = 0 := if_neg (by omega)
        have z := pot_0 (t := T3) (N := M) (by rw [n516, hv])
        omega
    refine ⟨_, s', T3, c1, f1, th, R', bt, ?_, ?_, ?_, ⟨by rw [N3 500 (by omega) (by omega) (by omega) (by omega), T500], by rw [N3 503 (by omega) (by omega) (by omega) (by omega), d12 503 (by omega) (by omega) (by omega) (by omega) (by omega)]⟩, fun j => by rw [R3, T141], fun z => by rw [N3 524 (by omega) (by omega) (by omega) (by omega)]; exact d21 z⟩
    · rw [f3 _ (by omega) (by omega), d11]
      rfl
    · have := P0.1
      rw [f2]; omega
    · have := P0.2
      rw [f2]; omega
