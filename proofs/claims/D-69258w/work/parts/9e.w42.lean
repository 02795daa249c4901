/-! the warden: sentences -/
abbrev mtE : Nat × CS → Option (CS ⊕ Sum (CS × Nat) (Sum (CS) (Sum (Int32 × CS) (Nat × CS)))) := fun q11 => (if isK q11.2 [11] q11.1 = true then some (.inr (.inr (.inr (.inr (q11.1, q11.2))))) else (if isK q11.2 [12] q11.1 = true then some (.inr (.inr (.inr (.inr (q11.1, q11.2))))) else (if isK q11.2 [33] q11.1 = true then some (.inr (.inr (.inr (.inr (q11.1, q11.2))))) else (if isK q11.2 [69] q11.1 = true then some (.inr (.inr (.inr (.inr (q11.1, q11.2))))) else (if isK q11.2 [75] q11.1 = true then some (.inr (.inr (.inr (.inr (q11.1, q11.2))))) else (if isK q11.2 [88] q11.1 = true then some (.inr (.inl (q11.2, q11.1))) else (if isK q11.2 [133] q11.1 = true then some (.inr (.inr (.inr (.inr (q11.1, q11.2))))) else none)))))))
noncomputable abbrev mtF (r mx : Nat) : CS → Option (CS ⊕ Sum (CS × Nat) (Sum (CS) (Sum (Int32 × CS) (Nat × CS)))) := fun p13 => (if isK p13 [87] r = true then Option.bind (c_1013 r p13) (fun x9 => (if x9 = 0 then (if isK p13 [47] 151 = true then Option.bind (c_492 151 r mx p13) (Sum.elim (fun x10 => some (.inl x10)) (fun q11 => (if isK q11.2 [11] q11.1 = true then some (.inr (.inr (.inr (.inr (q11.1, q11.2))))) else (if isK q11.2 [12] q11.1 = true then some (.inr (.inr (.inr (.inr (q11.1, q11.2))))) else (if isK q11.2 [33] q11.1 = true then some (.inr (.inr (.inr (.inr (q11.1, q11.2))))) else (if isK q11.2 [69] q11.1 = true then some (.inr (.inr (.inr (.inr (q11.1, q11.2))))) else (if isK q11.2 [75] q11.1 = true then some (.inr (.inr (.inr (.inr (q11.1, q11.2))))) else (if isK q11.2 [88] q11.1 = true then some (.inr (.inl (q11.2, q11.1))) else (if isK q11.2 [133] q11.1 = true then some (.inr (.inr (.inr (.inr (q11.1, q11.2))))) else none))))))))) else none) else some (.inr (.inr (.inl p13))))) else none)
noncomputable abbrev mtG : TS → Option (TS ⊕ TS) := fun p28 => (if (p28.1 310) < (p28.1 307) then (if (p28.1 311) < 0 then Option.bind (t_776 p28) (fun x7 => some (.inl x7)) else some (.inr p28)) else some (.inr p28))
section
variable {s0 s : CS} {U0 U : TS} {b0 r mx zm am rl sz wc w np nr : Nat} {bg en Z ZP A RW : Nat → Nat}
theorem OutR.mono {w' : Nat} {oc : Option (Sum CS (Nat × CS))} {ot : Option TS} (h : OutR s0 U0 b0 r mx zm am rl sz wc np bg en w' oc ot) (hw : w ≤ w') : OutR s0 U0 b0 r mx zm am rl sz wc np bg en w oc ot := by
  rcases h with ⟨s', U', x, nr, Z, ZP, A, RW, h1, h2, h3, h4⟩ | h
  · exact Or.inl ⟨s', U', x, nr, Z, ZP, A, RW, h1, h2, by omega, h4⟩
  · exact Or.inr h
theorem out_c {w' : Nat} {oc : Option (Sum CS (Nat × CS))} {ot : Option TS} (h : OutR s0 U0 b0 r mx zm am rl sz wc np bg en w' oc ot) (hw : w ≤ w') : OutR s0 U0 b0 r mx zm am rl sz wc np bg en w (Option.bind oc (Sum.elim (fun x => some (.inl x)) (fun q => some (.inr (q.1, q.2))))) (Option.bind ot (fun x => some x)) := by
  rcases h with ⟨s', U', x, nr, Z, ZP, A, RW, h1, h2, h3, h4⟩ | ⟨e, s', U', h1, h2, h3⟩
  · exact Or.inl ⟨s', U', x, nr, Z, ZP, A, RW, by rw [h1]; rfl, by rw [h2]; rfl, by omega, h4⟩
  · exact Or.inr ⟨e, s', U', by rw [h1]; rfl, by rw [h2]; rfl, h3⟩
theorem rd_sen (B : Bse s0 b0 sz np (U0.2.2.1 102)) (hb0 : b0 ≤ s0.2.1) (h300 : U0.1 300 = Int32.ofNat np) (R : Rd s0 U0 b0 r mx zm am rl sz wc np bg en w s U nr Z ZP A RW) : OutR s0 U0 b0 r mx zm am rl sz wc np bg en w (c_492 151 r mx s) (t_776 U) := by
  have R' := R
  obtain ⟨M, rm, k1, k2⟩ := R
  have hwc := M.1.2.2.1
  have hws := M.1.2.2.2.1
  have hsz := M.1.2.2.2.2.1
  have hr := M.2.2.2.2.2.2.2
  have hw := M.2.2.2.2.1
  have hx := Md_tx B M
  have B' := Bse_cg B M.2.2.2.1
  obtain ⟨fs, B1⟩ := B'.2.1
  have hk : ∀ p ∈ sTab7, s.1 p.1 = some (false, false, 1000, txV p.2) := B'.2.2.2.2.1
  obtain ⟨x1, e1, v1, i1⟩ := c_is hx hsz M.1.2.2.2.2.2.2.2 hwc hr (hk (47, [122, 111, 110, 101]) (by decide)) (by decide) (by decide)
  obtain ⟨x2, e2, v2, i2⟩ := c_is hx hsz M.1.2.2.2.2.2.2.2 hwc hr (hk (48, [97, 99, 116]) (by decide)) (by decide) (by decide)
  obtain ⟨x3, e3, v3, i3⟩ := c_is hx hsz M.1.2.2.2.2.2.2.2 hwc hr (hk (49, [119, 104, 101, 110]) (by decide)) (by decide) (by decide)
  obtain ⟨y1, f1, j1⟩ := t_letW M.1 (l := [122, 111, 110, 101]) (by decide) (by decide) (by decide)
  obtain ⟨y2, f2, j2⟩ := t_letW M.1 (l := [97, 99, 116]) (by decide) (by decide) (by decide)
  obtain ⟨y3, f3, j3⟩ := t_letW M.1 (l := [119, 104, 101, 110]) (by decide) (by decide) (by decide)
  obtain rfl : y2 = y1 := Option.some.inj (f2.symm.trans f1)
  obtain rfl : y3 = y2 := Option.some.inj (f3.symm.trans f2)
  have hn1 : Int32.ofNat (enc [122, 111, 110, 101]) = 178682 := by decide
  have hn2 : Int32.ofNat (enc [97, 99, 116]) = 20577 := by decide
  have hn3 : Int32.ofNat (enc [119, 104, 101, 110]) = 464151 := by decide
  rw [hn1] at j1
  rw [hn2] at j2
  rw [hn3] at j3
  dsimp only at e1 e2 e3
  unfold c_492 t_776
  rw [if_pos (isK_t hr rfl), e1, f1]; repeat (first | rw [Option.bind_some] | rw [Sum.elim_inl] | rw [Sum.elim_inr])
  by_cases z1 : y3 = 178682
  · have w1 := (j1.mp z1).1
    have z2 : x1 = 1 := i1.mpr (j1.mp z1)
    rw [z2, if_pos z1, if_neg (show ¬ (1 : Int32) = 0 by decide), if_pos (isK_t hr rfl), c_nxM B M w1, M.1.2.1, i_suc]; repeat (first | rw [Option.bind_some] | rw [Sum.elim_inl] | rw [Sum.elim_inr])
    have R1 := Rd_n R' w1
    have k47 : isK (nxC r sz wc bg en w s) [47] 151 = true := isK_t ((Bse_cg B R1.1.2.2.2.1).2.1.choose_spec) rfl
    rw [if_pos k47]
    exact out_c (rd_zone B hb0 h300 R1) (Nat.le_succ w)
  · have z2 : x1 = 0 := by
      rcases v1 with z | z
      · exact z
      · exact absurd (j1.mpr (i1.mp z)) z1
    rw [z2, if_neg z1, if_pos rfl, if_pos (isK_t hr rfl), e2]; repeat (first | rw [Option.bind_some] | rw [Sum.elim_inl] | rw [Sum.elim_inr])
    by_cases z3 : y3 = 20577
    · have w1 := (j2.mp z3).1
      have z4 : x2 = 1 := i2.mpr (j2.mp z3)
      rw [z4, if_pos z3, if_neg (show ¬ (1 : Int32) = 0 by decide), if_pos (isK_t hr rfl), c_nxM B M w1, M.1.2.1, i_suc]; repeat (first | rw [Option.bind_some] | rw [Sum.elim_inl] | rw [Sum.elim_inr])
      have R1 := Rd_n R' w1
      have k47 : isK (nxC r sz wc bg en w s) [47] 151 = true := isK_t ((Bse_cg B R1.1.2.2.2.1).2.1.choose_spec) rfl
      rw [if_pos k47]
      exact out_c (rd_act B hb0 R1) (Nat.le_succ w)
    · have z4 : x2 = 0 := by
        rcases v2 with z | z
        · exact z
        · exact absurd (j2.mpr (i2.mp z)) z3
      rw [z4, if_neg z3, if_pos rfl, if_pos (isK_t hr rfl), e3]; repeat (first | rw [Option.bind_some] | rw [Sum.elim_inl] | rw [Sum.elim_inr])
      by_cases z5 : y3 = 464151
      · have w1 := (j3.mp z5).1
        have z6 : x3 = 1 := i3.mpr (j3.mp z5)
        have rm' := rm
        obtain ⟨m1, _, _, _, ⟨mr, m9⟩, m10, m11, _⟩ := rm'
        have m10 : U.1 322 = Int32.ofNat nr := m10
        rw [z6, if_pos z5, if_neg (show ¬ (1 : Int32) = 0 by decide), xN_o (b := rl) m1 rfl rfl]; repeat (first | rw [Option.bind_some] | rw [Sum.elim_inl] | rw [Sum.elim_inr])
        rw [if_pos (isK_t m9 rfl), alSize_r m9, m10]; repeat (first | rw [Option.bind_some] | rw [Sum.elim_inl] | rw [Sum.elim_inr])
        by_cases z7 : nr < 50
        · rw [if_pos ((i_ltL (by omega) (by omega)).mpr z7)]; repeat (first | rw [Option.bind_some] | rw [Sum.elim_inl] | rw [Sum.elim_inr])
          rw [if_pos (isK_t hr rfl), c_wok (by decide), tw_ok M.2.1]; repeat (first | rw [Option.bind_some] | rw [Sum.elim_inl] | rw [Sum.elim_inr])
          dsimp only
          rw [if_pos (isK_t hr rfl), if_neg (show ¬ (1 : Int32) = 0 by decide), c_nxM B M w1, M.1.2.1, i_suc]; repeat (first | rw [Option.bind_some] | rw [Sum.elim_inl] | rw [Sum.elim_inr])
          have R1 := Rd_n R' w1
          have k47 : isK (nxC r sz wc bg en w s) [47] 151 = true := isK_t ((Bse_cg B R1.1.2.2.2.1).2.1.choose_spec) rfl
          rw [if_pos k47]
          exact out_c (rd_row B hb0 R1 z7) (Nat.le_succ w)
        · rw [if_neg (fun z => z7 ((i_ltL (by omega) (by omega)).mp z))]; repeat (first | rw [Option.bind_some] | rw [Sum.elim_inl] | rw [Sum.elim_inr])
          rw [if_pos (isK_t hr rfl), c_ww hw hr, tw_no M.2.1 M.1.2.1 (by omega)]; repeat (first | rw [Option.bind_some] | rw [Sum.elim_inl] | rw [Sum.elim_inr])
          dsimp only
          rw [if_pos rfl]
          exact OutR.bd hb0 M rfl (Tr.ok (bd_0 (TWe_mk M).1)) (by omega) (by omega)
      · have z6 : x3 = 0 := by
          rcases v3 with z | z
          · exact z
          · exact absurd (j3.mpr (i3.mp z)) z5
        rw [z6, if_neg z5, if_pos rfl, if_pos (isK_t hr rfl)]
        exact rd_hold B hb0 R'
theorem rd_loop (B : Bse s0 b0 sz np (U0.2.2.1 102)) (hb0 : b0 ≤ s0.2.1) (h300 : U0.1 300 = Int32.ofNat np) : ∀ (d w : Nat) (s : CS) (U : TS) (nr : Nat) (Z ZP A RW : Nat → Nat), wc - w = d → Rd s0 U0 b0 r mx zm am rl sz wc np bg en w s U nr Z ZP A RW →
    (∃ s' U' nr Z ZP A RW, wh (mtF r mx) s = some (.inr (.inl s')) ∧ wh mtG U = some U' ∧ Rd s0 U0 b0 r mx zm am rl sz wc np bg en wc s' U' nr Z ZP A RW) ∨ ∃ e s' U', wh (mtF r mx) s = some (.inl (s', e)) ∧ wh mtG U = some U' ∧ Er s0 U0 b0 wc e s' U' := by
  intro d
  induction d using Nat.strongRecOn with
  | ind d ih =>
    intro w s U nr Z ZP A RW hd R
    have M := R.1
    have hwc := M.1.2.2.1
    have hws := M.1.2.2.2.1
    have hsz := M.1.2.2.2.2.1
    have hr := M.2.2.2.2.2.2.2
    have hx := Md_tx B M
    have ho := c_over hx hsz M.1.2.2.2.2.2.2.2 hwc hr
    have k47 : isK s [47] 151 = true := isK_t ((Bse_cg B M.2.2.2.1).2.1.choose_spec) rfl
    have eF : mtF r mx s = if w < wc then Option.bind (c_492 151 r mx s) (Sum.elim (fun x10 => some (.inl x10)) mtE) else some (.inr (.inr (.inl s))) := by
      unfold mtF
      rw [if_pos (isK_t hr rfl), ho, Option.bind_some]
      by_cases y : w < wc
      · rw [if_pos y, if_pos y, if_pos rfl, if_pos k47]
      · rw [if_neg y, if_neg y, if_neg (by decide)]
    have eG : mtG U = if w < wc then Option.bind (t_776 U) (fun x7 => some (.inl x7)) else some (.inr U) := by
      unfold mtG
      rw [M.1.1, M.1.2.1]
      by_cases y : w < wc
      · rw [if_pos ((i_lt (by omega) (by omega)).mpr y), if_pos M.2.1, if_pos y]
      · rw [if_neg (fun z => y ((i_lt (by omega) (by omega)).mp z)), if_neg y]
    by_cases y : w < wc
    · rw [if_pos y] at eF eG
      rcases rd_sen B hb0 h300 R with ⟨s', U', w', nr', Z', ZP', A', RW', h1, h2, h3, h4⟩ | ⟨e, s', U', h1, h2, h3⟩
      · rw [h1] at eF
        rw [h2] at eG
        have hw' := h4.1.1.2.2.1
        rcases ih (wc - w') (by omega) w' s' U' nr' Z' ZP' A' RW' rfl h4 with ⟨s2, U2, a, b, c, d, f, g1, g2, g3⟩ | ⟨e, s2, U2, g1, g2, g3⟩
        · exact Or.inl ⟨s2, U2, a, b, c, d, f, (wh_inl eF).trans g1, (wh_inl eG).trans g2, g3⟩
        · exact Or.inr ⟨e, s2, U2, (wh_inl eF).trans g1, (wh_inl eG).trans g2, g3⟩
      · rw [h1] at eF
        rw [h2] at eG
        obtain ⟨n, hn, hn2, a, b, c, d, e', f, he⟩ := h3.2.1
        have eE : mtE (e, s') = some (.inr (.inl (s', e))) := by
          unfold mtE
          simp [isK_o he]
        refine Or.inr ⟨e, s', U', wh_inr (eF.trans eE), (wh_inl eG).trans (wh_inr ?_), h3⟩
        unfold mtG
        rw [if_neg (show ¬ U'.1 311 < 0 by rw [hn2]; exact i_nlt0 (by omega))]
        split <;> rfl
    · rw [if_neg y] at eF eG
      have : w = wc := by omega
      subst this
      exact Or.inl ⟨s, U, nr, Z, ZP, A, RW, wh_inr eF, wh_inr eG, R⟩
end
