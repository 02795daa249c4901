/-! the warden: a row is read -/
section
variable {s0 s : CS} {U0 U : TS} {b0 r mx zm am rl sz wc w np nr x : Nat} {bg en Z ZP A RW : Nat → Nat}
theorem Rd_z (R : Rd s0 U0 b0 r mx zm am rl sz wc np bg en w s U nr Z ZP A RW) (hw : w < wc) : Rd s0 U0 b0 r mx zm am rl sz wc np bg en (w + 1) (nxC r sz wc bg en w (chg s 1 1)) (ptI U 310 (Int32.ofNat (w + 1))) nr Z ZP A RW := by
  obtain ⟨M, rm, k1, k2⟩ := R
  refine ⟨Md_nx (Md_chg M 1 1) hw, RM_cg (show RM (chg s 1 1).1 _ _ _ _ _ _ _ _ _ _ _ _ from rm) (hK_nx (Md_chg M 1 1)) rfl rfl, ?_, ?_⟩
  · show s.2.2.1 + 1 ≤ _; omega
  · show s.2.2.2 + 1 ≤ _; omega
theorem Rd_n (R : Rd s0 U0 b0 r mx zm am rl sz wc np bg en w s U nr Z ZP A RW) (hw : w < wc) : Rd s0 U0 b0 r mx zm am rl sz wc np bg en (w + 1) (nxC r sz wc bg en w s) (ptI U 310 (Int32.ofNat (w + 1))) nr Z ZP A RW := by
  obtain ⟨M, rm, k1, k2⟩ := R
  refine ⟨Md_nx M hw, RM_cg rm (hK_nx M) rfl rfl, ?_, ?_⟩
  · show s.2.2.1 ≤ _; omega
  · show s.2.2.2 ≤ _; omega
theorem te_sgn {T : TS} (h : TWe sz wc w bg en T) {B : Type} {F G : Option B} : (if T.1 311 < 0 then F else G) = G := if_neg h.2
/-- a zone is taken by both -/
theorem rd_zon (B : Bse s0 b0 sz np (U0.2.2.1 102)) (R : Rd s0 U0 b0 r mx zm am rl sz wc np bg en w s U nr Z ZP A RW) {v2 : Option Nat} {v1 : Int32} (hp : (v2 = none ∧ v1 = -1) ∨ ∃ y, y < 20 ∧ U.2.2.1 105 (20 + y) = 1 ∧ v2 = some (Z y) ∧ v1 = Int32.ofNat y) :
    (w < wc ∧ ∃ z, z < 20 ∧ U.2.2.1 105 (20 + z) = 1 ∧ c_496 r mx v2 s = some (.inl (some (Z z), nxC r sz wc bg en w (chg s 1 1))) ∧ t_788 v1 U = some (Int32.ofNat z, ptI U 310 (Int32.ofNat (w + 1)))) ∨ ∃ s1 xz, (s1 = s ∨ s1 = chg s 1 1) ∧ c_496 r mx v2 s = some (.inr (s1.2.1, wwC s1 (Int32.ofNat w))) ∧ t_788 v1 U = some (xz, ptI U 311 (Int32.ofNat w)) := by
  obtain ⟨M, rm, k1, k2⟩ := R
  obtain ⟨f1, f2⟩ := c_zoA M.2.2.2.2.1 M.1 (Md_tx B M) M.2.2.2.2.2.2.2 rm hp
  rcases t_tkZ M.1 M.2.1 v1 (fun z hz => (rm.2.2.2.2.2.2.2.1 z hz).1) with ⟨z, q1, q2, q3, q4, q5, q6⟩ | ⟨q1, xz, q6⟩
  · exact Or.inl ⟨q2.1.1, z, q1, q4, (f2 z q1 q2 q3).1 ⟨q4, q5⟩, q6⟩
  · rcases q1 with y | ⟨z, y1, y2, y3, y4⟩
    · exact Or.inr ⟨s, xz, Or.inl rfl, f1 y, q6⟩
    · exact Or.inr ⟨chg s 1 1, xz, Or.inr rfl, (f2 z y1 y2 y3).2 y4, q6⟩
theorem rd_row (B : Bse s0 b0 sz np (U0.2.2.1 102)) (hb0 : b0 ≤ s0.2.1) (R : Rd s0 U0 b0 r mx zm am rl sz wc np bg en w s U nr Z ZP A RW) (hnr : nr < 50) : OutR s0 U0 b0 r mx zm am rl sz wc np bg en w (c_495 151 r mx s) (t_787 U) := by
  have hwc := R.1.1.2.2.1
  have hws := R.1.1.2.2.2.1
  have hsz := R.1.1.2.2.2.2.1
  unfold c_495 t_787
  rcases rd_zon B R (v2 := none) (v1 := -1) (Or.inl ⟨rfl, rfl⟩) with ⟨y1, z, hz, h105, e1, e2⟩ | ⟨s1, xz, hs1, e1, e2⟩
  · rw [e1, e2]; repeat (first | rw [Option.bind_some] | rw [Sum.elim_inl] | rw [Sum.elim_inr])
    have R1 := Rd_z R y1
    dsimp only
    rw [if_pos R1.1.2.1]
    have h1 : (ptI U 310 (Int32.ofNat (w + 1))).2.2.1 105 (20 + z) = 1 := h105
    generalize nxC r sz wc bg en w (chg s 1 1) = s1 at R1 ⊢
    generalize ptI U 310 (Int32.ofNat (w + 1)) = U1 at R1 h1 ⊢
    have M1 := R1.1
    have hr1 := M1.2.2.2.2.2.2.2
    have hq : s1.1 57 = some (false, false, 1000, txV [38]) := (Bse_cg B M1.2.2.2.1).2.2.2.2.1 (57, [38]) (by decide)
    obtain ⟨x3, e3, v3, i3⟩ := c_is (Md_tx B M1) hsz M1.1.2.2.2.2.2.2.2 M1.1.2.2.1 hr1 hq (by decide) (by decide)
    obtain ⟨x4, e4, v4, i4⟩ := t_sign M1.1 (c := 38) (by omega)
    have : x3 = x4 := by
      rcases v3 with z3 | z3 <;> rcases v4 with z4 | z4
      · rw [z3, z4]
      · have := i3.mpr (i4.mp z4); rw [z3] at this; cases this
      · have := i4.mpr (i3.mp z3); rw [z4] at this; cases this
      · rw [z3, z4]
    subst this
    have e4 : t_784 38 U1 = some x3 := e4
    rw [if_pos (isK_t hr1 rfl), e3, e4]; repeat (first | rw [Option.bind_some] | rw [Sum.elim_inl] | rw [Sum.elim_inr])
    rcases v3 with rfl | rfl
    · rw [if_pos rfl, if_pos rfl]; repeat (first | rw [Option.bind_some] | rw [Sum.elim_inl] | rw [Sum.elim_inr])
      exact rd_row2 B hb0 R1 (Nat.le_succ w) hnr ⟨hz, h1⟩ (Or.inl ⟨rfl, rfl⟩)
    · have hw1 := (i3.mp rfl).1
      rw [if_neg (show ¬ (1 : Int32) = 0 by decide), if_neg (show ¬ (1 : Int32) = 0 by decide), if_pos (isK_t hr1 rfl), c_nxM B M1 hw1, M1.1.2.1, i_suc]; repeat (first | rw [Option.bind_some] | rw [Sum.elim_inl] | rw [Sum.elim_inr])
      have R2 := Rd_n R1 hw1
      have h2 : (ptI U1 310 (Int32.ofNat (w + 1 + 1))).2.2.1 105 (20 + z) = 1 := h1
      generalize nxC r sz wc bg en (w + 1) s1 = s2 at R2 ⊢
      generalize ptI U1 310 (Int32.ofNat (w + 1 + 1)) = U2 at R2 h2 ⊢
      rcases rd_zon B R2 (v2 := some (Z z)) (v1 := Int32.ofNat z) (Or.inr ⟨z, hz, h2, rfl, rfl⟩) with ⟨y2, z', hz', h105', e5, e6⟩ | ⟨s3, xz, hs3, e5, e6⟩
      · rw [e5, e6]; repeat (first | rw [Option.bind_some] | rw [Sum.elim_inl] | rw [Sum.elim_inr])
        exact rd_row2 B hb0 (Rd_z R2 y2) (by omega) hnr ⟨hz, h2⟩ (Or.inr ⟨z', hz', h105', rfl, rfl⟩)
      · have M3 : Md s0 U0 b0 r sz wc bg en (w + 1 + 1) s3 U2 := by
          rcases hs3 with rfl | rfl
          · exact R2.1
          · exact Md_chg R2.1 1 1
        have k3 : s3.2.2.1 ≤ s2.2.2.1 + 1 ∧ s3.2.2.2 ≤ s2.2.2.2 + 1 := by
          rcases hs3 with rfl | rfl
          · exact ⟨Nat.le_succ _, Nat.le_succ _⟩
          · exact ⟨Nat.le_refl _, Nat.le_refl _⟩
        have k1 := R2.2.2.1
        have k2 := R2.2.2.2
        have hx := M3.1.2.2.1
        rw [e5, e6]; repeat (first | rw [Option.bind_some] | rw [Sum.elim_inl] | rw [Sum.elim_inr])
        exact OutR.bd hb0 M3 rfl (by
          have z := bd_0 (TWe_mk M3).1
          refine Tr.bd (bd_tak z _) ?_
          intro T hT
          dsimp only
          rw [if_neg (bd_neg hT)]; repeat (first | rw [Option.bind_some] | rw [Sum.elim_inl] | rw [Sum.elim_inr])
          dsimp only
          rw [if_neg (bd_neg hT)]; repeat (first | rw [Option.bind_some] | rw [Sum.elim_inl] | rw [Sum.elim_inr])
          repeat (first | exact Tr.ok (by assumption) | refine Tr.bd (bd_tak (by assumption) _) ?_ | refine Tr.bd (bd_stp (by assumption)) ?_ | refine Tr.bd (bd_num (by assumption) _ _) ?_ | refine Tr.bd (bd_st (by assumption) _ (by decide) (by omega) (by omega) (by unfold upE; omega)) ?_ | refine Tr.ifn (bd_neg (by assumption)) ?_ | (rintro ⟨_, _⟩ ⟨rfl, _⟩; dsimp only) | intro _ _ | dsimp only)) (by omega) (by omega)
  · have M3 : Md s0 U0 b0 r sz wc bg en w s1 U := by
      rcases hs1 with rfl | rfl
      · exact R.1
      · exact Md_chg R.1 1 1
    have k3 : s1.2.2.1 ≤ s.2.2.1 + 1 ∧ s1.2.2.2 ≤ s.2.2.2 + 1 := by
      rcases hs1 with rfl | rfl
      · exact ⟨Nat.le_succ _, Nat.le_succ _⟩
      · exact ⟨Nat.le_refl _, Nat.le_refl _⟩
    have k1 := R.2.2.1
    have k2 := R.2.2.2
    rw [e1, e2]; repeat (first | rw [Option.bind_some] | rw [Sum.elim_inl] | rw [Sum.elim_inr])
    exact OutR.bd hb0 M3 rfl (by
      have z := bd_0 (TWe_mk M3).1
      dsimp only
      rw [if_neg (bd_neg z)]; repeat (first | rw [Option.bind_some] | rw [Sum.elim_inl] | rw [Sum.elim_inr])
      refine Tr.bd (bd_tak z _) ?_
      intro T hT
      dsimp only
      rw [if_neg (bd_neg hT)]; repeat (first | rw [Option.bind_some] | rw [Sum.elim_inl] | rw [Sum.elim_inr])
      dsimp only
      rw [if_neg (bd_neg hT)]; repeat (first | rw [Option.bind_some] | rw [Sum.elim_inl] | rw [Sum.elim_inr])
      repeat (first | exact Tr.ok (by assumption) | refine Tr.bd (bd_tak (by assumption) _) ?_ | refine Tr.bd (bd_stp (by assumption)) ?_ | refine Tr.bd (bd_num (by assumption) _ _) ?_ | refine Tr.bd (bd_st (by assumption) _ (by decide) (by omega) (by omega) (by unfold upE; omega)) ?_ | refine Tr.ifn (bd_neg (by assumption)) ?_ | (rintro ⟨_, _⟩ ⟨rfl, _⟩; dsimp only) | intro _ _ | dsimp only)) (by omega) (by omega)
end
