/-! permits: the reference's operations -/
section
variable {s : CS} {t S T : TS}
/-- amid an operation: o says whether a number was too great -/
def OZ (t S : TS) (o : Bool) : Prop := (∀ c, c ≠ 240 → S.1 c = t.1 c) ∧ (∀ c, c ≠ 241 → S.2.1 c = t.2.1 c) ∧ S.2.2 = t.2.2 ∧ (o = false → S.1 240 = 0 ∧ S.2.1 241 = t.2.1 241) ∧ (o = true → S.1 240 = 2 ∧ S.2.1 241 = 0)
theorem OZ_0 (h : t.1 240 = 0) : OZ t t false := ⟨fun _ _ => rfl, fun _ _ => rfl, rfl, fun _ => ⟨h, rfl⟩, fun w => absurd w (by decide)⟩
theorem OZ_s {o p : Bool} (z : OZ t S o) : OZ t (if p = true then opnT S 2 0 else S) (o || p) := by
  obtain ⟨z1, z2, z3, z4, z5⟩ := z
  cases p with
  | false =>
    rw [if_neg (by decide), Bool.or_false]
    exact ⟨z1, z2, z3, z4, z5⟩
  | true =>
    rw [if_pos rfl, Bool.or_true]
    refine ⟨fun c hc => (opnT_1 _ _ c hc).trans (z1 c hc), fun c hc => (opnT_2 _ _ c hc).trans (z2 c hc), (opnT_3 _ _).trans z3, fun w => absurd w (by decide), fun _ => ?_⟩
    cases o with
    | false => exact opnT_z _ _ (z4 rfl).1
    | true =>
      have h := (z5 rfl).1
      rw [opnT_n _ _ (by rw [h]; decide)]
      exact z5 rfl
theorem frP_or (o p : Bool) (r : Int32 × Int64 × Int64) : frP o (frP p r) = frP (o || p) r := by
  cases o <;> cases p <;> rfl
/-- what stands on the pile after an operation -/
def OpR (t T : TS) (n : Nat) (r : Int32 × Int64 × Int64) : Prop := Pu t T n ∧ T.1 240 = r.1 ∧ T.2.1 241 = (if r.1 = 0 then t.2.1 241 else 0) ∧ (r.1 = 0 → T.2.2.2 97 n = r.2.1 ∧ T.2.2.2 98 n = r.2.2)
theorem t_pushO {o : Bool} (z : OZ t S o) {u l : Int64} {k : Nat} (h : t.1 239 = Int32.ofNat k) (hk : k < 130) (h0 : t.1 240 = 0) (hl : o = false → l ≠ 0) : ∃ T, t_756 u l S = some T ∧ OpR t T k (frP o (frR u l)) := by
  obtain ⟨z1, z2, z3, z4, z5⟩ := z
  obtain ⟨T, e, ⟨p1, p2, p3, p4, p5, p6⟩, q⟩ := t_push (t := S) u l (k := k) ((z1 239 (by decide)).trans h) hk
  have pu : Pu t T k := by
    refine ⟨p1, fun c h1 h2 => (p2 c h1 h2).trans (z1 c h2), fun c hc => (p3 c hc).trans (z2 c hc), p4.trans (by rw [z3]), fun c j => ?_, fun w => absurd h0 w⟩
    rcases p5 c j with v | v
    · exact Or.inl v
    · exact Or.inr (v.trans (by rw [z3]))
  refine ⟨T, e, pu, ?_⟩
  cases o with
  | true =>
    obtain ⟨w1, w2⟩ := z5 rfl
    obtain ⟨v1, v2⟩ := p6 (by rw [w1]; decide)
    exact ⟨v1.trans w1, v2.trans w2, fun w => absurd (show (2 : Int32) = 0 from w) (by decide)⟩
  | false =>
    obtain ⟨w1, w2⟩ := z4 rfl
    show T.1 240 = (frR u l).1 ∧ T.2.1 241 = (if (frR u l).1 = 0 then t.2.1 241 else 0) ∧ ((frR u l).1 = 0 → T.2.2.2 97 k = (frR u l).2.1 ∧ T.2.2.2 98 k = (frR u l).2.2)
    unfold frR
    rcases q w1 (hl rfl) with ⟨v1, v2, v3⟩ | ⟨v1, v2, v3, v4, v5⟩
    · rw [if_pos v1]
      exact ⟨v2, v3, fun w => absurd w (by decide)⟩
    · rw [if_neg (by rw [v1]; decide)]
      exact ⟨v2, v3.trans w2, fun _ => ⟨v4, v5⟩⟩
theorem t_oper {k : Int32} (hk : k = 2 ∨ k = 3 ∨ k = 4 ∨ k = 5) {n : Nat} (h : t.1 239 = Int32.ofNat (n + 2)) (hn : n + 2 ≤ 130) (h0 : t.1 240 = 0) (hb : t.2.2.2 98 n ≠ 0) (hd : t.2.2.2 98 (n + 1) ≠ 0) : ∃ T, t_758 k t = some T ∧ OpR t T n (frop k (t.2.2.2 97 n) (t.2.2.2 98 n) (t.2.2.2 97 (n + 1)) (t.2.2.2 98 (n + 1))) := by
  obtain ⟨s1, h1⟩ : ∃ s1, s1 = ptI t 239 (t.1 239 - 2) := ⟨_, rfl⟩
  have e239 : s1.1 239 = Int32.ofNat n := by
    rw [h1]
    show (if (239 : Nat) = 239 then t.1 239 - 2 else t.1 239) = _
    rw [if_pos rfl, h, i_subL (by show 2 ≤ n + 2; omega)]
    rfl
  have e240 : s1.1 240 = 0 := by rw [h1, ptI_240, h0]
  have eR : s1.2 = t.2 := by rw [h1]; rfl
  have up : ∀ {T r}, OpR s1 T n r → OpR t T n r := by
    rintro T r ⟨⟨p1, p2, p3, p4, p5, p6⟩, q1, q2, q3⟩
    refine ⟨⟨p1, fun c c1 c2 => (p2 c c1 c2).trans (by rw [h1]; exact if_neg c1), fun c hc => (p3 c hc).trans (by rw [eR]), p4.trans (by rw [eR]), fun c j => ?_, fun w => absurd h0 w⟩, q1, q2.trans (by rw [eR]), q3⟩
    rcases p5 c j with v | v
    · exact Or.inl v
    · exact Or.inr (v.trans (by rw [eR]))
  obtain ⟨a, ha⟩ : ∃ a, a = t.2.2.2 97 n := ⟨_, rfl⟩
  obtain ⟨b, hbE⟩ : ∃ b, b = t.2.2.2 98 n := ⟨_, rfl⟩
  obtain ⟨c, hc⟩ : ∃ c, c = t.2.2.2 97 (n + 1) := ⟨_, rfl⟩
  obtain ⟨d, hdE⟩ : ∃ d, d = t.2.2.2 98 (n + 1) := ⟨_, rfl⟩
  rw [← hbE] at hb
  rw [← hdE] at hd
  rw [← ha, ← hbE, ← hc, ← hdE]
  have z0 := OZ_0 e240
  have res : ∀ {o : Bool} {S' : TS} {u l : Int64}, OZ s1 S' o → (o = false → l ≠ 0) → ∃ T, t_756 u l S' = some T ∧ OpR t T n (frP o (frR u l)) := fun z hl => by
    obtain ⟨T, e, r⟩ := t_pushO z e239 (by omega) e240 hl
    exact ⟨T, e, up r⟩
  unfold t_758
  rw [Option.bind_some, ← h1, e239, rdL_n (by omega) (by decide), Option.bind_some, rdL_n (by omega) (by decide), Option.bind_some, i_suc, rdL_n (by omega) (by decide), Option.bind_some, rdL_n (by omega) (by decide), Option.bind_some, eR, ← ha, ← hbE, ← hc, ← hdE]
  have orF : ∀ {x y : Bool}, (x || y) = false → ¬ y = true := fun {x y} h => by cases x <;> cases y <;> simp_all
  rcases hk with rfl | rfl | rfl | rfl
  · rw [if_neg (by decide), Option.bind_some, Sum.elim_inl, if_neg (by decide), t_tms, Option.bind_some, t_tms, Option.bind_some, if_neg (by decide), Option.bind_some, t_pls, Option.bind_some, t_tms, Option.bind_some]
    dsimp only
    rw [if_pos rfl, if_pos rfl]
    obtain ⟨T, e, r⟩ := res (u := a * d + c * b) (l := b * d) (OZ_s (p := ovM b d) (OZ_s (p := ovA (a * d) (c * b)) (OZ_s (p := ovM c b) (OZ_s (p := ovM a d) z0)))) (fun w => ovM_ne (orF w) hb hd)
    rw [e]
    refine ⟨T, rfl, ?_⟩
    unfold frop
    rw [if_neg (by decide), if_neg (by decide), if_neg (by decide), frP_or, frP_or, frP_or]
    rw [Bool.false_or] at r
    simpa only [Bool.or_assoc] using r
  · rw [if_neg (by decide), Option.bind_some, Sum.elim_inl, if_neg (by decide), t_tms, Option.bind_some, t_tms, Option.bind_some, if_pos rfl, Option.bind_some, t_pls, Option.bind_some, t_tms, Option.bind_some]
    dsimp only
    rw [if_neg (show ¬ (1 : Int32) = 0 by decide), if_neg (show ¬ (1 : Int32) = 0 by decide)]
    obtain ⟨T, e, r⟩ := res (u := a * d - c * b) (l := b * d) (OZ_s (p := ovM b d) (OZ_s (p := ovS (a * d) (c * b)) (OZ_s (p := ovM c b) (OZ_s (p := ovM a d) z0)))) (fun w => ovM_ne (orF w) hb hd)
    rw [e]
    refine ⟨T, rfl, ?_⟩
    unfold frop
    rw [if_neg (by decide), if_neg (by decide), if_pos rfl, frP_or, frP_or, frP_or]
    rw [Bool.false_or] at r
    simpa only [Bool.or_assoc] using r
  · rw [if_neg (by decide), Option.bind_some, Sum.elim_inl, if_pos (by decide), if_pos rfl, Option.bind_some, t_tms, Option.bind_some, if_pos rfl, Option.bind_some, t_tms, Option.bind_some]
    dsimp only
    obtain ⟨T, e, r⟩ := res (u := a * c) (l := b * d) (OZ_s (p := ovM b d) (OZ_s (p := ovM a c) z0)) (fun w => ovM_ne (orF w) hb hd)
    rw [e]
    refine ⟨T, rfl, ?_⟩
    unfold frop
    rw [if_neg (by decide), if_pos rfl, frP_or]
    rw [Bool.false_or] at r
    exact r
  · rw [if_pos rfl]
    by_cases c0 : c = 0
    · rw [if_pos ((lc_0 _ _).mpr c0), t_opn, Option.bind_some]
      obtain ⟨o1, o2⟩ := opnT_z (t := s1) 3 0 e240
      obtain ⟨T, e, ⟨p1, p2, p3, p4, p5, p6⟩, _⟩ := t_push (t := opnT s1 3 0) 0 1 (k := n) ((opnT_1 _ _ 239 (by decide)).trans e239) (by omega)
      obtain ⟨v1, v2⟩ := p6 (by rw [o1]; decide)
      rw [e, Option.bind_some, Option.bind_some, Sum.elim_inr]
      refine ⟨T, rfl, up ⟨⟨p1, fun c c1 c2 => (p2 c c1 c2).trans (opnT_1 _ _ c c2), fun c hc => (p3 c hc).trans (opnT_2 _ _ c hc), p4.trans (by rw [opnT_3]), fun c j => ?_, fun w => absurd e240 w⟩, ?_⟩⟩
      · rcases p5 c j with v | v
        · exact Or.inl v
        · exact Or.inr (v.trans (by rw [opnT_3]))
      · unfold frop
        rw [if_pos rfl, if_pos c0]
        exact ⟨v1.trans o1, v2.trans o2, fun w => absurd w (by decide)⟩
    · rw [if_neg (fun w => c0 ((lc_0 _ _).mp w)), Option.bind_some, Sum.elim_inl, if_pos (by decide), if_neg (by decide), Option.bind_some, t_tms, Option.bind_some, if_neg (by decide), Option.bind_some, t_tms, Option.bind_some]
      dsimp only
      obtain ⟨T, e, r⟩ := res (u := a * d) (l := b * c) (OZ_s (p := ovM b c) (OZ_s (p := ovM a d) z0)) (fun w => ovM_ne (orF w) hb c0)
      rw [e]
      refine ⟨T, rfl, ?_⟩
      unfold frop
      rw [if_pos rfl, if_neg c0, frP_or]
      rw [Bool.false_or] at r
      exact r
end
