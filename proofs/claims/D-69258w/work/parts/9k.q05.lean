/-! permits: a fraction comes on the reference's pile -/
section
variable {s : CS} {t T : TS}
theorem opnT_1 (k : Int32) (nm : Int64) (c : Nat) (h : c ≠ 240) : (opnT t k nm).1 c = t.1 c := by
  unfold opnT
  by_cases z : t.1 240 = 0
  · rw [if_pos z]; exact if_neg h
  · rw [if_neg z]
theorem opnT_2 (k : Int32) (nm : Int64) (c : Nat) (h : c ≠ 241) : (opnT t k nm).2.1 c = t.2.1 c := by
  unfold opnT
  by_cases z : t.1 240 = 0
  · rw [if_pos z]; exact if_neg h
  · rw [if_neg z]
theorem opnT_3 (k : Int32) (nm : Int64) : (opnT t k nm).2.2 = t.2.2 := by
  unfold opnT
  by_cases z : t.1 240 = 0
  · rw [if_pos z]; rfl
  · rw [if_neg z]
theorem opnT_n (k : Int32) (nm : Int64) (h : t.1 240 ≠ 0) : opnT t k nm = t := if_neg h
theorem opnT_z (k : Int32) (nm : Int64) (h : t.1 240 = 0) : (opnT t k nm).1 240 = k ∧ (opnT t k nm).2.1 241 = nm := by
  unfold opnT
  rw [if_pos h]
  exact ⟨rfl, rfl⟩
theorem ptI_240 (S : TS) (x : Int32) : (ptI S 239 x).1 240 = S.1 240 := by
  show (if (240 : Nat) = 239 then x else S.1 240) = _
  exact if_neg (by decide)
/-- one more fraction, at place k -/
def Pu (t T : TS) (k : Nat) : Prop := T.1 239 = Int32.ofNat (k + 1) ∧ (∀ c, c ≠ 239 → c ≠ 240 → T.1 c = t.1 c) ∧ (∀ c, c ≠ 241 → T.2.1 c = t.2.1 c) ∧ T.2.2.1 = t.2.2.1 ∧ (∀ c j, (c = 97 ∨ c = 98) ∧ j = k ∨ T.2.2.2 c j = t.2.2.2 c j) ∧ (t.1 240 ≠ 0 → T.1 240 = t.1 240 ∧ T.2.1 241 = t.2.1 241)
theorem t_push (u l : Int64) {k : Nat} (h : t.1 239 = Int32.ofNat k) (hk : k < 130) : ∃ T, t_756 u l t = some T ∧ Pu t T k ∧ (t.1 240 = 0 → l ≠ 0 → (frO u l = true ∧ T.1 240 = 2 ∧ T.2.1 241 = 0) ∨ (frO u l = false ∧ T.1 240 = 0 ∧ T.2.1 241 = t.2.1 241 ∧ T.2.2.2 97 k = frU u l ∧ T.2.2.2 98 k = frL u l)) := by
  have gd : (if lg_cmp (gdv u l) 0 < 0 then some (-gdv u l) else some (gdv u l)) = some (gda u l) := by
    unfold gda
    by_cases z : gdv u l < 0
    · rw [if_pos ((lc_neg _ _).mpr z), if_pos z]
    · rw [if_neg (fun w => z ((lc_neg _ _).mp w)), if_neg z]
  unfold t_756
  rw [gdv_eq, Option.bind_some, gd, Option.bind_some]
  by_cases g0 : gda u l = 0
  · rw [if_pos ((lc_0 _ _).mpr g0), Option.bind_some, Option.bind_some]
    refine ⟨_, rfl, ⟨?_, fun c h1 h2 => if_neg h1, fun _ _ => rfl, rfl, fun _ _ => Or.inr rfl, fun _ => ⟨ptI_240 .., rfl⟩⟩, fun _ w => absurd g0 (gda_ne w)⟩
    show (if (239 : Nat) = 239 then t.1 239 + 1 else t.1 239) = _
    rw [if_pos rfl, h, i_suc]
  · rw [if_neg (fun w => g0 ((lc_0 _ _).mp w)), if_neg g0, h, stL_n hk (by decide), Option.bind_some, if_neg g0]
    rw [show (wrL t 97 k (u / gda u l)).1 239 = Int32.ofNat k from h, stL_n hk (by decide), Option.bind_some]
    obtain ⟨s2, h2⟩ : ∃ s2, s2 = wrL (wrL t 97 k (u / gda u l)) 98 k (l / gda u l) := ⟨_, rfl⟩
    rw [← h2]
    have a1 : s2.1 = t.1 := by rw [h2]; rfl
    have a2 : s2.2.1 = t.2.1 := by rw [h2]; rfl
    have a3 : s2.2.2.1 = t.2.2.1 := by rw [h2]; rfl
    have a4 : s2.2.2.2 97 k = u / gda u l := by
      rw [h2]
      show (if (97 : Nat) = 98 ∧ k = k then l / gda u l else if (97 : Nat) = 97 ∧ k = k then u / gda u l else t.2.2.2 97 k) = _
      rw [if_neg (by omega), if_pos ⟨rfl, rfl⟩]
    have a5 : s2.2.2.2 98 k = l / gda u l := by
      rw [h2]
      show (if (98 : Nat) = 98 ∧ k = k then l / gda u l else if (98 : Nat) = 97 ∧ k = k then u / gda u l else t.2.2.2 98 k) = _
      rw [if_pos ⟨rfl, rfl⟩]
    have a6 : ∀ c j, (c = 97 ∨ c = 98) ∧ j = k ∨ s2.2.2.2 c j = t.2.2.2 c j := fun c j => by
      by_cases z : (c = 97 ∨ c = 98) ∧ j = k
      · exact Or.inl z
      · right
        rw [h2]
        show (if c = 98 ∧ j = k then l / gda u l else if c = 97 ∧ j = k then u / gda u l else t.2.2.2 c j) = _
        rw [if_neg (fun w => z ⟨Or.inr w.1, w.2⟩), if_neg (fun w => z ⟨Or.inl w.1, w.2⟩)]
    have b1 : s2.1 239 = Int32.ofNat k := by rw [a1, h]
    rw [b1, rdL_n hk (by decide), Option.bind_some, a5]
    have fin : ∀ S : TS, S.1 239 = Int32.ofNat k → (∀ c, c ≠ 240 → S.1 c = t.1 c) → (∀ c, c ≠ 241 → S.2.1 c = t.2.1 c) → S.2.2.1 = t.2.2.1 → (∀ c j, (c = 97 ∨ c = 98) ∧ j = k ∨ S.2.2.2 c j = t.2.2.2 c j) → (t.1 240 ≠ 0 → S.1 240 = t.1 240 ∧ S.2.1 241 = t.2.1 241) → Pu t (ptI S 239 (S.1 239 + 1)) k := by
      intro S e1 e2 e3 e4 e5 e6
      refine ⟨?_, fun c h1 h2 => (if_neg h1).trans (e2 c h2), e3, e4, e5, fun w => ⟨(ptI_240 ..).trans (e6 w).1, (e6 w).2⟩⟩
      show (if (239 : Nat) = 239 then S.1 239 + 1 else S.1 239) = _
      rw [if_pos rfl, e1, i_suc]
    by_cases z : l / gda u l < 0
    · rw [if_pos ((lc_neg _ _).mpr z), rdL_n hk (by decide), Option.bind_some, a4]
      obtain ⟨s3, h3, q3⟩ : ∃ s3, Option.bind (if lg_cmp (u / gda u l) (-9223372036854775808) = 0 then (some (.inl ()) : Option (Sum Unit TS)) else Option.bind (some (l / gda u l)) (fun x5 => (if (lg_cmp x5 (-9223372036854775808)) = 0 then some (.inl ()) else some (.inr s2)))) (Sum.elim (fun v70 => Option.bind (t_757 2 0 s2) (fun x6 => some x6)) (fun z => some z)) = some s3 ∧ s3 = if frO u l = true then opnT s2 2 0 else s2 := by
        unfold frO
        rw [decide_eq_true z, Bool.true_and]
        simp only [lc_0, t_opn, Option.bind_some, a5]
        by_cases y : u / gda u l = Int64.minValue
        · rw [if_pos (y.trans (by decide))]
          exact ⟨_, rfl, by rw [decide_eq_true y, Bool.true_or, if_pos rfl]⟩
        · rw [if_neg (fun w => y (w.trans (by decide))), decide_eq_false y, Bool.false_or]
          by_cases x : l / gda u l = Int64.minValue
          · rw [if_pos (x.trans (by decide))]
            exact ⟨_, rfl, by rw [decide_eq_true x, if_pos rfl]⟩
          · rw [if_neg (fun w => x (w.trans (by decide))), decide_eq_false x]
            exact ⟨_, rfl, by rw [if_neg (by decide)]⟩
      rw [h3, Option.bind_some]
      have c1 : ∀ c, c ≠ 240 → s3.1 c = t.1 c := fun c hc => by
        rw [q3]; split
        · rw [opnT_1 _ _ _ hc, a1]
        · rw [a1]
      have c2 : ∀ c, c ≠ 241 → s3.2.1 c = t.2.1 c := fun c hc => by
        rw [q3]; split
        · rw [opnT_2 _ _ _ hc, a2]
        · rw [a2]
      have c3 : s3.2.2 = s2.2.2 := by
        rw [q3]; split
        · rw [opnT_3]
        · rfl
      have c4 : s3.1 239 = Int32.ofNat k := by rw [c1 239 (by decide), h]
      rw [c4, rdL_n hk (by decide), Option.bind_some, stL_n hk (by decide), Option.bind_some]
      rw [show (wrL s3 97 k (-s3.2.2.2 97 k)).1 239 = Int32.ofNat k from c4, rdL_n hk (by decide), Option.bind_some, stL_n hk (by decide), Option.bind_some, Option.bind_some]
      have r97 : (wrL (wrL s3 97 k (-s3.2.2.2 97 k)) 98 k (-(wrL s3 97 k (-s3.2.2.2 97 k)).2.2.2 98 k)).2.2.2 97 k = -(u / gda u l) := by
        rw [wrL_at, if_neg (by omega), wrL_at, if_pos ⟨rfl, rfl⟩, c3, a4]
      have r98 : (wrL (wrL s3 97 k (-s3.2.2.2 97 k)) 98 k (-(wrL s3 97 k (-s3.2.2.2 97 k)).2.2.2 98 k)).2.2.2 98 k = -(l / gda u l) := by
        rw [wrL_at, if_pos ⟨rfl, rfl⟩, wrL_at, if_neg (by omega), c3, a5]
      refine ⟨_, rfl, fin _ c4 c1 c2 (by show s3.2.2.1 = _; rw [c3, a3]) (fun c j => ?_) (fun w => ?_), fun w _ => ?_⟩
      · by_cases y : (c = 97 ∨ c = 98) ∧ j = k
        · exact Or.inl y
        · right
          show (wrL (wrL s3 97 k _) 98 k _).2.2.2 c j = _
          rw [wrL_at, if_neg (fun w => y ⟨Or.inr w.1, w.2⟩), wrL_at, if_neg (fun w => y ⟨Or.inl w.1, w.2⟩), c3]
          rcases a6 c j with v | v
          · exact absurd v y
          · exact v
      · have w2 : s2.1 240 ≠ 0 := by rw [a1]; exact w
        have e : s3 = s2 := by rw [q3]; split; · exact opnT_n _ _ w2
                               · rfl
        show s3.1 240 = _ ∧ s3.2.1 241 = _
        rw [e, a1, a2]; exact ⟨rfl, rfl⟩
      · have w2 : s2.1 240 = 0 := by rw [a1]; exact w
        by_cases y : frO u l = true
        · left
          rw [if_pos y] at q3
          obtain ⟨v1, v2⟩ := opnT_z (t := s2) 2 0 w2
          refine ⟨y, ?_, ?_⟩
          · refine (ptI_240 _ _).trans ?_
            show s3.1 240 = _
            rw [q3, v1]
          · show s3.2.1 241 = _
            rw [q3, v2]
        · right
          rw [if_neg y] at q3
          refine ⟨by simpa using y, ?_, ?_, ?_, ?_⟩
          · refine (ptI_240 _ _).trans ?_
            show s3.1 240 = _
            rw [q3, w2]
          · show s3.2.1 241 = _
            rw [q3, a2]
          · refine r97.trans ?_
            unfold frU; rw [if_pos z]
          · refine r98.trans ?_
            unfold frL; rw [if_pos z]
    · rw [if_neg (fun w => z ((lc_neg _ _).mp w)), Option.bind_some, Option.bind_some]
      refine ⟨_, rfl, fin _ b1 (fun c _ => by rw [a1]) (fun c _ => by rw [a2]) a3 a6 (fun _ => by rw [a1, a2]; exact ⟨rfl, rfl⟩), fun w _ => Or.inr ⟨?_, ?_, ?_, ?_, ?_⟩⟩
      · unfold frO; rw [decide_eq_false z, Bool.false_and]
      · refine (ptI_240 _ _).trans ?_
        rw [a1, w]
      · show s2.2.1 241 = _
        rw [a2]
      · refine a4.trans ?_
        unfold frU; rw [if_neg z]
      · refine a5.trans ?_
        unfold frL; rw [if_neg z]
end
