/-! permits: what was read is taken over -/
section
variable {t T S : TS}
def cpy {α : Type} (f : Nat → Nat → α) (cs : List Nat) (off m : Nat) : Nat → Nat → α := fun c i => if c ∈ cs ∧ i < m then f c (off + i) else f c i
theorem cpy_0 {α : Type} (f : Nat → Nat → α) (cs : List Nat) (off : Nat) : cpy f cs off 0 = f := by
  funext c i
  exact if_neg (by omega)
theorem cpy_s {α : Type} (f : Nat → Nat → α) (cs : List Nat) (off m c i : Nat) : cpy f cs off (m + 1) c i = if c ∈ cs ∧ i = m then f c (off + m) else cpy f cs off m c i := by
  unfold cpy
  by_cases z : c ∈ cs
  · by_cases zi : i = m
    · rw [if_pos ⟨z, by omega⟩, if_pos ⟨z, zi⟩, zi]
    · by_cases zl : i < m
      · rw [if_pos ⟨z, by omega⟩, if_neg (fun w => zi w.2), if_pos ⟨z, zl⟩]
      · rw [if_neg (fun w => by omega), if_neg (fun w => zi w.2), if_neg (fun w => zl w.2)]
  · rw [if_neg (fun w => z w.1), if_neg (fun w => z w.1), if_neg (fun w => z w.1)]
theorem cpy_hi {α : Type} {f : Nat → Nat → α} {cs : List Nat} {off m c i : Nat} (h : m ≤ i) : cpy f cs off m c i = f c i := if_neg (fun w => by omega)
theorem cpy_no {α : Type} {f : Nat → Nat → α} {cs : List Nat} {off m c i : Nat} (h : c ∉ cs) : cpy f cs off m c i = f c i := if_neg (fun w => h w.1)
theorem cpy_lo {α : Type} {f : Nat → Nat → α} {cs : List Nat} {off m c i : Nat} (h : c ∈ cs) (hi : i < m) : cpy f cs off m c i = f c (off + i) := if_pos ⟨h, hi⟩
theorem ad_1 {nr : Nat} (h205 : S.1 205 = Int32.ofNat nr) (hn : nr ≤ 12) : ∃ T, wh (S := TS × Int32) (X := TS) (fun p14 => (if p14.2 < (p14.1.1 205) then Option.bind (rdL p14.1 79 24 (12 + p14.2)) (fun x4 => Option.bind (stL p14.1 79 24 p14.2 x4) (fun s5 => Option.bind (rdI s5 80 24 (12 + p14.2)) (fun x6 => Option.bind (stI s5 80 24 p14.2 x6) (fun s7 => Option.bind (rdI s7 81 24 (12 + p14.2)) (fun x8 => Option.bind (stI s7 81 24 p14.2 x8) (fun s9 => Option.bind (rdI s9 82 24 (12 + p14.2)) (fun x10 => Option.bind (stI s9 82 24 p14.2 x10) (fun s11 => some (.inl (s11, p14.2 + 1)))))))))) else some (.inr p14.1))) (S, 0) = some T ∧ T.1 = S.1 ∧ T.2.1 = S.2.1 ∧ T.2.2.1 = cpy S.2.2.1 [80, 81, 82] 12 nr ∧ T.2.2.2 = cpy S.2.2.2 [79] 12 nr := by
  refine wh_cnt nr (fun j (a : TS × Int32) => a.2 = Int32.ofNat j ∧ a.1.1 = S.1 ∧ a.1.2.1 = S.2.1 ∧ a.1.2.2.1 = cpy S.2.2.1 [80, 81, 82] 12 j ∧ a.1.2.2.2 = cpy S.2.2.2 [79] 12 j) ?_ ?_ ⟨rfl, rfl, rfl, (cpy_0 ..).symm, (cpy_0 ..).symm⟩
  · rintro j ⟨T, _⟩ hj ⟨rfl, h1, h2, h3, h4⟩
    right
    dsimp only at h1 h2 h3 h4 ⊢
    have i12 : (12 : Int32) + Int32.ofNat j = Int32.ofNat (12 + j) := i_add 12 j
    rw [h1, h205, if_pos ((i_lt (by omega) (by omega)).mpr hj), i12, rdL_n (by omega) (by decide), Option.bind_some, stL_n (by omega) (by decide), Option.bind_some, rdI_n (by omega) (by decide), Option.bind_some, stI_n (by omega) (by decide), Option.bind_some, rdI_n (by omega) (by decide), Option.bind_some, stI_n (by omega) (by decide), Option.bind_some, rdI_n (by omega) (by decide), Option.bind_some, stI_n (by omega) (by decide), Option.bind_some, i_suc]
    have a79 : T.2.2.2 79 (12 + j) = S.2.2.2 79 (12 + j) := by rw [h4]; exact cpy_hi (by omega)
    have a80 : T.2.2.1 80 (12 + j) = S.2.2.1 80 (12 + j) := by rw [h3]; exact cpy_hi (by omega)
    have a81 : T.2.2.1 81 (12 + j) = S.2.2.1 81 (12 + j) := by rw [h3]; exact cpy_hi (by omega)
    have a82 : T.2.2.1 82 (12 + j) = S.2.2.1 82 (12 + j) := by rw [h3]; exact cpy_hi (by omega)
    refine ⟨_, rfl, rfl, h1, h2, ?_, ?_⟩
    · funext q i
      rw [cpy_s]
      by_cases z2 : q = 82
      · subst z2
        rw [wrIe, wrIq _ _ _ (by decide), wrIq _ _ _ (by decide)]
        dsimp only
        by_cases zi : i = j
        · rw [if_pos zi, if_pos ⟨by decide, zi⟩]; exact a82
        · rw [if_neg zi, if_neg (fun w => zi w.2)]
          show T.2.2.1 82 i = _
          rw [h3]
      · rw [wrIq _ _ _ z2]
        by_cases z1 : q = 81
        · subst z1
          rw [wrIe, wrIq _ _ _ (by decide)]
          dsimp only
          by_cases zi : i = j
          · rw [if_pos zi, if_pos ⟨by decide, zi⟩]; exact a81
          · rw [if_neg zi, if_neg (fun w => zi w.2)]
            show T.2.2.1 81 i = _
            rw [h3]
        · rw [wrIq _ _ _ z1]
          by_cases z0 : q = 80
          · subst z0
            rw [wrIe]
            dsimp only
            by_cases zi : i = j
            · rw [if_pos zi, if_pos ⟨by decide, zi⟩]; exact a80
            · rw [if_neg zi, if_neg (fun w => zi w.2)]
              show T.2.2.1 80 i = _
              rw [h3]
          · rw [wrIq _ _ _ z0, if_neg (fun w => by
              have := w.1
              simp only [List.mem_cons, List.not_mem_nil, or_false] at this
              omega)]
            show T.2.2.1 q i = _
            rw [h3]
    · funext q i
      rw [cpy_s]
      show (wrL T 79 j _).2.2.2 q i = _
      by_cases z0 : q = 79
      · subst z0
        rw [wrLe]
        dsimp only
        by_cases zi : i = j
        · rw [if_pos zi, if_pos ⟨by decide, zi⟩]; exact a79
        · rw [if_neg zi, if_neg (fun w => zi w.2), h4]
      · rw [wrLq _ _ _ z0, if_neg (fun w => z0 (by simpa using w.1)), h4]
  · rintro ⟨T, _⟩ ⟨rfl, h1, h2, h3, h4⟩
    dsimp only at h1 h2 h3 h4 ⊢
    rw [h1, h205, if_neg (fun w => Nat.lt_irrefl _ ((i_lt (by omega) (by omega)).mp w))]
    exact ⟨T, rfl, h1, h2, h3, h4⟩
theorem ad_2 {nc : Nat} (h210 : S.1 210 = Int32.ofNat nc) (hn : nc ≤ 60) : ∃ T, wh (S := TS × Int32) (X := TS) (fun p62 => (if p62.2 < (p62.1.1 210) then Option.bind (rdI p62.1 83 120 (60 + p62.2)) (fun x12 => Option.bind (stI p62.1 83 120 p62.2 x12) (fun s13 => Option.bind (rdI s13 84 120 (60 + p62.2)) (fun x14 => Option.bind (stI s13 84 120 p62.2 x14) (fun s15 => Option.bind (rdI s15 85 120 (60 + p62.2)) (fun x16 => Option.bind (stI s15 85 120 p62.2 x16) (fun s17 => Option.bind (rdI s17 86 120 (60 + p62.2)) (fun x18 => Option.bind (stI s17 86 120 p62.2 x18) (fun s19 => some (.inl (s19, p62.2 + 1)))))))))) else some (.inr p62.1))) (S, 0) = some T ∧ T.1 = S.1 ∧ T.2.1 = S.2.1 ∧ T.2.2.1 = cpy S.2.2.1 [83, 84, 85, 86] 60 nc ∧ T.2.2.2 = S.2.2.2 := by
  refine wh_cnt nc (fun j (a : TS × Int32) => a.2 = Int32.ofNat j ∧ a.1.1 = S.1 ∧ a.1.2.1 = S.2.1 ∧ a.1.2.2.1 = cpy S.2.2.1 [83, 84, 85, 86] 60 j ∧ a.1.2.2.2 = S.2.2.2) ?_ ?_ ⟨rfl, rfl, rfl, (cpy_0 ..).symm, rfl⟩
  · rintro j ⟨T, _⟩ hj ⟨rfl, h1, h2, h3, h4⟩
    right
    dsimp only at h1 h2 h3 h4 ⊢
    have i12 : (60 : Int32) + Int32.ofNat j = Int32.ofNat (60 + j) := i_add 60 j
    rw [h1, h210, if_pos ((i_lt (by omega) (by omega)).mpr hj), i12, rdI_n (by omega) (by decide), Option.bind_some, stI_n (by omega) (by decide), Option.bind_some, rdI_n (by omega) (by decide), Option.bind_some, stI_n (by omega) (by decide), Option.bind_some, rdI_n (by omega) (by decide), Option.bind_some, stI_n (by omega) (by decide), Option.bind_some, rdI_n (by omega) (by decide), Option.bind_some, stI_n (by omega) (by decide), Option.bind_some, i_suc]
    have aa : ∀ q, T.2.2.1 q (60 + j) = S.2.2.1 q (60 + j) := fun q => by rw [h3]; exact cpy_hi (by omega)
    refine ⟨_, rfl, rfl, h1, h2, ?_, h4⟩
    funext q i
    rw [cpy_s]
    by_cases z3 : q = 86
    · subst z3
      rw [wrIe, wrIq _ _ _ (by decide), wrIq _ _ _ (by decide), wrIq _ _ _ (by decide)]
      dsimp only
      by_cases zi : i = j
      · rw [if_pos zi, if_pos ⟨by decide, zi⟩]; exact aa 86
      · rw [if_neg zi, if_neg (fun w => zi w.2), h3]
    · rw [wrIq _ _ _ z3]
      by_cases z2 : q = 85
      · subst z2
        rw [wrIe, wrIq _ _ _ (by decide), wrIq _ _ _ (by decide)]
        dsimp only
        by_cases zi : i = j
        · rw [if_pos zi, if_pos ⟨by decide, zi⟩]; exact aa 85
        · rw [if_neg zi, if_neg (fun w => zi w.2), h3]
      · rw [wrIq _ _ _ z2]
        by_cases z1 : q = 84
        · subst z1
          rw [wrIe, wrIq _ _ _ (by decide)]
          dsimp only
          by_cases zi : i = j
          · rw [if_pos zi, if_pos ⟨by decide, zi⟩]; exact aa 84
          · rw [if_neg zi, if_neg (fun w => zi w.2), h3]
        · rw [wrIq _ _ _ z1]
          by_cases z0 : q = 83
          · subst z0
            rw [wrIe]
            dsimp only
            by_cases zi : i = j
            · rw [if_pos zi, if_pos ⟨by decide, zi⟩]; exact aa 83
            · rw [if_neg zi, if_neg (fun w => zi w.2), h3]
          · rw [wrIq _ _ _ z0, if_neg (fun w => by
              have := w.1
              simp only [List.mem_cons, List.not_mem_nil, or_false] at this
              omega), h3]
  · rintro ⟨T, _⟩ ⟨rfl, h1, h2, h3, h4⟩
    dsimp only at h1 h2 h3 h4 ⊢
    rw [h1, h210, if_neg (fun w => Nat.lt_irrefl _ ((i_lt (by omega) (by omega)).mp w))]
    exact ⟨T, rfl, h1, h2, h3, h4⟩
theorem ad_3 {n0 : Nat} (h215 : S.1 215 = Int32.ofNat n0) (hn : n0 ≤ 400) : ∃ T, wh (S := TS × Int32) (X := TS) (fun p110 => (if p110.2 < (p110.1.1 215) then Option.bind (rdI p110.1 87 800 (400 + p110.2)) (fun x20 => Option.bind (stI p110.1 87 800 p110.2 x20) (fun s21 => Option.bind (rdL s21 88 800 (400 + p110.2)) (fun x22 => Option.bind (stL s21 88 800 p110.2 x22) (fun s23 => some (.inl (s23, p110.2 + 1)))))) else some (.inr p110.1))) (S, 0) = some T ∧ T.1 = S.1 ∧ T.2.1 = S.2.1 ∧ T.2.2.1 = cpy S.2.2.1 [87] 400 n0 ∧ T.2.2.2 = cpy S.2.2.2 [88] 400 n0 := by
  refine wh_cnt n0 (fun j (a : TS × Int32) => a.2 = Int32.ofNat j ∧ a.1.1 = S.1 ∧ a.1.2.1 = S.2.1 ∧ a.1.2.2.1 = cpy S.2.2.1 [87] 400 j ∧ a.1.2.2.2 = cpy S.2.2.2 [88] 400 j) ?_ ?_ ⟨rfl, rfl, rfl, (cpy_0 ..).symm, (cpy_0 ..).symm⟩
  · rintro j ⟨T, _⟩ hj ⟨rfl, h1, h2, h3, h4⟩
    right
    dsimp only at h1 h2 h3 h4 ⊢
    have i12 : (400 : Int32) + Int32.ofNat j = Int32.ofNat (400 + j) := i_add 400 j
    rw [h1, h215, if_pos ((i_lt (by omega) (by omega)).mpr hj), i12, rdI_n (by omega) (by decide), Option.bind_some, stI_n (by omega) (by decide), Option.bind_some, rdL_n (by omega) (by decide), Option.bind_some, stL_n (by omega) (by decide), Option.bind_some, i_suc]
    have a87 : T.2.2.1 87 (400 + j) = S.2.2.1 87 (400 + j) := by rw [h3]; exact cpy_hi (by omega)
    have a88 : T.2.2.2 88 (400 + j) = S.2.2.2 88 (400 + j) := by rw [h4]; exact cpy_hi (by omega)
    refine ⟨_, rfl, rfl, h1, h2, ?_, ?_⟩
    · funext q i
      rw [cpy_s]
      show (wrI T 87 j _).2.2.1 q i = _
      by_cases z0 : q = 87
      · subst z0
        rw [wrIe]
        dsimp only
        by_cases zi : i = j
        · rw [if_pos zi, if_pos ⟨by decide, zi⟩]; exact a87
        · rw [if_neg zi, if_neg (fun w => zi w.2), h3]
      · rw [wrIq _ _ _ z0, if_neg (fun w => z0 (by simpa using w.1)), h3]
    · funext q i
      rw [cpy_s]
      by_cases z0 : q = 88
      · subst z0
        rw [wrLe]
        dsimp only
        by_cases zi : i = j
        · rw [if_pos zi, if_pos ⟨by decide, zi⟩]; exact a88
        · rw [if_neg zi, if_neg (fun w => zi w.2)]
          show T.2.2.2 88 i = _
          rw [h4]
      · rw [wrLq _ _ _ z0, if_neg (fun w => z0 (by simpa using w.1))]
        show T.2.2.2 q i = _
        rw [h4]
  · rintro ⟨T, _⟩ ⟨rfl, h1, h2, h3, h4⟩
    dsimp only at h1 h2 h3 h4 ⊢
    rw [h1, h215, if_neg (fun w => Nat.lt_irrefl _ ((i_lt (by omega) (by omega)).mp w))]
    exact ⟨T, rfl, h1, h2, h3, h4⟩
/-- adopt -/
theorem t_adopt {nr nc n0 : Nat} (h232 : t.1 232 = Int32.ofNat nr) (h233 : t.1 233 = Int32.ofNat nc) (h234 : t.1 234 = Int32.ofNat n0) (hr : nr ≤ 12) (hc : nc ≤ 60) (hn : n0 ≤ 400) : ∃ T, t_748 t = some T ∧ T.1 205 = Int32.ofNat nr ∧ (∀ c, c ≠ 205 → c ≠ 210 → c ≠ 215 → T.1 c = t.1 c) ∧ T.2.1 = t.2.1 ∧ (∀ c j, (c = 80 ∨ c = 81 ∨ c = 82) → j < nr → T.2.2.1 c j = t.2.2.1 c (12 + j)) ∧ (∀ c j, (c = 83 ∨ c = 84 ∨ c = 85 ∨ c = 86) → j < nc → T.2.2.1 c j = t.2.2.1 c (60 + j)) ∧ (∀ j, j < n0 → T.2.2.1 87 j = t.2.2.1 87 (400 + j) ∧ T.2.2.2 88 j = t.2.2.2 88 (400 + j)) ∧ (∀ c, c < 80 ∨ 87 < c → T.2.2.1 c = t.2.2.1 c) ∧ ∀ c, c ≠ 79 → c ≠ 88 → T.2.2.2 c = t.2.2.2 c := by
  unfold t_748
  rw [Option.bind_some, Option.bind_some, Option.bind_some]
  obtain ⟨s3, hs3⟩ : ∃ s3, s3 = ptI (ptI (ptI t 205 (t.1 232)) 210 ((ptI t 205 (t.1 232)).1 233)) 215 ((ptI (ptI t 205 (t.1 232)) 210 ((ptI t 205 (t.1 232)).1 233)).1 234) := ⟨_, rfl⟩
  have a205 : s3.1 205 = Int32.ofNat nr := by rw [hs3]; exact h232
  have a210 : s3.1 210 = Int32.ofNat nc := by rw [hs3]; exact h233
  have a215 : s3.1 215 = Int32.ofNat n0 := by rw [hs3]; exact h234
  have aN : ∀ c, c ≠ 205 → c ≠ 210 → c ≠ 215 → s3.1 c = t.1 c := fun c a b d => by rw [hs3]; exact (if_neg d).trans ((if_neg b).trans (if_neg a))
  have a2 : s3.2 = t.2 := by rw [hs3]; rfl
  rw [← hs3]
  obtain ⟨V1, e1, p1, p2, p3, p4⟩ := ad_1 a205 hr
  rw [e1, Option.bind_some]
  obtain ⟨V2, e2, q1, q2, q3, q4⟩ := ad_2 (S := V1) (nc := nc) (by rw [p1]; exact a210) hc
  rw [e2, Option.bind_some]
  obtain ⟨V3, e3, r1, r2, r3, r4⟩ := ad_3 (S := V2) (n0 := n0) (by rw [q1, p1]; exact a215) hn
  rw [e3, Option.bind_some]
  refine ⟨V3, rfl, by rw [r1, q1, p1]; exact a205, fun c a b d => by rw [r1, q1, p1]; exact aN c a b d, by rw [r2, q2, p2, a2], fun c j hc' hj => ?_, fun c j hc' hj => ?_, fun j hj => ⟨?_, ?_⟩, fun c hc' => ?_, fun c h1 h2 => ?_⟩
  · rw [r3, cpy_no (by simp; omega), q3, cpy_no (by simp; omega), p3, cpy_lo (by simp; omega) hj, a2]
  · rw [r3, cpy_no (by simp; omega), q3, cpy_lo (by simp; omega) hj, p3, cpy_no (by simp; omega), a2]
  · rw [r3, cpy_lo (by simp) hj, q3, cpy_no (by simp), p3, cpy_no (by simp), a2]
  · rw [r4, cpy_lo (by simp) hj, q4, p4, cpy_no (by simp), a2]
  · funext j
    rw [r3, cpy_no (by simp; omega), q3, cpy_no (by simp; omega), p3, cpy_no (by simp; omega), a2]
  · funext j
    rw [r4, cpy_no (by simp; omega), q4, p4, cpy_no (by simp; omega), a2]
end
