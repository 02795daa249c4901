/-! permits: the relation stays while one reads -/
section
variable {s S : CS} {t T : TS} {own : Nat → Nat} {h h' : lHeap} {nf n nr rl : Nat} {mc : Int32} {ru q bb : Nat → Nat} {D : Nat → ClD}
/-- the reference's part that the relation asks -/
def Ag3 (t T : TS) : Prop := (∀ c, c = 201 ∨ c = 202 ∨ c = 205 ∨ c = 218 → T.1 c = t.1 c) ∧ (∀ c, c = 76 ∨ c = 78 ∨ c = 89 ∨ c = 94 → T.2.2.1 c = t.2.2.1 c) ∧ (∀ c, c = 77 ∨ c = 90 ∨ c = 91 ∨ c = 92 ∨ c = 93 ∨ c = 95 → T.2.2.2 c = t.2.2.2 c) ∧ (∀ c j, (c = 80 ∨ c = 81 ∨ c = 82) → j < 12 → T.2.2.1 c j = t.2.2.1 c j) ∧ (∀ c j, (c = 83 ∨ c = 84 ∨ c = 85 ∨ c = 86) → j < 60 → T.2.2.1 c j = t.2.2.1 c j) ∧ ∀ j, j < 400 → T.2.2.1 87 j = t.2.2.1 87 j ∧ T.2.2.2 88 j = t.2.2.2 88 j
theorem Ag3_rz (f : RzF 0 0 0 t T) : Ag3 t T := by
  refine ⟨fun c hc => f.1 c (by omega) (by omega) (by omega) (by omega) (by omega) (by omega) (by omega) (by omega) (by omega), fun c hc => ?_, fun c hc => ?_, fun c j hc hj => ?_, fun c j hc hj => ?_, fun j hj => ⟨?_, ?_⟩⟩
  · funext j
    rcases f.2.2.1 c j with w | w
    · omega
    · exact w
  · funext j
    rcases f.2.2.2 c j with w | w
    · omega
    · exact w
  · rcases f.2.2.1 c j with w | w
    · omega
    · exact w
  · rcases f.2.2.1 c j with w | w
    · omega
    · exact w
  · rcases f.2.2.1 87 j with w | w
    · omega
    · exact w
  · rcases f.2.2.2 88 j with w | w
    · omega
    · exact w
theorem SdR_ag {i : Nat} {l : List (Int32 × Int64)} (a : Ag3 t T) (hi : i + l.length ≤ 400) (r : SdR t i l) : SdR T i l := ⟨fun m hm => by
  obtain ⟨e1, e2⟩ := a.2.2.2.2.2 (i + m) (by omega)
  rw [e1, e2]; exact r.1 m hm, r.2⟩
theorem RcS_ag {c i : Nat} {d : ClD} (a : Ag3 t T) (hc : c < 60) (hi : i + d.1.length + d.2.1.length ≤ 400) (r : RcS t c d i) : RcS T c d i := by
  obtain ⟨r1, r2, r3, r4, r5, r6, r7⟩ := r
  have e := a.2.2.2.2.1
  exact ⟨(e 83 c (by decide) hc).trans r1, (e 84 c (by decide) hc).trans r2, (e 85 c (by decide) hc).trans r3, (e 86 c (by decide) hc).trans r4, r5, SdR_ag a (by omega) r6, SdR_ag a (by omega) r7⟩
theorem FrK_hp {v : Value} {p : Int64 × Int64} (e : ∀ p c, h p = some c → h' p = some c) (r : FrK 0 ((h, 0, 0, 0) : CS) v p) : FrK 0 ((h', 0, 0, 0) : CS) v p := by
  rcases r with r | ⟨f, r1, r2, r3⟩
  · exact Or.inl r
  · exact Or.inr ⟨f, r1, e _ _ r2, r3⟩
theorem AskedR_up {k : Nat} {sr lf rf ms : Value} {wy : Int32} (e : ∀ p c, h p = some c → h' p = some c) (a : Ag3 t T) (r : AskedR h t k sr lf rf wy ms) : AskedR h' T k sr lf rf wy ms := by
  obtain ⟨sn, r1, r2, r3, r4, r5, r6, b, r7, r8⟩ := r
  refine ⟨sn, r1, r2, by rw [a.2.1 89 (by decide)]; exact r3, ?_, ?_, by rw [a.2.1 94 (by decide)]; exact r6, b, r7, ?_⟩
  · rw [a.2.2.1 90 (by decide), a.2.2.1 91 (by decide)]; exact FrK_hp e r4
  · rw [a.2.2.1 92 (by decide), a.2.2.1 93 (by decide)]; exact FrK_hp e r5
  · rw [a.2.2.1 95 (by decide)]
    rcases r8 with r8 | ⟨w, xs, q1, q2⟩
    · exact Or.inl r8
    · exact Or.inr ⟨w, xs, e _ _ q1, q2⟩
theorem RuR_up {k a : Nat} (e : ∀ p c, h p = some c → h' p = some c) (g : Ag3 t T) (hk : k < 12) (r : RuR h t D q k a) : RuR h' T D q k a := by
  obtain ⟨nm, cc, ex, sr, lf, rf, wy, ms, mc, m, CE, h1, ⟨h2, h3, h4, h5, h6, h7⟩, h8⟩ := r
  have e3 := g.2.2.2.1
  refine ⟨nm, cc, ex, sr, lf, rf, wy, ms, mc, m, CE, by rw [e3 82 k (by decide) hk]; exact e _ _ h1, ⟨e _ _ h2, ClP_up (noK_up e) h3, fun j hj => ClP_up (noK_up e) (h4 j hj), (e3 80 k (by decide) hk).trans h5, (e3 81 k (by decide) hk).trans h6, h7⟩, ?_⟩
  rw [g.1 218 (by decide)]
  exact h8.imp id (fun ⟨u, v⟩ => ⟨u, AskedR_up e g v⟩)
theorem R3_up (e : ∀ p c, h p = some c → h' p = some c) (g : Ag3 t T) (r : R3 h t) : R3 h' T := by
  obtain ⟨nf, n, nr, rl, mc, ru, q, bb, D, r1, rD, ⟨x1, x2, x3, x4⟩, rF, rL, r205, nr12, q0, q60, rR, inj, bb0, bbN, rC⟩ := r
  have qm : ∀ k, k < nr → q k < q (k + 1) := fun k hk => by
    obtain ⟨nm, cc, ex, sr, lf, rf, wy, ms, mc, m, CE, h1, ⟨h2, h3, h4, h5, h6, h7⟩, h8⟩ := rR k hk
    omega
  have bm : ∀ c, c ≤ q nr → bb c ≤ bb (q nr) := by
    have key : ∀ j c, c + j = q nr → bb c ≤ bb (q nr) := by
      intro j
      induction j with
      | zero => intro c h; rw [show c = q nr by omega]; exact Nat.le_refl _
      | succ j ih =>
        intro c h
        have h1 := ih (c + 1) (by omega)
        have h2 := (rC c (by omega)).2
        omega
    intro c hc
    exact key (q nr - c) c (by omega)
  refine ⟨nf, n, nr, rl, mc, ru, q, bb, D, by rw [g.1 218 (by decide)]; exact e _ _ r1, by rw [g.1 218 (by decide)]; exact rD, ⟨by rw [g.2.1 76 (by decide)]; exact e _ _ x1, (g.1 201 (by decide)).trans x2, x3, by rw [g.2.1 76 (by decide)]; exact x4⟩, R3f_cg (g.1 202 (by decide)) (g.2.2.1 77 (by decide)) (g.2.1 78 (by decide)) (R3f_up rF (fun c hc => e _ _ hc)), e _ _ rL, (g.1 205 (by decide)).trans r205, nr12, q0, q60, fun k hk => RuR_up e g (by omega) (rR k hk), inj, bb0, bbN, fun c hc => ?_⟩
  have h1 := rC c hc
  have h2 := bm (c + 1) (by omega)
  exact ⟨RcS_ag g (by omega) (by omega) h1.1, h1.2⟩
/-- what a chain of rules says -/
theorem chn_len : ∀ {Rs : List RuD} {a b : Nat}, chn Rs a b → a ≤ b := by
  intro Rs
  induction Rs with
  | nil => intro a b h; exact Nat.le_of_eq h
  | cons u us ih => intro a b h; have := ih h.2; omega
theorem chn_at : ∀ {Rs : List RuD} {a b : Nat}, chn Rs a b → (∀ h : 0 < Rs.length, ruQ Rs[0] = a) ∧ (∀ k (h : k < Rs.length), (if h2 : k + 1 < Rs.length then ruQ Rs[k + 1] else b) = ruQ Rs[k] + 1 + ruM Rs[k]) ∧ ∀ c, a ≤ c → c < b → ∃ k, ∃ h : k < Rs.length, ruQ Rs[k] ≤ c ∧ c < ruQ Rs[k] + 1 + ruM Rs[k] := by
  intro Rs
  induction Rs with
  | nil => intro a b h; exact ⟨fun h => absurd h (Nat.not_lt_zero _), fun k h => absurd h (Nat.not_lt_zero _), fun c h1 h2 => by have : a = b := h; omega⟩
  | cons u us ih =>
    intro a b h
    obtain ⟨h1, h2⟩ := h
    obtain ⟨i1, i2, i3⟩ := ih h2
    refine ⟨fun _ => h1, fun k hk => ?_, fun c hc hb => ?_⟩
    · cases k with
      | zero =>
        by_cases z : 0 < us.length
        · rw [dif_pos (by rw [List.length_cons]; omega)]
          show ruQ us[0] = ruQ u + 1 + ruM u
          rw [i1 z, h1]
        · rw [dif_neg (by rw [List.length_cons]; omega)]
          show b = ruQ u + 1 + ruM u
          have : us = [] := List.length_eq_zero_iff.mp (by omega)
          rw [this] at h2
          have h3 : a + 1 + ruM u = b := h2
          omega
      | succ k =>
        have hk' : k < us.length := by rw [List.length_cons] at hk; omega
        have := i2 k hk'
        show _ = ruQ us[k] + 1 + ruM us[k]
        rw [← this]
        by_cases z : k + 1 < us.length
        · rw [dif_pos (by rw [List.length_cons]; omega), dif_pos z]; rfl
        · rw [dif_neg (by rw [List.length_cons]; omega), dif_neg z]
    · by_cases z : c < a + 1 + ruM u
      · exact ⟨0, by simp, by show ruQ u ≤ c; omega, by show c < ruQ u + 1 + ruM u; omega⟩
      · obtain ⟨k, hk, q1, q2⟩ := i3 c (by omega) hb
        exact ⟨k + 1, by rw [List.length_cons]; omega, q1, q2⟩
end
