/-! the plan: a finding stays while lines and doors change -/
section
variable {h h' : lHeap} {t T : TS} {L L' : PLn} {nl nl' : Nat} {LC LD LC' LD' : Nat → Nat} {fd : Nat}
theorem FT_cg2 {nr : Nat} {st ln : Nat → Nat} {lab : Int → Int → Int} {nm : Nat → Int32} {Lf : PLn} {nf : Nat} (r : FT t Lf nf nr st ln lab nm) {I R : List Nat} (a : agr I R t T) (h0 : 127 ∉ I ∧ 130 ∉ I ∧ 112 ∉ I ∧ 113 ∉ I ∧ 135 ∉ I ∧ 117 ∉ I) (h1 : 66 ∉ R ∧ 67 ∉ R ∧ 68 ∉ R ∧ 69 ∉ R ∧ 70 ∉ R ∧ 58 ∉ R ∧ 59 ∉ R ∧ 60 ∉ R) (h2 : 72 ∉ R ∧ 73 ∉ R ∧ 64 ∉ R) (h52 : ∀ l, l < nf → T.2.2.1 52 l = t.2.2.1 52 l) : FT T Lf nf nr st ln lab nm := by
  obtain ⟨r1, r2, r3, r4, ⟨ps, ⟨p1, p2, p3, p4⟩, p5, p6⟩, r6, r7, r8⟩ := r
  exact ⟨r1, r2, r3, r4, ⟨ps, ⟨fun l hl => by rw [h52 l hl]; exact p1 l hl, p2, ptR_cg p3 a h0.1 ⟨h1.1, h1.2.1⟩, pcR_cg p4 a h0.2.1 ⟨h1.2.2.1, h1.2.2.2.1, h1.2.2.2.2.1⟩⟩, edR_cg p5 a ⟨h0.2.2.1, h0.2.2.2.1⟩ ⟨h1.2.2.2.2.2.1, h1.2.2.2.2.2.2.1⟩, lbR_cg p6 a h1.2.2.2.2.2.2.2⟩, rgR_cg r6 a h0.2.2.2.2.1 ⟨h2.1, h2.2.1⟩, by rw [a.1 117 h0.2.2.2.2.2]; exact r7, by rw [a.2.2.1 64 h2.2.2]; exact r8⟩
theorem F2_up (r : F2 h t L nl LC LD fd) (e : ∀ a c, h a = some c → (c.2.2.1 = 7 ∨ 61 ≤ c.2.2.1 ∧ c.2.2.1 ≤ 66 ∨ c.2.2.1 = 1042 ∨ (c.2.2.1 = 1013 ∧ 179 ≤ a ∧ ∀ l, l < nl → a ≠ LD l)) → h' a = some c) {I R : List Nat} (a : agr I R t T) (h0 : 127 ∉ I ∧ 130 ∉ I ∧ 112 ∉ I ∧ 113 ∉ I ∧ 135 ∉ I ∧ 117 ∉ I) (h1 : 66 ∉ R ∧ 67 ∉ R ∧ 68 ∉ R ∧ 69 ∉ R ∧ 70 ∉ R ∧ 58 ∉ R ∧ 59 ∉ R ∧ 60 ∉ R) (h2 : 72 ∉ R ∧ 73 ∉ R ∧ 64 ∉ R) (h52 : ∀ l, l < nl → T.2.2.1 52 l = t.2.2.1 52 l) (hn : nl ≤ nl') (hF : ∀ l, l < nl → pFl L' l = pFl L l) (hLC : ∀ l, l < nl → LC' l = LC l) (hfr : T.1 110 = 1 → t.1 110 = 1 ∧ nl' = nl ∧ ∀ l, l < nl → L' l = L l) (hLD : ∀ l, l < nl' → (l < nl ∧ LD' l = LD l) ∨ h (LD' l) = none) : F2 h' T L' nl' LC' LD' fd := by
  obtain ⟨Lf, nf, nr, st, ln, lab, fL, ou, ol, mp, pid, nid, aid, si, rc, rl, sp, sl, q1, q2, q3, q4, q5, q6, q7⟩ := r
  have e64 : T.2.2.1 64 = t.2.2.1 64 := a.2.2.1 64 h2.2.2
  have q2' := q2
  obtain ⟨_, _, ⟨m1, z1⟩, ⟨_, m2, z2⟩, z3, z4, _, _, _, _, b1, _, b2⟩ := q2
  refine ⟨Lf, nf, nr, st, ln, lab, fL, ou, ol, mp, pid, nid, aid, si, rc, rl, sp, sl, ?_, ?_, by omega, fun l hl => by rw [hF l (by omega)]; exact q4 l hl, fun z => ?_, fun k hk => by rw [e64]; exact q6 k hk, fun l hl => ?_⟩
  · rw [e64]
    exact FT_cg2 q1 a h0 h1 h2 (fun l hl => h52 l (by omega))
  · rw [e64]
    refine FD_own (FD_lst q2' (fun b c hb hc => e b c hb ?_)) (Nat.le_refl _) (fun _ _ _ w => w) (fun l hl => hLC l (by omega))
    rcases hc with w | w | w | ⟨w, x⟩
    · exact Or.inl w
    · exact Or.inr (Or.inl w)
    · exact Or.inr (Or.inr (Or.inl w))
    · refine Or.inr (Or.inr (Or.inr ⟨w, ?_⟩))
      rcases x with rfl | rfl | ⟨k, hk, rfl⟩ | ⟨j, hj, rfl⟩
      · exact ⟨b1, fun l hl y => (q7 l hl).1 y.symm⟩
      · exact ⟨b2, fun l hl y => (q7 l hl).2.1 y.symm⟩
      · exact ⟨(z4 k hk).2.1, fun l hl y => (q7 l hl).2.2.1 k hk y.symm⟩
      · exact ⟨(z3 j hj).2.2.1, fun l hl y => (q7 l hl).2.2.2 j hj y.symm⟩
  · obtain ⟨w1, w2, w3⟩ := hfr z
    obtain ⟨y1, y2⟩ := q5 w1
    exact ⟨by omega, fun l hl => by rw [y2 l (by omega), w3 l (by omega)]⟩
  · rcases hLD l hl with ⟨w1, w2⟩ | w
    · rw [w2]; exact q7 l w1
    · refine ⟨fun y => ?_, fun y => ?_, fun k hk y => ?_, fun j hj y => ?_⟩
      · rw [y, z1] at w; cases w
      · rw [y, z2] at w; cases w
      · obtain ⟨_, _, _, m, x⟩ := z4 k hk
        rw [y, x] at w; cases w
      · obtain ⟨_, _, _, m, x⟩ := z3 j hj
        rw [y, x] at w; cases w
end
