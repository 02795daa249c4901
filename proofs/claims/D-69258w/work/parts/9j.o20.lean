/-! building: the cells are built alike on both sides -/
section
variable {own : Nat → Nat} {s : CS} {tu t t2 : TS} {L : PLn} {nl nr : Nat} {st ln : Nat → Nat} {lab : Int → Int → Int} {LC LD : Nat → Nat} {DC : Nat → Nat → Nat} {fd fL ou ol mp : Nat} {pid nid aid : Nat → Nat → Nat} {si rc rl sp sl : Nat → Nat} {nd : Nat → Nat}
def ow9 (own : Nat → Nat) (n : Nat) : Nat → Nat := fun a => if n ≤ a then 9 else own a
theorem exA_cg {T : TS} {nl : Nat} (h47 : T.2.2.1 47 = t.2.2.1 47) (h : eqR t T [50, 51, 52, 53, 54, 55, 56]) : exA T nl = exA t nl := by
  funext c
  unfold exA exC
  refine propext (and_congr Iff.rfl (and_congr (not_congr (ouT_cg h47 c)) (exists_congr fun d => and_congr Iff.rfl (and_congr (ouT_cg h47 _) (psB_cg h nl d _ _)))))
theorem adN_cg {T : TS} {nl : Nat} (h47 : T.2.2.1 47 = t.2.2.1 47) (h : eqR t T [50, 51, 52, 53, 54, 55, 56]) : adN T nl = adN t nl := by
  funext c b
  unfold adN
  exact propext (and_congr Iff.rfl (and_congr (not_congr (ouT_cg h47 c)) (and_congr (not_congr (ouT_cg h47 b)) (exists_congr fun d => and_congr Iff.rfl (and_congr Iff.rfl (psB_cg h nl d _ _))))))
theorem ce_built (ru : R9 (rs s.1 own 9) tu) (h1u : tu.1 1 = 0) (au : agr [1, 9, 300] [47] tu t) (t1 : t.1 1 = 1) (h9 : t.1 9 = Int32.ofNat (spn L nl st ln nr)) (h100 : t.1 100 = Int32.ofNat nl) (h20 : nl ≤ 20) (n40 : spn L nl st ln nr ≤ 40) (h47 : ∀ c, c < 576 → t.2.2.1 47 c = Int32.ofInt (lab (c % 24 : Nat) (c / 24 : Nat))) (a2 : agr [10] [7, 8, 9, 10, 11, 15] t t2) (hB : EdH s t L nl LC LD DC nd) (F : FNx s t L nl nr st ln lab LC fd fL ou ol mp pid nid aid si rc rl sp sl) {f : List Value} (g : s.1 102 = some (true, false, 67, .ref 103 :: .ref fd :: f)) (k9 : K9 s.1) : ∃ T U, t_587 t2 = some T ∧ c_539 170 102 s = some U ∧ R9 (rs U.1 (ow9 own s.2.1) 9) T ∧ T.1 = t2.1 ∧ (∀ c, c ≠ 46 → T.2.2.1 c = t2.2.2.1 c) ∧ (∀ Z, Z ≠ 9 → rt T Z = rt t2 Z) ∧ wfS U ∧ s.2.1 ≤ U.2.1 ∧ (∀ p, p < s.2.1 → p ≠ 170 → p ≠ 171 → p ≠ 172 → p ≠ 173 → p ≠ 174 → p ≠ 175 → U.1 p = s.1 p) ∧ (∀ p, 170 ≤ p → p ≤ 175 → own p = 9) ∧ U.2.2.1 ≤ s.2.2.1 + 19500 ∧ U.2.2.2 ≤ s.2.2.2 + 491000 := by
  obtain ⟨hw, h179, hrw, _, _, _, hdr, _⟩ := id hB
  obtain ⟨_, _, nd0, sm, W0, e0, q0, g0, wn, sc, ⟨x0, x1, x2, ⟨mc0, x3⟩, x4, x5, x7, x8⟩, ⟨y1, ⟨xs, y2, y3, y4⟩, y5⟩, v, ⟨nw, n1, n2, n3⟩, _, u0⟩ := ru
  obtain ⟨rfl, u46⟩ := u0 h1u
  have lt := fun {p : Nat} {c : lCell} (h : rs s.1 own 9 p = some c) => wf_lt hw (rs_in h).1
  obtain ⟨U, e, q, W, ne, F9, c1, c2, c3, c4, c5, c6, c7, ⟨mc, c8⟩, c9, c10, c11, c12, c13, c14, c15, c16, c17⟩ := c_bld hB F g (rs_in x0).1 (rs_in x1).1 (rs_in x2).1 (rs_in x3).1 (rs_in x4).1 (rs_in x5).1 k9 h20 n40 h47
  have r2 : ∀ c, c ≠ 7 → c ≠ 8 → c ≠ 9 → c ≠ 10 → c ≠ 11 → c ≠ 15 → t2.2.2.1 c = t.2.2.1 c := fun c h1 h2 h3 h4 h5 h6 => a2.2.2.1 c (by simp; omega)
  have hl : lns t2 nl := by
    refine ⟨(a2.1 100 (by decide)).trans h100, h20, fun l hl => ?_⟩
    rw [r2 54 (by decide) (by decide) (by decide) (by decide) (by decide) (by decide)]
    have := (hdr l hl).2.1
    exact ⟨nd l, by omega, (hrw.2 l hl).2⟩
  obtain ⟨T, f9, d1, d2, d3, d4, d5, d6, d7⟩ := t_fw hl (fun c hc => by
    rw [r2 46 (by decide) (by decide) (by decide) (by decide) (by decide) (by decide), au.2.2.1 46 (by decide)]; exact u46 c hc)
  have q2 : eqR t t2 [50, 51, 52, 53, 54, 55, 56] := fun c hc => by
    simp at hc
    exact r2 c (by omega) (by omega) (by omega) (by omega) (by omega) (by omega)
  have q47 : t2.2.2.1 47 = t.2.2.1 47 := r2 47 (by decide) (by decide) (by decide) (by decide) (by decide) (by decide)
  rw [exA_cg q47 q2, adN_cg q47 q2] at d6
  have feq := fun c => wnR_eq c14 d6 c
  have row : ∀ c, c ≠ 7 → c ≠ 8 → c ≠ 9 → c ≠ 10 → c ≠ 11 → c ≠ 15 → c ≠ 46 → T.2.2.1 c = t.2.2.1 c := fun c h1 h2 h3 h4 h5 h6 h7 => (d3 c h7).trans (r2 c h1 h2 h3 h4 h5 h6)
  have i9 : T.1 9 = t.1 9 := by rw [d2]; exact a2.1 9 (by decide)
  have i1 : T.1 1 = 1 := by rw [d2, a2.1 1 (by decide)]; exact t1
  have i2 : T.1 2 = tu.1 2 := by rw [d2, a2.1 2 (by decide)]; exact au.1 2 (by decide)
  have T47 : T.2.2.1 47 = t.2.2.1 47 := row 47 (by decide) (by decide) (by decide) (by decide) (by decide) (by decide) (by decide)
  have T44 : T.2.2.1 44 = tu.2.2.1 44 := (row 44 (by decide) (by decide) (by decide) (by decide) (by decide) (by decide) (by decide)).trans (au.2.2.1 44 (by decide))
  have T54 : T.2.2.1 54 = t.2.2.1 54 := row 54 (by decide) (by decide) (by decide) (by decide) (by decide) (by decide) (by decide)
  have o9 : ∀ p, 170 ≤ p → p ≤ 175 → own p = 9 := fun p h1 h2 => by
    by_cases z0 : p = 170
    · rw [z0]; exact (rs_in x0).2
    by_cases z1 : p = 171
    · rw [z1]; exact (rs_in x1).2
    by_cases z2 : p = 172
    · rw [z2]; exact (rs_in x2).2
    by_cases z3 : p = 173
    · rw [z3]; exact (rs_in x3).2
    by_cases z4 : p = 174
    · rw [z4]; exact (rs_in x4).2
    rw [show p = 175 by omega]; exact (rs_in x5).2
  have old : ∀ {p : Nat} {c : lCell}, rs s.1 own 9 p = some c → (p < 170 ∨ 175 < p) → rs U.1 (ow9 own s.2.1) 9 p = some c := by
    intro p c h hp
    have l := lt h
    refine rs_some.mpr ⟨?_, ?_⟩
    · unfold ow9; rw [if_neg (by omega)]; exact (rs_in h).2
    · rw [c4 p l (by omega) (by omega) (by omega) (by omega) (by omega) (by omega)]; exact (rs_in h).1
  have new : ∀ {p : Nat} {c : lCell}, U.1 p = some c → 170 ≤ p → p ≤ 175 → rs U.1 (ow9 own s.2.1) 9 p = some c := by
    intro p c h h1 h2
    refine rs_some.mpr ⟨?_, h⟩
    unfold ow9; rw [if_neg (by omega)]; exact o9 p h1 h2
  refine ⟨T, U, d1, c1, ⟨nl, spn L nl st ln nr, ne, sm, W, e, q, nuC F9, wn, sc, ⟨?_, ?_, ?_, ⟨mc, ?_⟩, ?_, ?_, ?_, ?_⟩, ⟨y1, ⟨xs, old y2 (by omega), y3, ?_⟩, ?_⟩, ?_, ⟨nw, by rw [i2]; exact n1, n2, n3⟩, fun _ => ⟨⟨?_, h20, fun l hl => ?_⟩, by rw [i9]; exact h9, n40, fun c hc => ?_, fun c hc => ?_, c11, fun c d hc hd => ?_⟩, fun z => ?_⟩, d2, d3, d7, c2, c3, c4, o9, c16, c17⟩
  · rw [i1]; exact new c5 (by decide) (by decide)
  · rw [T47]; exact new c6 (by decide) (by decide)
  · exact new c7 (by decide) (by decide)
  · exact new c8 (by decide) (by decide)
  · exact new c9 (by decide) (by decide)
  · exact new c10 (by decide) (by decide)
  · exact old x7 (by omega)
  · exact old x8 (by omega)
  · rw [T44]; exact y4
  · rw [T44]; exact y5
  · rw [i1]; exact Or.inr rfl
  · rw [d2]; exact hl.1
  · rw [T54]
    have := (hdr l hl).2.1
    exact ⟨nd l, by omega, (hrw.2 l hl).2⟩
  · rw [T47, h47 c hc]
    have FT0 := F.1
    rcases LabN.lt FT0.1 FT0.2.1 FT0.2.2.2.1 (c % 24 : Nat) (c / 24 : Nat) with y | ⟨n, y, hn⟩
    · left; rw [y]; rfl
    · right; rw [y]; exact ⟨n, hn, rfl⟩
  · have k5 := d5 c
    rw [d4 c hc]
    refine ⟨⟨f9 c, by omega, rfl⟩, ?_⟩
    unfold nuC nmC
    rw [d4 c hc, feq c]
    by_cases z : f9 c = 0
    · rw [z]; rfl
    · rw [if_neg z, if_neg (fun w => z ((i_eqL (by omega) (by decide)).mp w))]
  · have r0 := c13 (4 * c + d) (by omega)
    rw [show (4 * c + d) / 4 = c by omega, show (4 * c + d) % 4 = d by omega] at r0
    have r1 : edgR (rs U.1 (ow9 own s.2.1) 9) t nl ne W q (e (4 * c + d)) c d := edgR_up r0 (fun k hk => ⟨rfl, fun z hz => rs_some.mpr ⟨by unfold ow9; rw [if_pos (c12 k hk)], hz⟩⟩) (Nat.le_refl _) (fun i => Or.inl rfl)
    refine edgR_cg r1 (fun _ _ _ h => h) (fun c hc => ?_)
    simp at hc
    exact row c (by omega) (by omega) (by omega) (by omega) (by omega) (by omega) (by omega)
  · rw [i1] at z; exact absurd z (by decide)
end
