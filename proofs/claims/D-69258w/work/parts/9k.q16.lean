/-! permits: the reference's pile, a step -/
section
variable {t t0 T : TS} {nf : Nat} {st : StP}
/-- the pile; the last that came is the list's first -/
def PiR (T : TS) (st : StP) : Prop := T.1 239 = Int32.ofNat st.length ∧ (∀ j p, st.reverse[j]? = some p → T.2.2.2 97 j = p.1 ∧ T.2.2.2 98 j = p.2) ∧ ∀ p ∈ st, p.2 ≠ 0
/-- amid reckoning: what else stays -/
def RkF (t T : TS) : Prop := (∀ c, c ≠ 239 → c ≠ 240 → T.1 c = t.1 c) ∧ (∀ c, c ≠ 241 → T.2.1 c = t.2.1 c) ∧ T.2.2.1 = t.2.2.1 ∧ ∀ c, c ≠ 97 → c ≠ 98 → T.2.2.2 c = t.2.2.2 c
theorem RkF_pu {k : Nat} (f : RkF t0 t) (p : Pu t T k) : RkF t0 T := by
  obtain ⟨f1, f2, f3, f4⟩ := f
  obtain ⟨_, p2, p3, p4, p5, _⟩ := p
  refine ⟨fun c h1 h2 => (p2 c h1 h2).trans (f1 c h1 h2), fun c h => (p3 c h).trans (f2 c h), p4.trans f3, fun c h1 h2 => ?_⟩
  rw [← f4 c h1 h2]
  funext j
  rcases p5 c j with ⟨w, _⟩ | w
  · omega
  · exact w
/-- a fraction upon the pile -/
theorem PiR_pu {r : StP} {x y : Int64} (h : ∀ j p, r.reverse[j]? = some p → t.2.2.2 97 j = p.1 ∧ t.2.2.2 98 j = p.2) (h2 : ∀ p ∈ r, p.2 ≠ 0) (p : Pu t T r.length) (hx : T.2.2.2 97 r.length = x) (hy : T.2.2.2 98 r.length = y) (y0 : y ≠ 0) : PiR T ((x, y) :: r) := by
  obtain ⟨p1, _, _, _, p5, _⟩ := p
  refine ⟨p1, fun j q hq => ?_, fun q hq => ?_⟩
  · rw [List.reverse_cons] at hq
    by_cases z : j < r.reverse.length
    · rw [List.getElem?_append_left z] at hq
      rw [List.length_reverse] at z
      obtain ⟨g1, g2⟩ := h j q hq
      constructor
      · rcases p5 97 j with w | w
        · omega
        · rw [w]; exact g1
      · rcases p5 98 j with w | w
        · omega
        · rw [w]; exact g2
    · rw [List.getElem?_append_right (by omega), List.length_reverse] at hq
      rw [List.length_reverse] at z
      by_cases w : j - r.length = 0
      · rw [w] at hq
        have e : (x, y) = q := Option.some.inj hq
        rw [← e, show j = r.length by omega]
        exact ⟨hx, hy⟩
      · obtain ⟨m, hm⟩ : ∃ m, j - r.length = m + 1 := ⟨j - r.length - 1, by omega⟩
        rw [hm] at hq
        cases hq
  · rcases List.mem_cons.mp hq with z | z
    · rw [z]; exact y0
    · exact h2 q z
end
