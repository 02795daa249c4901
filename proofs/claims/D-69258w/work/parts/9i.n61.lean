/-! the plan: a finding moved: into its own cells, a lower bound, other lines -/
section
variable {b0 b1 : Nat} {h h' : lHeap} {L : PLn} {nl nr : Nat} {st ln LC LC' : Nat → Nat} {lab : Int → Int → Int} {fd fL ou ol mp : Nat} {pid nid aid : Nat → Nat → Nat} {si rc rl sp sl : Nat → Nat} {rsv rv : Nat → Value} {nm : Nat → Int32} {inn : Int → List Nat} {c : Nat} {V : Nat → Nat → Prop}
theorem NDs_own (r : NDs b0 h L nl mp c V pid nid aid si) (hb : b1 ≤ b0) (e : ∀ a c, b0 ≤ a → h a = some c → h' a = some c) : NDs b1 h' L nl mp c V pid nid aid si := by
  obtain ⟨⟨mc, es, r1, ⟨m, r2, r2b, r2c⟩, r3⟩, r4, r5, r6⟩ := r
  refine ⟨⟨mc, es, e _ _ r6 r1, ⟨m, Mp_rk r2 (fun v hv => ?_), r2b, r2c⟩, r3⟩, fun x y hv => ?_, r5, by omega⟩
  · obtain ⟨x, y, hV, rfl⟩ := r3 v hv
    obtain ⟨a1, a2, b, _, _, a3, _⟩ := r4 x y hV
    rw [rkP_pt (e _ _ b a3) a1 a2, rkP_pt a3 a1 a2]
  · obtain ⟨a1, a2, a3, a4, a5, a6, a7, a8⟩ := r4 x y hv
    exact ⟨a1, a2, by omega, by omega, by omega, e _ _ a3 a6, e _ _ a4 a7, e _ _ a5 a8⟩
theorem sdC_LC (hLC : ∀ l, l < nl → LC' l = LC l) {v : Value} {k : Nat} (hk : k < 2 * nP L nl) : sdC L nl LC' nid si v k = sdC L nl LC nid si v k := by
  unfold sdC
  rw [hLC _ (k_in (show k / 2 < nP L nl by omega)).1]
theorem GSt_own (r : GSt b0 h L nl LC mp pid nid aid si rv) (hb : b1 ≤ b0) (e : ∀ a c, b0 ≤ a → h a = some c → h' a = some c) (hLC : ∀ l, l < nl → LC' l = LC l) : GSt b1 h' L nl LC' mp pid nid aid si rv :=
  ⟨NDs_own r.1 hb e, fun k hk => ⟨by have := (r.2.1 k hk).1; omega, by rw [sdC_LC hLC hk]; exact e _ _ (r.2.1 k hk).1 (r.2.1 k hk).2⟩, r.2.2⟩
theorem FD_own (r : FD b0 h L nl nr st ln LC fd fL ou ol mp pid nid aid si rc rl sp sl rsv nm inn) (hb : b1 ≤ b0) (e : ∀ a c, b0 ≤ a → h a = some c → h' a = some c) (hLC : ∀ l, l < nl → LC' l = LC l) : FD b1 h' L nl nr st ln LC' fd fL ou ol mp pid nid aid si rc rl sp sl rsv nm inn := by
  obtain ⟨⟨rv, r1, r2⟩, r3, ⟨mf, r4⟩, ⟨r5, mo, r5b⟩, r6, r7, r8, r9, r10, r11, r12, r13, r14⟩ := r
  refine ⟨⟨rv, GSt_own r1 hb e hLC, r2⟩, e _ _ r11 r3, ⟨mf, e _ _ r12 r4⟩, ⟨e _ _ r13 r5, mo, e _ _ r14 r5b⟩, fun j hj => ?_, fun k hk => ?_, r8, r9, r10, by omega, by omega, by omega, by omega⟩
  · obtain ⟨a1, a2, a3, m, a4⟩ := r6 j hj
    exact ⟨e _ _ a2 a1, by omega, by omega, m, e _ _ a3 a4⟩
  · obtain ⟨a1, a2, a3, m, a4⟩ := r7 k hk
    exact ⟨by omega, by omega, e _ _ a1 a3, m, e _ _ a2 a4⟩
/-- a cell of a finding is changed by no one who changes only others -/
theorem FD_lst (r : FD b0 h L nl nr st ln LC fd fL ou ol mp pid nid aid si rc rl sp sl rsv nm inn) (e : ∀ a c, h a = some c → (c.2.2.1 = 7 ∨ 61 ≤ c.2.2.1 ∧ c.2.2.1 ≤ 66 ∨ c.2.2.1 = 1042 ∨ (c.2.2.1 = 1013 ∧ (a = fL ∨ a = ol ∨ (∃ k, k < nr ∧ a = rl k) ∨ ∃ j, j < spn L nl st ln nr ∧ a = sl j))) → h' a = some c) : FD b0 h' L nl nr st ln LC fd fL ou ol mp pid nid aid si rc rl sp sl rsv nm inn := by
  obtain ⟨⟨rv, r1, r2⟩, r3, ⟨mf, r4⟩, ⟨r5, mo, r5b⟩, r6, r7, r8, r9, r10, r11⟩ := r
  refine ⟨⟨rv, ?_, r2⟩, e _ _ r3 (Or.inr (Or.inl (by show 61 ≤ (61 : Nat) ∧ (61 : Nat) ≤ 66; omega))), ⟨mf, e _ _ r4 (Or.inr (Or.inr (Or.inr ⟨rfl, Or.inl rfl⟩)))⟩, ⟨e _ _ r5 (Or.inr (Or.inl (by show 61 ≤ (62 : Nat) ∧ (62 : Nat) ≤ 66; omega))), mo, e _ _ r5b (Or.inr (Or.inr (Or.inr ⟨rfl, Or.inr (Or.inl rfl)⟩)))⟩, fun j hj => ?_, fun k hk => ?_, r8, r9, r10, r11⟩
  · have m1 : ∃ cm es, h mp = some (true, false, 1042, .int cm :: fl es) := by obtain ⟨⟨mc, es, q, _⟩, _⟩ := r1.1; exact ⟨mc, es, q⟩
    obtain ⟨mc, es, m1⟩ := m1
    exact GSt_ex r1 (fun a c h1 h2 => e a c h1 (by omega)) ((e _ _ m1 (Or.inr (Or.inr (Or.inl rfl)))).trans m1.symm) (fun k hk => e _ _ (r1.2.1 k hk).2 (Or.inr (Or.inl (by show 61 ≤ (65 : Nat) ∧ (65 : Nat) ≤ 66; omega))))
  · obtain ⟨a1, a2, a3, m, a4⟩ := r6 j hj
    exact ⟨e _ _ a1 (Or.inr (Or.inl (by show 61 ≤ (62 : Nat) ∧ (62 : Nat) ≤ 66; omega))), a2, a3, m, e _ _ a4 (Or.inr (Or.inr (Or.inr ⟨rfl, Or.inr (Or.inr (Or.inr ⟨j, hj, rfl⟩))⟩)))⟩
  · obtain ⟨a1, a2, a3, m, a4⟩ := r7 k hk
    exact ⟨a1, a2, e _ _ a3 (Or.inr (Or.inl (by show 61 ≤ (66 : Nat) ∧ (66 : Nat) ≤ 66; omega))), m, e _ _ a4 (Or.inr (Or.inr (Or.inr ⟨rfl, Or.inr (Or.inr (Or.inl ⟨k, hk, rfl⟩))⟩)))⟩
end
/-- names that went over are old names -/
theorem crN_nm {A : Nat → Nat → Nat} {onm : Nat → Int32} {ns : Nat} {P : Int32 → Prop} (h0 : P 0) : ∀ (n : Nat), (∀ o, o < n → P (onm o)) → ∀ k, P ((crN A onm ns n).2 k) := by
  intro n
  induction n with
  | zero => intro _ k; exact h0
  | succ n ih =>
    intro h k
    have ih := ih (fun o ho => h o (by omega))
    show P ((crO _ (onm n) (crN A onm ns n)).2 k)
    generalize (if 0 < onm n then bsO (A n) ns else (none, 0)) = best
    obtain ⟨best, most⟩ := best
    generalize crN A onm ns n = p at ih
    unfold crO
    cases best with
    | none => exact ih k
    | some b =>
      dsimp only
      by_cases w : p.1 b < most
      · rw [if_pos w]
        by_cases z : k = b
        · show P (if k = b then onm n else p.2 k)
          rw [if_pos z]; exact h n (by omega)
        · show P (if k = b then onm n else p.2 k)
          rw [if_neg z]; exact ih k
      · rw [if_neg w]; exact ih k
