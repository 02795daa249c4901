/-! the plan: edges of two findings, whole -/
section
variable {s : CS} {L Lo : PLn} {nl no : Nat} {b0 b1 mp0 mp1 c0 c1 fd0 fd1 : Nat} {V : Nat → Nat → Prop} {pid nid aid pid1 nid1 aid1 : Nat → Nat → Nat} {si si1 : Nat → Nat} {v : Int32}
theorem NDs_keys {h : lHeap} (r : NDs b0 h L nl mp0 c0 V pid nid aid si) {mc : Int32} {es : List (Value × Value)} (e : h mp0 = some (true, false, 1042, .int mc :: fl es)) : (∀ w ∈ es.map Prod.fst, ∃ a x y, w = .ref a ∧ x < 25 ∧ y < 25 ∧ h a = some (poC x y)) ∧ ∀ (v : Int32) (k : Nat), (∃ a x y, Value.ref a ∈ es.map Prod.fst ∧ x < 25 ∧ y < 25 ∧ h a = some (poC x y) ∧ k = coP v x y) ↔ ∃ x y, V x y ∧ k = coP v x y := by
  obtain ⟨⟨mc', es', r1, ⟨m, r2, r2b, r2c⟩, r3⟩, r4, r5, r6⟩ := r
  have ee : es' = es := by
    have e := Option.some.inj (r1.symm.trans e)
    simp only [Prod.mk.injEq, List.cons.injEq, true_and] at e
    have := congrArg prs e.2
    rwa [prs_fl, prs_fl] at this
  subst ee
  refine ⟨fun w hw => ?_, fun v k => ⟨?_, ?_⟩⟩
  · obtain ⟨x, y, hV, rfl⟩ := r3 w hw
    obtain ⟨a1, a2, _, _, _, a3, _⟩ := r4 x y hV
    exact ⟨_, x, y, rfl, a1, a2, a3⟩
  · rintro ⟨a, x, y, h1, h2, h3, h4, h5⟩
    obtain ⟨u, w, hV, e⟩ := r3 _ h1
    have e := Value.ref.inj e
    obtain ⟨a1, a2, _, _, _, a3, _⟩ := r4 u w hV
    rw [e, a3] at h4
    have h4 := Option.some.inj h4
    unfold poC at h4
    simp only [Prod.mk.injEq, List.cons.injEq, Value.int.injEq, true_and, and_true] at h4
    have e3 := (i_inj (by omega) (by omega)).mp h4.1
    have e4 := (i_inj (by omega) (by omega)).mp h4.2
    exact ⟨u, w, hV, by rw [h5, e3, e4]⟩
  · rintro ⟨x, y, hV, rfl⟩
    obtain ⟨a1, a2, _, _, _, a3, _⟩ := r4 x y hV
    obtain ⟨q, hq, hr⟩ := r2.2.2 _ _ (r2b x y a1 a2 hV)
    have hk : q.1 ∈ es'.map Prod.fst := List.mem_map.mpr ⟨q, hq, rfl⟩
    obtain ⟨u, w, hV', e⟩ := r3 q.1 hk
    obtain ⟨d1, d2, _, _, _, d3, _⟩ := r4 u w hV'
    rw [e, rkP_pt d3 d1 d2] at hr
    have e1 : u = x := by omega
    have e2 : w = y := by omega
    rw [e1, e2] at e
    exact ⟨_, x, y, by rw [← e]; exact hk, a1, a2, a3, rfl⟩
theorem c_edges (hw : wfS s) (n0 : NDs b0 s.1 Lo no mp0 c0 (isPt Lo no) pid nid aid si) (n1 : NDs b1 s.1 L nl mp1 c1 (isPt L nl) pid1 nid1 aid1 si1) {f1 f2 f3 g1 g2 g3 : Value} (h0 : s.1 fd0 = some (true, false, 61, [f1, f2, .ref mp0, f3])) (h1 : s.1 fd1 = some (true, false, 61, [g1, g2, .ref mp1, g3])) (hc : s.2.2.1 + 100 < 4000000000) : ∃ S xs, c_901 fd0 fd1 v s = some (s.2.1, S) ∧ wfS S ∧ S.1 s.2.1 = some (true, false, 1003, xs) ∧ (∀ k, bit xs k = true ↔ (∃ x y, isPt Lo no x y ∧ k = coP v x y) ∨ ∃ x y, isPt L nl x y ∧ k = coP v x y) ∧ (∀ q, q < s.2.1 → S.1 q = s.1 q) ∧ S.2.1 = s.2.1 + 1 ∧ S.2.2.1 = s.2.2.1 + 6 ∧ S.2.2.2 = s.2.2.2 + 14 := by
  have m0 : ∃ cm es, s.1 mp0 = some (true, false, 1042, .int cm :: fl es) := by obtain ⟨⟨mc, es, q, _⟩, _⟩ := n0; exact ⟨mc, es, q⟩
  have m1 : ∃ cm es, s.1 mp1 = some (true, false, 1042, .int cm :: fl es) := by obtain ⟨⟨mc, es, q, _⟩, _⟩ := n1; exact ⟨mc, es, q⟩
  obtain ⟨mc0, es0, m0⟩ := m0
  obtain ⟨mc1, es1, m1⟩ := m1
  obtain ⟨k0, k0'⟩ := NDs_keys n0 m0
  obtain ⟨k1, k1'⟩ := NDs_keys n1 m1
  unfold c_901
  obtain ⟨S1, z1, w1⟩ := nw_o (s := s) 3 [.null, .int 0, .int 0] hw
  have o1 := Nw_ext hw w1
  rw [z1, Option.bind_some]
  dsimp only
  rw [if_pos (isK_t w1.1 rfl), bsInit_o w1.1, Option.bind_some]
  obtain ⟨S2, hS2⟩ : ∃ S2, S2 = chg (cup S1 s.2.1 (true, false, 1003, [])) 1 1 := ⟨_, rfl⟩
  rw [← hS2]
  have t2 : ∀ q, q ≠ s.2.1 → S2.1 q = s.1 q := fun q hq => by rw [hS2, chg_1, cup_ne hq, w1.2.1 q hq]
  have b2 : S2.1 s.2.1 = some (true, false, 1003, []) := by rw [hS2]; exact cup_eq ..
  have w2 : wfS S2 := by rw [hS2]; exact wf_chg (wf_cup w1.2.2.2.1 (by rw [w1.2.2.1]; omega))
  have c2 : S2.2.1 = s.2.1 + 1 ∧ S2.2.2.1 = s.2.2.1 + 2 ∧ S2.2.2.2 = s.2.2.2 + 4 := by
    rw [hS2]
    refine ⟨w1.2.2.1, ?_, ?_⟩
    · show S1.2.2.1 + 1 = _; rw [w1.2.2.2.2.1]
    · show S1.2.2.2 + 1 = _; rw [w1.2.2.2.2.2]; rfl
  have keep : ∀ (S : CS), (∀ q, q ≠ s.2.1 → S.1 q = s.1 q) → ∀ a c, s.1 a = some c → S.1 a = some c := fun S h a c e => by rw [h a (by have := wf_lt hw e; omega)]; exact e
  rw [xN_o (b := mp0) (keep _ t2 _ _ h0) rfl rfl, Option.bind_some, if_pos (isK_t (keep _ t2 _ _ m0) rfl), tmVw_l (keep _ t2 _ _ m0), Option.bind_some, tmMc_l (show (chg S2 1 1).1 mp0 = _ from keep _ t2 _ _ m0), Option.bind_some]
  dsimp only
  obtain ⟨S3, e3, w3, ⟨xs3, b3, p3⟩, t3, c3⟩ := c_edg1 (s := chg (chg S2 1 1) 1 4) (v := v) w2 (show (chg (chg S2 1 1) 1 4).1 mp0 = _ from keep _ t2 _ _ m0) b2 (fun w hw' => by
    obtain ⟨a, x, y, e1, e2, e3, e4⟩ := k0 w hw'
    exact ⟨a, x, y, e1, e2, e3, keep _ t2 _ _ e4⟩) (by show S2.2.2.1 + 1 + 1 < _; omega)
  rw [e3, Option.bind_some]
  have t3' : ∀ q, q ≠ s.2.1 → S3.1 q = s.1 q := fun q hq => (t3 q hq).trans (t2 q hq)
  have c3a : S3.2.1 = s.2.1 + 1 := by rw [c3]; exact c2.1
  have c3b : S3.2.2.1 = s.2.2.1 + 4 := by rw [c3]; show S2.2.2.1 + 1 + 1 = _; omega
  have c3c : S3.2.2.2 = s.2.2.2 + 9 := by rw [c3]; show S2.2.2.2 + 1 + 4 = _; omega
  rw [xN_o (b := mp1) (keep _ t3' _ _ h1) rfl rfl, Option.bind_some, if_pos (isK_t (keep _ t3' _ _ m1) rfl), tmVw_l (keep _ t3' _ _ m1), Option.bind_some, tmMc_l (show (chg S3 1 1).1 mp1 = _ from keep _ t3' _ _ m1), Option.bind_some]
  dsimp only
  obtain ⟨S4, e4, w4, ⟨xs4, b4, p4⟩, t4, c4⟩ := c_edg1 (s := chg (chg S3 1 1) 1 4) (v := v) w3 (show (chg (chg S3 1 1) 1 4).1 mp1 = _ from keep _ t3' _ _ m1) b3 (fun w hw' => by
    obtain ⟨a, x, y, e1, e2, e3, e4⟩ := k1 w hw'
    exact ⟨a, x, y, e1, e2, e3, keep _ t3' _ _ e4⟩) (by show S3.2.2.1 + 1 + 1 < _; omega)
  rw [e4, Option.bind_some]
  have same : ∀ (S : CS) (es : List (Value × Value)), (∀ q, q ≠ s.2.1 → S.1 q = s.1 q) → (∀ w ∈ es.map Prod.fst, ∃ a x y, w = .ref a ∧ x < 25 ∧ y < 25 ∧ s.1 a = some (poC x y)) → ∀ k, (∃ a x y, Value.ref a ∈ es.map Prod.fst ∧ x < 25 ∧ y < 25 ∧ S.1 a = some (poC x y) ∧ k = coP v x y) ↔ ∃ a x y, Value.ref a ∈ es.map Prod.fst ∧ x < 25 ∧ y < 25 ∧ s.1 a = some (poC x y) ∧ k = coP v x y := by
    intro S es hS hk k
    constructor
    · rintro ⟨a, x, y, h1, h2, h3, h4, h5⟩
      obtain ⟨a', x', y', e1, _, _, e4⟩ := hk _ h1
      have e1 := Value.ref.inj e1
      have l := wf_lt hw e4
      have : a ≠ s.2.1 := fun z => by rw [← e1, z] at l; exact Nat.lt_irrefl _ l
      exact ⟨a, x, y, h1, h2, h3, by rw [← hS a this]; exact h4, h5⟩
    · rintro ⟨a, x, y, h1, h2, h3, h4, h5⟩
      exact ⟨a, x, y, h1, h2, h3, keep S hS _ _ h4, h5⟩
  refine ⟨S4, xs4, rfl, w4, b4, fun k => ?_, fun q hq => ?_, ?_, ?_, ?_⟩
  · have q4 := same (chg (chg S3 1 1) 1 4) es1 t3' k1 k
    have q3 := same (chg (chg S2 1 1) 1 4) es0 t2 k0 k
    rw [p4 k, p3 k, q3, q4, k0' v k, k1' v k]
    have : bit [] k = false := bit_len (Nat.zero_le _)
    rw [this]
    simp
  · rw [t4 q (by omega)]; exact t3' q (by omega)
  · rw [c4]; exact c3a
  · rw [c4]; show S3.2.2.1 + 1 + 1 = _; omega
  · rw [c4]; show S3.2.2.2 + 1 + 4 = _; omega
end
