/-! the warden: the relation by what lies below the halves -/
theorem R7b_pw {h h' : lHeap} {t T : TS} {np sz mx zm am rl nr na ec B : Nat} {P Z ZP A RW od : Nat → Nat} (r : R7b h t np sz mx zm am rl nr na ec P Z ZP A RW od B) (k : ∀ q c, h q = some c → h' q = some c) (h1 : ∀ c, c = 1 ∨ c = 300 ∨ c = 301 ∨ c = 306 ∨ c = 321 ∨ c = 330 → T.1 c = t.1 c) (h2 : ∀ c j, c ≠ 103 → c ≠ 104 → ¬ upE c j → T.2.2.1 c j = t.2.2.1 c j) : R7b h' T np sz mx zm am rl nr na ec P Z ZP A RW od B := by
  obtain ⟨w0, w1, w2, w3, w4, w5⟩ := r
  have hK' : ∀ K, hK K h h' := fun K q c _ e => k q c e
  have full : ∀ c, c ≠ 103 → c ≠ 104 → (c < 105 ∨ 116 < c) → T.2.2.1 c = t.2.2.1 c := fun c z1 z2 z3 => funext (fun j => h2 c j z1 z2 (by unfold upE; omega))
  have e20 : ∀ c j, c ≠ 108 → 105 ≤ c → c ≤ 113 → j < 20 → T.2.2.1 c j = t.2.2.1 c j := fun c j z1 z2 z3 z4 => h2 c j (by omega) (by omega) (by unfold upE; omega)
  have e8 : ∀ j, j < 240 → T.2.2.1 108 j = t.2.2.1 108 j := fun j z => h2 108 j (by omega) (by omega) (by unfold upE; omega)
  have e50 : ∀ c j, 114 ≤ c → c ≤ 116 → j < 50 → T.2.2.1 c j = t.2.2.1 c j := fun c j z1 z2 z3 => h2 c j (by omega) (by omega) (by unfold upE; omega)
  have hbef : ∀ a, a < 20 → bef T a = bef t a := by
    intro a ha
    unfold bef
    congr 1
    refine List.filter_congr (fun b hb => ?_)
    have hb := List.mem_range.mp hb
    unfold soon
    rw [e20 109 b (by omega) (by omega) (by omega) hb, e20 111 b (by omega) (by omega) (by omega) hb, e20 111 a (by omega) (by omega) (by omega) ha]
  have hdn : ∀ v, dnC T v = dnC t v := by
    intro v
    unfold dnC
    congr 1
    refine List.filter_congr (fun b hb => ?_)
    have hb := List.mem_range.mp hb
    unfold dnB
    rw [e20 109 b (by omega) (by omega) (by omega) hb, e20 110 b (by omega) (by omega) (by omega) hb, full 117 (by omega) (by omega) (by omega)]
  refine ⟨?_, W1_cg w1 (hK' _) (h1 300 (by simp)) (h1 1 (by simp)) (fun c hc => full c ?_ ?_ ?_), W2_cg w2 (hK' _) (h1 306 (by simp)) (h1 1 (by simp)) (full 102 (by omega) (by omega) (by omega)), ?_, ?_, ?_⟩
  · obtain ⟨r1, r2, r3, r4⟩ := w0
    unfold W0
    rw [h1 1 (by simp), h1 301 (by simp)]
    exact ⟨k _ _ r1, r2, r3, fun z => ⟨(r4 z).1, fun q hq => by rw [e20 105 q (by omega) (by omega) (by omega) hq, e20 109 q (by omega) (by omega) (by omega) hq]; exact (r4 z).2 q hq⟩⟩
  · simp at hc; omega
  · simp at hc; omega
  · simp at hc; omega
  · obtain ⟨r1, r2, ⟨mz, ez, r3, r4, r5⟩, ⟨ma, ea, r6, r7, r8⟩, ⟨mr, r9⟩, r10, r11, r12, r13, ⟨mo, r14⟩, r15, r16, r17⟩ := w3
    have fz : ∀ (c : Nat) (F : Nat → Nat), c ≠ 108 → 105 ≤ c → c ≤ 113 → (fun z : Int => if 0 ≤ z ∧ z < (20 : Nat) ∧ T.2.2.1 c z.toNat = 1 then some (Value.ref (F z.toNat)) else none) = fun z : Int => if 0 ≤ z ∧ z < (20 : Nat) ∧ t.2.2.1 c z.toNat = 1 then some (Value.ref (F z.toNat)) else none := by
      intro c F z1 z2 z3
      funext z
      by_cases y : 0 ≤ z ∧ z < (20 : Nat)
      · rw [e20 c z.toNat z1 z2 z3 (by omega)]
      · rw [if_neg (fun q => y ⟨q.1, q.2.1⟩), if_neg (fun q => y ⟨q.1, q.2.1⟩)]
    refine ⟨k _ _ r1, r2, ⟨mz, ez, k _ _ r3, by rw [fz 105 Z (by omega) (by omega) (by omega)]; exact r4, r5⟩, ⟨ma, ea, k _ _ r6, by rw [fz 109 A (by omega) (by omega) (by omega)]; exact r7, r8⟩, ⟨mr, k _ _ r9⟩, by rw [h1 321 (by simp)]; exact r10, r11, fun z hz => ?_, fun q hq => ?_, ⟨mo, k _ _ r14⟩, r15, fun i hi => ?_, fun a ha y => ?_⟩
    · rw [e20 105 z (by omega) (by omega) (by omega) hz, e20 109 z (by omega) (by omega) (by omega) hz]
      obtain ⟨a1, a2, a3⟩ := r12 z hz
      refine ⟨a1, a2, fun y => ?_⟩
      obtain ⟨b1, b2, b3, b4, n, b5, b6, ⟨mc, b7⟩, b8⟩ := a3 y
      unfold W3z zonC at *
      rw [e20 106 z (by omega) (by omega) (by omega) hz, e20 107 z (by omega) (by omega) (by omega) hz]
      refine ⟨k _ _ b1, b2, b3, b4, n, b5, b6, ⟨mc, ?_⟩, fun i hi => by rw [e8 _ (by omega)]; exact b8 i hi⟩
      rw [rowC_congr (g := fun i => .int (t.2.2.1 108 (12 * z + i))) (fun i hi => by rw [e8 _ (by omega)])]
      exact k _ _ b7
    · obtain ⟨a1, a2, ⟨a3, a4⟩, a5, a6, a7⟩ := r13 q hq
      unfold rowK at *
      rw [e50 114 q (by omega) (by omega) (by omega), e50 115 q (by omega) (by omega) (by omega), e50 116 q (by omega) (by omega) (by omega)]
      refine ⟨k _ _ a1, a2, ⟨a3, by rw [e20 105 _ (by omega) (by omega) (by omega) (bel_n a3 (by omega)).2]; exact a4⟩, ?_, a6, by rw [e20 109 _ (by omega) (by omega) (by omega) (bel_n a6 (by omega)).2]; exact a7⟩
      rcases a5 with a5 | ⟨a5, a8⟩
      · exact Or.inl a5
      · exact Or.inr ⟨a5, by rw [e20 105 _ (by omega) (by omega) (by omega) (bel_n a5 (by omega)).2]; exact a8⟩
    · obtain ⟨a1, a2, a3⟩ := r16 i hi
      exact ⟨a1, by rw [e20 109 _ (by omega) (by omega) (by omega) a1]; exact a2, by rw [hbef _ a1]; exact a3⟩
    · rw [e20 109 a (by omega) (by omega) (by omega) ha] at y
      rw [hbef a ha]; exact r17 a ha y
  · obtain ⟨r1, r2⟩ := w4
    refine ⟨fun a ha y => ?_, fun a b ha hb ya yb => ?_⟩
    · rw [e20 109 a (by omega) (by omega) (by omega) ha] at y
      obtain ⟨a1, a2, a3⟩ := r1 a ha y
      unfold actC okAct at *
      rw [e20 110 a (by omega) (by omega) (by omega) ha, e20 111 a (by omega) (by omega) (by omega) ha, e20 112 a (by omega) (by omega) (by omega) ha, e20 113 a (by omega) (by omega) (by omega) ha, full 117 (by omega) (by omega) (by omega), full 118 (by omega) (by omega) (by omega), full 119 (by omega) (by omega) (by omega), full 120 (by omega) (by omega) (by omega)]
      exact ⟨k _ _ a1, a2, a3⟩
    · rw [e20 109 a (by omega) (by omega) (by omega) ha] at ya
      rw [e20 109 b (by omega) (by omega) (by omega) hb] at yb
      exact r2 a b ha hb ya yb
  · obtain ⟨⟨f1, r1, r2⟩, ⟨f2, r3, r4⟩, ⟨f3, r5, r6⟩, r7, r8⟩ := w5
    unfold W5b
    rw [full 121 (by omega) (by omega) (by omega), full 122 (by omega) (by omega) (by omega), full 123 (by omega) (by omega) (by omega), h1 330 (by simp), hdn]
    exact ⟨⟨f1, k _ _ r1, r2⟩, ⟨f2, k _ _ r3, r4⟩, ⟨f3, k _ _ r5, r6⟩, r7, r8⟩
/-- what was read, adopted -/
theorem RM_W {h h' : lHeap} {V T : TS} {np b0 mx zm am rl nr na : Nat} {Z ZP A RW od : Nat → Nat} (r : RM h V np b0 mx zm am rl nr Z ZP A RW) (hb : 179 ≤ b0) (k : ∀ q c, b0 ≤ q → h q = some c → h' q = some c) (h1 : T.1 321 = Int32.ofNat nr) (e113 : ∀ j, j < 20 → V.2.2.1 109 j = 1 → T.2.2.1 113 j = V.2.2.1 113 j) (e20 : ∀ c j, c ≠ 108 ∧ c ≠ 113 → (105 ≤ c ∧ c ≤ 113) ∨ (117 ≤ c ∧ c ≤ 120) → j < 20 → T.2.2.1 c j = V.2.2.1 c j) (e8 : ∀ j, j < 240 → T.2.2.1 108 j = V.2.2.1 108 j) (e50 : ∀ c j, 114 ≤ c → c ≤ 116 → j < nr → T.2.2.1 c j = V.2.2.1 c j) (ho : ∃ mc : Int32, h' 161 = some (true, false, 1013, .int mc :: rowC (fun i => .ref (A (od i))) na)) (hn : na ≤ 20) (h16 : ∀ i, i < na → od i < 20 ∧ V.2.2.1 109 (od i) = 1 ∧ bef V (od i) = i) (h17 : ∀ a, a < 20 → V.2.2.1 109 a = 1 → bef V a < na) : W3 h' T np mx zm am rl nr na Z ZP A RW od ∧ W4 h' T A := by
  obtain ⟨r1, r2, ⟨mz, ez, r3, r4, r5⟩, ⟨ma, ea, r6, r7, r8⟩, ⟨mr, r9⟩, r10, r11, r12, r13, r14, r15⟩ := r
  have hbef : ∀ a, a < 20 → bef T a = bef V a := by
    intro a ha
    unfold bef
    congr 1
    refine List.filter_congr (fun b hb => ?_)
    have hb := List.mem_range.mp hb
    unfold soon
    rw [e20 109 b (by omega) (by omega) hb, e20 111 b (by omega) (by omega) hb, e20 111 a (by omega) (by omega) ha]
  have fz : ∀ (c : Nat) (F : Nat → Nat), c ≠ 108 ∧ c ≠ 113 → 105 ≤ c → c ≤ 113 → (fun z : Int => if 0 ≤ z ∧ z < (20 : Nat) ∧ T.2.2.1 c z.toNat = 1 then some (Value.ref (F z.toNat)) else none) = fun z : Int => if 0 ≤ z ∧ z < (20 : Nat) ∧ V.2.2.1 c z.toNat = 1 then some (Value.ref (F z.toNat)) else none := by
    intro c F z1' z2 z3
    funext z
    by_cases y : 0 ≤ z ∧ z < (20 : Nat)
    · rw [e20 c z.toNat z1' (Or.inl ⟨z2, z3⟩) (by omega)]
    · rw [if_neg (fun q => y ⟨q.1, q.2.1⟩), if_neg (fun q => y ⟨q.1, q.2.1⟩)]
  obtain ⟨b1, b2, b3, b4, b5⟩ := r2
  refine ⟨⟨k _ _ b1 r1, ⟨by omega, by omega, by omega, by omega⟩, ⟨mz, ez, k _ _ b2 r3, by rw [fz 105 Z (by omega) (by omega) (by omega)]; exact r4, r5⟩, ⟨ma, ea, k _ _ b3 r6, by rw [fz 109 A (by omega) (by omega) (by omega)]; exact r7, r8⟩, ⟨mr, k _ _ b4 r9⟩, h1, r11, fun z hz => ?_, fun q hq => ?_, ho, hn, fun i hi => ?_, fun a ha y => ?_⟩, fun a ha y => ?_, fun a b ha hb ya yb => ?_⟩
  · rw [e20 105 z (by omega) (by omega) hz, e20 109 z (by omega) (by omega) hz]
    obtain ⟨a1, a2, a3⟩ := r12 z hz
    refine ⟨a1, a2, fun y => ?_⟩
    obtain ⟨⟨b1, b2, b3, b4, n, b5, b6, ⟨mc, b7⟩, b8⟩, b9, b10, _⟩ := a3 y
    unfold W3z zonC at *
    rw [e20 106 z (by omega) (by omega) hz, e20 107 z (by omega) (by omega) hz]
    refine ⟨k _ _ b9 b1, b2, b3, b4, n, b5, b6, ⟨mc, ?_⟩, fun i hi => by rw [e8 _ (by omega)]; exact b8 i hi⟩
    rw [rowC_congr (g := fun i => .int (V.2.2.1 108 (12 * z + i))) (fun i hi => by rw [e8 _ (by omega)])]
    exact k _ _ b10 b7
  · obtain ⟨a1, a2, ⟨a3, a4⟩, a5, a6, a7⟩ := r13 q hq
    unfold rowK at *
    rw [e50 114 q (by omega) (by omega) hq, e50 115 q (by omega) (by omega) hq, e50 116 q (by omega) (by omega) hq]
    refine ⟨k _ _ a2 a1, by omega, ⟨a3, by rw [e20 105 _ (by omega) (by omega) (bel_n a3 (by omega)).2]; exact a4⟩, ?_, a6, by rw [e20 109 _ (by omega) (by omega) (bel_n a6 (by omega)).2]; exact a7⟩
    rcases a5 with a5 | ⟨a5, a8⟩
    · exact Or.inl a5
    · exact Or.inr ⟨a5, by rw [e20 105 _ (by omega) (by omega) (bel_n a5 (by omega)).2]; exact a8⟩
  · obtain ⟨a1, a2, a3⟩ := h16 i hi
    exact ⟨a1, by rw [e20 109 _ (by omega) (by omega) a1]; exact a2, by rw [hbef _ a1]; exact a3⟩
  · rw [e20 109 a (by omega) (by omega) ha] at y
    rw [hbef a ha]; exact h17 a ha y
  · rw [e20 109 a (by omega) (by omega) ha] at y
    obtain ⟨a1, a2, a3⟩ := r14 a ha y
    unfold actC okAct at *
    rw [e20 110 a (by omega) (by omega) ha, e20 111 a (by omega) (by omega) ha, e20 112 a (by omega) (by omega) ha, e113 a ha y, e20 117 a (by omega) (by omega) ha, e20 118 a (by omega) (by omega) ha, e20 119 a (by omega) (by omega) ha, e20 120 a (by omega) (by omega) ha]
    exact ⟨k _ _ a2 a1, by omega, a3⟩
  · rw [e20 109 a (by omega) (by omega) ha] at ya
    rw [e20 109 b (by omega) (by omega) hb] at yb
    exact r15 a b ha hb ya yb
