/-! the warden: a new zone -/
theorem RM_zone {h h' : lHeap} {V V' : TS} {np b0 mx zm am rl nr v n l : Nat} {Z ZP A RW : Nat → Nat} (r : RM h V np b0 mx zm am rl nr Z ZP A RW) (hv : v < 20) (hV : ¬ V.2.2.1 105 v = 1) (k : ∀ q c, q ≠ zm → c.2.2.1 ≠ 87 → h q = some c → h' q = some c) (hn : h l = none) (hb : b0 ≤ n ∧ b0 ≤ l) (hb0 : 179 ≤ b0) (h1 : V'.1 321 = V.1 321) (h2 : ∀ c j, c ≠ 108 → ¬ (105 ≤ c ∧ c ≤ 107 ∧ j = v) → V'.2.2.1 c j = V.2.2.1 c j) (h8 : ∀ j, ¬ (12 * v ≤ j ∧ j < 12 * v + 12) → V'.2.2.1 108 j = V.2.2.1 108 j) (h3 : V'.2.2.1 105 v = 1) (h4 : h' n = some (zonC V' (fun j => if j = v then l else ZP j) v)) (h5 : bel (V'.2.2.1 106 v) 13 ∧ ∃ m : Nat, m ≤ 12 ∧ V'.2.2.1 107 v = Int32.ofNat m ∧ (∃ mc : Int32, h' l = some (true, false, 1013, .int mc :: rowC (fun i => .int (V'.2.2.1 108 (12 * v + i))) m)) ∧ ∀ i, i < m → bel (V'.2.2.1 108 (12 * v + i)) np) (h6 : ∃ (mc : Int32) (es : List (Value × Value)), h' zm = some (true, false, 1042, .int mc :: fl es) ∧ Mp rkI es (fun z => if 0 ≤ z ∧ z < (20 : Nat) ∧ V'.2.2.1 105 z.toNat = 1 then some (.ref ((fun j => if j = v then n else Z j) z.toNat)) else none) ∧ ∀ x ∈ es.map Prod.fst, ∃ i, x = .int i) : RM h' V' np b0 mx zm am rl nr (fun j => if j = v then n else Z j) (fun j => if j = v then l else ZP j) A RW := by
  obtain ⟨m1, m2, ⟨mz, ez, m3, m4, m5⟩, ⟨ma, ea, m6, m7, m8⟩, ⟨mr, m9⟩, m10, m11, m12, m13, m14, m15⟩ := r
  have e : ∀ c, ¬ (105 ≤ c ∧ c ≤ 108) → V'.2.2.1 c = V.2.2.1 c := fun c hc => funext (fun j => h2 c j (by omega) (by omega))
  have ea' : ∀ c j, c ≠ 108 → j ≠ v → V'.2.2.1 c j = V.2.2.1 c j := fun c j hc hj => h2 c j hc (by omega)
  have K : ∀ q c, c.2.2.1 ≠ 1042 → c.2.2.1 ≠ 87 → h q = some c → h' q = some c := fun q c z1 z2 z3 => k q c (fun z => z1 (by rw [z, m3] at z3; rw [← Option.some.inj z3])) z2 z3
  have ne : ∀ j, V.2.2.1 105 j = 1 → j ≠ v := fun j z1 z2 => hV (by rw [← z2]; exact z1)
  unfold RM actC okAct
  rw [h1, e 109 (by omega), e 110 (by omega), e 111 (by omega), e 112 (by omega), e 113 (by omega), e 117 (by omega), e 118 (by omega), e 119 (by omega), e 120 (by omega)]
  refine ⟨K _ _ (by simp) (by simp) m1, m2, h6, ⟨ma, ea, k _ _ m2.2.2.2.2.symm (by simp) m6, m7, m8⟩, ⟨mr, K _ _ (by simp) (by simp) m9⟩, m10, m11, fun z hz => ?_, fun q hq => ?_, fun b hb y => ?_, m15⟩
  · obtain ⟨a1, a2, a3⟩ := m12 z hz
    by_cases x : z = v
    · subst x
      refine ⟨by rw [h3]; exact Or.inr rfl, a2, fun _ => ⟨⟨?_, ?_, ?_, h5.1, ?_⟩, ?_, ?_, ?_⟩⟩
      · dsimp only; rw [if_pos rfl]; exact h4
      · dsimp only; rw [if_pos rfl]; omega
      · dsimp only; rw [if_pos rfl]; omega
      · obtain ⟨m, x1, x2, x3, x4⟩ := h5.2
        refine ⟨m, x1, x2, ?_, x4⟩
        dsimp only; rw [if_pos rfl]; exact x3
      · dsimp only; rw [if_pos rfl]; exact hb.1
      · dsimp only; rw [if_pos rfl]; exact hb.2
      · dsimp only; rw [if_pos rfl]
        intro y
        rw [y, m9] at hn; cases hn
    · refine ⟨by rw [ea' 105 z (by omega) x]; exact a1, a2, fun y => ?_⟩
      rw [ea' 105 z (by omega) x] at y
      obtain ⟨⟨b1, b2, b3, b4, n, b5, b6, ⟨mc, b7⟩, b8⟩, b9⟩ := a3 y
      have e108 : ∀ i, i < 12 → V'.2.2.1 108 (12 * z + i) = V.2.2.1 108 (12 * z + i) := fun i hi => h8 _ (by omega)
      have e106 := ea' 106 z (by omega) x
      have e107 := ea' 107 z (by omega) x
      unfold W3z zonC at *
      dsimp only
      rw [if_neg x, if_neg x, e106, e107]
      refine ⟨⟨K _ _ (by simp) (by simp) b1, b2, b3, b4, n, b5, b6, ⟨mc, ?_⟩, fun i hi => ?_⟩, b9⟩
      · rw [rowC_congr (g := fun i => .int (V.2.2.1 108 (12 * z + i))) (fun i hi => by rw [e108 i (by omega)])]
        exact K _ _ (by simp) (by simp) b7
      · rw [e108 i (by omega)]; exact b8 i hi
  · obtain ⟨a1, a2, ⟨a3, a4⟩, a5, a6⟩ := m13 q hq
    unfold rowK at *
    rw [e 114 (by omega), e 115 (by omega), e 116 (by omega)]
    have n1 := ne _ a4
    refine ⟨?_, a2, ⟨a3, by rw [ea' 105 _ (by omega) n1]; exact a4⟩, ?_, a6⟩
    · dsimp only
      rw [if_neg n1]
      rcases a5 with a5 | ⟨a5, a7⟩
      · rw [if_pos a5] at a1 ⊢
        exact K _ _ (by simp) (by simp) a1
      · rw [if_neg (ne _ a7)]
        exact K _ _ (by simp) (by simp) a1
    · rcases a5 with a5 | ⟨a5, a7⟩
      · exact Or.inl a5
      · exact Or.inr ⟨a5, by rw [ea' 105 _ (by omega) (ne _ a7)]; exact a7⟩
  · obtain ⟨a1, a2⟩ := m14 b hb y
    exact ⟨K _ _ (by show (91 : Nat) ≠ 1042; decide) (by show (91 : Nat) ≠ 87; decide) a1, a2⟩
