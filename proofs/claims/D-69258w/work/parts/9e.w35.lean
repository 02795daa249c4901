/-! the warden: a new act -/
theorem RM_act {h h' : lHeap} {V V' : TS} {np b0 mx zm am rl nr a n : Nat} {Z ZP A RW : Nat → Nat} (r : RM h V np b0 mx zm am rl nr Z ZP A RW) (ha : a < 20) (hA : ¬ V.2.2.1 109 a = 1) (k : ∀ q c, q ≠ am → c.2.2.1 ≠ 87 → h q = some c → h' q = some c) (hn : h n = none) (hb : b0 ≤ n) (h1 : V'.1 321 = V.1 321) (h2 : ∀ c j, ¬ (109 ≤ c ∧ c ≤ 113 ∧ j = a) → V'.2.2.1 c j = V.2.2.1 c j) (h3 : V'.2.2.1 109 a = 1) (h4 : okAct V' a) (h5 : h' n = some (actC V' a)) (h6 : ∃ (mc : Int32) (es : List (Value × Value)), h' am = some (true, false, 1042, .int mc :: fl es) ∧ Mp rkI es (fun z => if 0 ≤ z ∧ z < (20 : Nat) ∧ V'.2.2.1 109 z.toNat = 1 then some (.ref ((fun j => if j = a then n else A j) z.toNat)) else none) ∧ ∀ x ∈ es.map Prod.fst, ∃ i, x = .int i) : RM h' V' np b0 mx zm am rl nr Z ZP (fun j => if j = a then n else A j) RW := by
  obtain ⟨m1, m2, ⟨mz, ez, m3, m4, m5⟩, ⟨ma, ea, m6, m7, m8⟩, ⟨mr, m9⟩, m10, m11, m12, m13, m14, m15⟩ := r
  have e : ∀ c, ¬ (109 ≤ c ∧ c ≤ 113) → V'.2.2.1 c = V.2.2.1 c := fun c hc => funext (fun j => h2 c j (by omega))
  have ea : ∀ c j, j ≠ a → V'.2.2.1 c j = V.2.2.1 c j := fun c j hj => h2 c j (by omega)
  have K : ∀ q c, c.2.2.1 ≠ 1042 → c.2.2.1 ≠ 87 → h q = some c → h' q = some c := fun q c z1 z2 z3 => k q c (fun z => z1 (by rw [z, m6] at z3; rw [← Option.some.inj z3])) z2 z3
  unfold RM W3z zonC
  rw [h1, e 105 (by omega), e 106 (by omega), e 107 (by omega), e 108 (by omega)]
  refine ⟨K _ _ (by simp) (by simp) m1, m2, ⟨mz, ez, k _ _ m2.2.2.2.2 (by simp) m3, m4, m5⟩, h6, ⟨mr, K _ _ (by simp) (by simp) m9⟩, m10, m11, fun z hz => ?_, fun q hq => ?_, fun b hb y => ?_, fun b c hb hc yb yc hbc => ?_⟩
  · obtain ⟨a1, a2, a3⟩ := m12 z hz
    refine ⟨a1, ?_, fun y => ?_⟩
    · by_cases x : z = a
      · rw [x, h3]; exact Or.inr rfl
      · rw [ea 109 z x]; exact a2
    obtain ⟨⟨b1, b2, b3, b4, n, b5, b6, ⟨mc, b7⟩, b8⟩, b9⟩ := a3 y
    exact ⟨⟨K _ _ (by show (90 : Nat) ≠ 1042; decide) (by show (90 : Nat) ≠ 87; decide) b1, b2, b3, b4, n, b5, b6, ⟨mc, K _ _ (by simp) (by simp) b7⟩, b8⟩, b9⟩
  · obtain ⟨a1, a2, a3, a4, a5, a6⟩ := m13 q hq
    have ne : bN (V.2.2.1 116 q) ≠ a := fun z => hA (by rw [← z]; exact a6)
    unfold rowK
    rw [e 114 (by omega), e 115 (by omega), e 116 (by omega)]
    refine ⟨?_, a2, a3, a4, a5, by rw [ea 109 _ ne]; exact a6⟩
    dsimp only
    rw [if_neg ne]
    exact K _ _ (by show (92 : Nat) ≠ 1042; decide) (by show (92 : Nat) ≠ 87; decide) a1
  · by_cases x : b = a
    · subst x
      dsimp only
      rw [if_pos rfl]
      exact ⟨h5, by assumption, h4⟩
    · dsimp only
      rw [if_neg x]
      rw [ea 109 b x] at y
      obtain ⟨b1, b2, b3⟩ := m14 b hb y
      unfold actC okAct at *
      rw [ea 110 b x, ea 111 b x, ea 112 b x, ea 113 b x, ea 117 b x, ea 118 b x, ea 119 b x, ea 120 b x]
      exact ⟨K _ _ (by show (91 : Nat) ≠ 1042; decide) (by show (91 : Nat) ≠ 87; decide) b1, b2, b3⟩
  · dsimp only at hbc
    have nn : ∀ d, d < 20 → d ≠ a → V'.2.2.1 109 d = 1 → A d ≠ n := fun d hd x y z => by
      rw [ea 109 d x] at y
      have := (m14 d hd y).1
      rw [z, hn] at this; cases this
    by_cases x1 : b = a
    · by_cases x2 : c = a
      · rw [x1, x2]
      · rw [if_pos x1, if_neg x2] at hbc
        exact absurd hbc.symm (nn c hc x2 yc)
    · by_cases x2 : c = a
      · rw [if_neg x1, if_pos x2] at hbc
        exact absurd hbc (nn b hb x1 yb)
      · rw [if_neg x1, if_neg x2] at hbc
        rw [ea 109 b x1] at yb
        rw [ea 109 c x2] at yc
        exact m15 b c hb hc yb yc hbc
