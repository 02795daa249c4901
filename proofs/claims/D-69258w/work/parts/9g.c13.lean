/-! cells: who goes next -/
/-- what is known of one who has not gone -/
def atR (T : TS) (at' : Int32) (k : Nat) : Prop := (T.2.2.1 24 k < T.1 9 ∧ T.2.2.1 27 k < 0 ∧ ∃ c, c < 576 ∧ T.2.2.1 25 k = cX c ∧ T.2.2.1 26 k = cY c ∧ at' = nmC T c) ∨ (¬ (T.2.2.1 24 k < T.1 9 ∧ T.2.2.1 27 k < 0) ∧ at' = -1)
/-- one who may go -/
def goR (T : TS) (at' : Nat → Int32) (k : Nat) : Prop := T.2.2.1 49 k = 0 ∧ ∃ c, c < 576 ∧ T.2.2.1 25 k = cX c ∧ T.2.2.1 26 k = cY c ∧ 0 < T.2.2.1 46 c ∧ at' k = T.2.2.1 46 c
section
variable {own : Nat → Nat} {s : CS} {T : TS} {nl nr nd sm : Nat} {W : Nat → Nat} {e q g wn : Nat → Int32} {sc : Nat → Nat}
theorem ce_next {K zn nr' nS nT nC nR nP nL a A B : Nat} {rel : Int32} {at' : Nat → Int32} {gs : List Value} {S C CS' CM CT E RS RM' RT P G D L F : Nat → Nat} {RW : Nat → Nat → Nat} (r : R9x s.1 T nl nr nd sm W e q g wn sc) (p : R4x s.1 T K zn nr' nS nT nC nR nP nL a rel S C CS' CM CT E RS RM' RT P G D L F RW) (hb : T.1 1 ≠ 0) (h101 : s.1 101 = some (true, false, 56, [.int (T.1 2)])) (hA : s.1 A = some (true, true, 0, rowC (fun k => .int (at' k)) nS)) (hB : s.1 B = some (true, false, 1003, gs)) (hg : ∀ k, k < nS → (v01 (T.2.2.1 49 k)) ∧ (bit gs k = true ↔ T.2.2.1 49 k = 1)) (hat : ∀ k, k < nS → T.2.2.1 49 k = 0 → atR T (at' k) k) : ∃ x y, c_552 170 111 A B s = some x ∧ t_670 T = some y ∧ ((x = none ∧ y = -1) ∨ ∃ k, k < nS ∧ x = some (S k) ∧ y = Int32.ofNat k ∧ goR T at' k) := by
  obtain ⟨b1, b2, b3, b4, b5, b6, b7⟩ := r.2.2.2.2.1 hb
  have a1 := r.1.1
  obtain ⟨⟨mc, x1⟩, x2, x3, x4, _⟩ := p.2.1
  unfold c_552 t_670
  obtain ⟨x, y, h1, h2, h3⟩ := wh_two (f := ((fun p4 => (if isK s [13] 111 = true then Option.bind (alSize s 111) (fun x1 => (if p4.2 < x1 then (if isK s [13] 111 = true then Option.bind (alGet s 111 p4.2) (fun e2 => Option.bind (toN s [81] e2) (fun a3 => (if isK s [3] B = true then Option.bind (bsGet s B p4.2) (fun x4 => Option.bind ((if x4 = 0 then Option.bind (aI s [0, 12] A p4.2) (fun x5 => (if x5 = (-1) then some (0 : Int32) else Option.bind (xN s [(50, 0)] 170) (fun a6 => Option.bind (xI s [(56, 0)] a6) (fun x7 => Option.bind (xI s [(81, 8)] a3) (fun x8 => Option.bind (xI s [(81, 2)] a3) (fun x9 => (if (x7 - x8) < x9 then some (0 : Int32) else some (1 : Int32)))))))) else some (0 : Int32))) (fun v34 => Option.bind (Option.bind ((if v34 = 0 then some (.inl p4.1) else Option.bind ((if p4.1 = none then some (.inl ()) else Option.bind (aI s [0, 12] A p4.2) (fun x10 => Option.bind (p4.1) (fun a11 => Option.bind (xI s [(81, 0)] a11) (fun x12 => Option.bind (aI s [0, 12] A x12) (fun x13 => (if x10 < x13 then some (.inl ()) else some (.inr (.inl (some a11)))))))))) (Sum.elim (fun v47 => some (.inr (some a3))) (fun z => some z)))) (Sum.elim (fun v49 => some v49) (fun z => some z))) (fun v50 => some (.inl (v50, p4.2 + 1))))) else none))) else none) else some (.inr p4.1))) else none)) : Option Nat × Int32 → Option (Sum (Option Nat × Int32) (Option Nat)))) (g := ((fun p4 => (if p4.2 < (T.1 27) then Option.bind (rdI T 49 40 p4.2) (fun x1 => Option.bind ((if x1 = 0 then Option.bind (rdI T 24 40 p4.2) (fun x2 => (if x2 < (T.1 9) then Option.bind (rdI T 27 40 p4.2) (fun x3 => (if x3 < 0 then Option.bind (rdI T 29 40 p4.2) (fun x4 => Option.bind (rdI T 23 40 p4.2) (fun x5 => (if ((T.1 2) - x4) < x5 then some (0 : Int32) else some (1 : Int32)))) else some (0 : Int32))) else some (0 : Int32))) else some (0 : Int32))) (fun v40 => Option.bind ((if v40 = 0 then some (0 : Int32) else Option.bind (rdI T 26 40 p4.2) (fun x6 => Option.bind (rdI T 25 40 p4.2) (fun x7 => Option.bind (rdI T 46 576 ((24 * x6) + x7)) (fun x8 => some x8))))) (fun v59 => Option.bind ((if 0 < v59 then Option.bind ((if p4.1 < 0 then some (.inl ()) else Option.bind (rdI T 26 40 p4.1) (fun x9 => Option.bind (rdI T 25 40 p4.1) (fun x10 => Option.bind (rdI T 46 576 ((24 * x9) + x10)) (fun x11 => (if v59 < x11 then some (.inl ()) else some (.inr p4.1))))))) (Sum.elim (fun v80 => some p4.2) (fun z => some z)) else some p4.1)) (fun v82 => some (.inl (v82, p4.2 + 1)))))) else some (.inr p4.1))) : Int32 × Int32 → Option (Sum (Int32 × Int32) Int32))) (a := (none, 0)) (b := (-1, 0)) (Q := fun x y => (x = none ∧ y = -1) ∨ ∃ k, k < nS ∧ x = some (S k) ∧ y = Int32.ofNat k ∧ goR T at' k) nS (fun k x y => x.2 = Int32.ofNat k ∧ y.2 = Int32.ofNat k ∧ ((x.1 = none ∧ y.1 = -1) ∨ ∃ j, j < k ∧ x.1 = some (S j) ∧ y.1 = Int32.ofNat j ∧ goR T at' j)) (by
    rintro k ⟨u, _⟩ ⟨v, _⟩ hk ⟨rfl, rfl, hi⟩
    right
    dsimp only at hi ⊢
    obtain ⟨dS, okS, _⟩ := x4 k hk
    have step : ∀ (u' : Option Nat) (v' : Int32), ((u' = none ∧ v' = -1) ∨ ∃ j, j < k + 1 ∧ u' = some (S j) ∧ v' = Int32.ofNat j ∧ goR T at' j) → ∃ a' b', some (Sum.inl (β := Option Nat) (u', Int32.ofNat k + 1)) = some (.inl a') ∧ some (Sum.inl (β := Int32) (v', Int32.ofNat k + 1)) = some (.inl b') ∧ a'.2 = Int32.ofNat (k + 1) ∧ b'.2 = Int32.ofNat (k + 1) ∧ ((a'.1 = none ∧ b'.1 = -1) ∨ ∃ j, j < k + 1 ∧ a'.1 = some (S j) ∧ b'.1 = Int32.ofNat j ∧ goR T at' j) := fun u' v' h => ⟨_, _, rfl, rfl, i_suc k, i_suc k, h⟩
    have old : (u = none ∧ v = -1) ∨ ∃ j, j < k + 1 ∧ u = some (S j) ∧ v = Int32.ofNat j ∧ goR T at' j := by
      rcases hi with h | ⟨j, hj, h⟩
      · exact Or.inl h
      · exact Or.inr ⟨j, by omega, h⟩
    obtain ⟨hg1, hg2⟩ := hg k hk
    rw [if_pos (isK_t x1 rfl), alSize_r x1, Option.bind_some, if_pos ((i_lt (by omega) (by omega)).mpr hk), if_pos (isK_t x1 rfl), alGet_r x1 hk (by omega), Option.bind_some, toN_o dS rfl, Option.bind_some, if_pos (isK_t hB rfl), bsGet_r hB (by omega), Option.bind_some, aI_r hA (by omega) rfl hk (by omega) rfl, Option.bind_some, xN_o (b := 101) a1 rfl rfl, Option.bind_some, xI_o (x := T.1 2) h101 rfl rfl, Option.bind_some, xI_o (x := T.2.2.1 29 k) dS rfl rfl, Option.bind_some, xI_o (x := T.2.2.1 23 k) dS rfl rfl, Option.bind_some]
    rw [x2, if_pos ((i_lt (by omega) (by omega)).mpr hk), rdI_n (by omega) (by omega), rdI_n (by omega) (by omega), rdI_n (by omega) (by omega), rdI_n (by omega) (by omega), rdI_n (by omega) (by omega), rdI_n (by omega) (by omega), rdI_n (by omega) (by omega), Option.bind_some, Option.bind_some, Option.bind_some, Option.bind_some, Option.bind_some]
    simp only [Option.bind_some]
    rcases hg1.symm with z | z
    · have hbt : bit gs k = true := hg2.mpr z
      rw [if_pos hbt, if_neg (show ¬ (1 : Int32) = 0 by decide), z, if_neg (show ¬ (1 : Int32) = 0 by decide)]
      simp only [Option.bind_some, if_true, Sum.elim_inl, show ¬ (0 : Int32) < 0 by decide, if_false]
      exact step u v old
    · have hbt : ¬ bit gs k = true := fun h => by have := hg2.mp h; rw [z] at this; exact absurd this (by decide)
      rw [if_neg hbt, if_pos rfl, z, if_pos rfl]
      rcases hat k hk z with ⟨g1, g2, c, hc, g3, g4, g5⟩ | ⟨g1, g2⟩
      · rw [if_pos g1, if_pos g2, g3, g4, cXY, rdI_n hc (by omega), g5]
        by_cases e0 : T.2.2.1 46 c = 0
        · have en : nmC T c = -1 := by unfold nmC; rw [if_pos e0]
          have hv : ∀ {A : Type} (f : Int32 → Option A), Option.bind (if T.1 2 - T.2.2.1 29 k < T.2.2.1 23 k then some (0 : Int32) else some 1) (fun v40 => Option.bind (if v40 = 0 then some (0 : Int32) else Option.bind (some (T.2.2.1 46 c)) (fun x8 => some x8)) f) = f 0 := fun f => by
            rw [e0]
            split <;> rfl
          rw [en, if_pos rfl]
          refine Exists.elim (step u v old) (fun a' h => Exists.elim h (fun b' h => ⟨a', b', ?_, (hv _).trans ?_, h.2.2⟩))
          · simp only [Option.bind_some, if_true, Sum.elim_inl]; exact h.1
          · rw [if_neg (show ¬ (0 : Int32) < 0 by decide)]; exact h.2.1
        · obtain ⟨vc, hvc, ec⟩ := (b5 c hc).1
          have hv0 : 0 < vc := by
            apply Nat.pos_of_ne_zero
            intro y
            exact e0 (by rw [ec, y]; rfl)
          have up : 0 < T.2.2.1 46 c := by
            rw [ec]
            exact (i_lt (j := 0) (by omega) (by omega)).mpr hv0
          have en : nmC T c = T.2.2.1 46 c := by unfold nmC; rw [if_neg e0]
          have hm1 : ¬ T.2.2.1 46 c = -1 := by rw [ec]; exact i_ne1 (by omega)
          rw [en, if_neg hm1]
          by_cases pc : T.1 2 - T.2.2.1 29 k < T.2.2.1 23 k
          · rw [if_pos pc]
            simp only [Option.bind_some, if_true, Sum.elim_inl, show ¬ (0 : Int32) < 0 by decide, if_false]
            exact step u v old
          · rw [if_neg pc]
            simp only [Option.bind_some, show ¬ (1 : Int32) = 0 by decide, if_false, up, if_true]
            have me : goR T at' k := ⟨z, c, hc, g3, g4, up, g5.trans en⟩
            rcases hi with ⟨rfl, rfl⟩ | ⟨j, hj, rfl, rfl, hgo⟩
            · rw [if_pos rfl, if_pos (show (-1 : Int32) < 0 by decide)]
              simp only [Option.bind_some, Sum.elim_inl, Sum.elim_inr]
              exact step _ _ (Or.inr ⟨k, by omega, rfl, rfl, me⟩)
            · have hgo' := hgo
              obtain ⟨j1, cj, hcj, j2, j3, j4, j5⟩ := hgo
              have dj := (x4 j (by omega)).1
              rw [if_neg (by simp), if_neg (i_nlt0 (by omega)), Option.bind_some, xI_o (x := Int32.ofNat j) dj rfl rfl, Option.bind_some, aI_r hA (by omega) rfl (show j < nS by omega) (by omega) rfl, Option.bind_some, rdI_n (by omega) (by omega), rdI_n (by omega) (by omega), Option.bind_some, Option.bind_some, j2, j3, cXY, rdI_n hcj (by omega), Option.bind_some, j5]
              by_cases lt : T.2.2.1 46 c < T.2.2.1 46 cj
              · rw [if_pos lt, if_pos lt]
                simp only [Option.bind_some, Sum.elim_inl, Sum.elim_inr]
                exact step _ _ (Or.inr ⟨k, by omega, rfl, rfl, me⟩)
              · rw [if_neg lt, if_neg lt]
                simp only [Option.bind_some, Sum.elim_inl, Sum.elim_inr]
                exact step _ _ (Or.inr ⟨j, by omega, rfl, rfl, hgo'⟩)
      · have hv : ∀ {A : Type} (f : Int32 → Option A), Option.bind (if T.2.2.1 24 k < T.1 9 then (if T.2.2.1 27 k < 0 then (if T.1 2 - T.2.2.1 29 k < T.2.2.1 23 k then some (0 : Int32) else some 1) else some 0) else some 0) f = f 0 := fun f => by
          by_cases y1 : T.2.2.1 24 k < T.1 9
          · by_cases y2 : T.2.2.1 27 k < 0
            · exact absurd ⟨y1, y2⟩ g1
            · rw [if_pos y1, if_neg y2]; rfl
          · rw [if_neg y1]; rfl
        rw [g2, if_pos rfl, hv]
        simp only [Option.bind_some, if_true, Sum.elim_inl, show ¬ (0 : Int32) < 0 by decide, if_false]
        exact step u v old) (by
    rintro ⟨u, _⟩ ⟨v, _⟩ ⟨rfl, rfl, hi⟩
    refine ⟨u, v, ?_, ?_, hi⟩
    · dsimp only
      rw [if_pos (isK_t x1 rfl), alSize_r x1, Option.bind_some, if_neg (fun z => by have := (i_lt (by omega) (by omega)).mp z; omega)]
    · dsimp only
      rw [x2, if_neg (fun z => by have := (i_lt (by omega) (by omega)).mp z; omega)]) ⟨rfl, rfl, Or.inl ⟨rfl, rfl⟩⟩
  exact ⟨x, y, by rw [h1]; rfl, by rw [h2]; rfl, h3⟩
end
