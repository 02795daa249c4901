/-! the gate: airlocks -/
def mtc (t : TS) (p q k : Nat) : Prop := (t.2.2.1 20 k = Int32.ofNat p ∧ t.2.2.1 21 k = Int32.ofNat q) ∨ (t.2.2.1 20 k = Int32.ofNat q ∧ t.2.2.1 21 k = Int32.ofNat p)
theorem t_lock {t : TS} {nL p q : Nat} (h24 : t.1 24 = Int32.ofNat nL) (hn : nL ≤ 4100) : ∃ x, t_603 (Int32.ofNat p) (Int32.ofNat q) t = some x ∧ ((x = -1 ∧ ∀ j, j < nL → ¬ mtc t p q j) ∨ ∃ k, k < nL ∧ x = Int32.ofNat k ∧ mtc t p q k) := by
  suffices z : Tr (t_603 (Int32.ofNat p) (Int32.ofNat q) t) (fun x => (x = -1 ∧ ∀ j, j < nL → ¬ mtc t p q j) ∨ ∃ k, k < nL ∧ x = Int32.ofNat k ∧ mtc t p q k) from z
  unfold t_603
  refine Tr.bd (P := fun x => (x = -1 ∧ ∀ j, j < nL → ¬ mtc t p q j) ∨ ∃ k, k < nL ∧ x = Int32.ofNat k ∧ mtc t p q k) (wh_cnt nL (fun i a => a.2 = Int32.ofNat i ∧ ((a.1 = -1 ∧ ∀ j, j < i → ¬ mtc t p q j) ∨ ∃ k, k < i ∧ a.1 = Int32.ofNat k ∧ mtc t p q k)) ?_ ?_ ⟨rfl, Or.inl ⟨rfl, fun _ h => absurd h (by omega)⟩⟩) (fun x h => ⟨x, rfl, h⟩)
  · rintro i ⟨o, p2⟩ hi ⟨rfl, h⟩
    dsimp only at h ⊢
    by_cases y : mtc t p q i
    · refine Or.inr ⟨(Int32.ofNat i, Int32.ofNat (i + 1)), ?_, rfl, Or.inr ⟨i, by omega, rfl, y⟩⟩
      rw [h24, if_pos ((i_lt (by omega) (by omega)).mpr hi), rdI_n (by omega) (by omega), Option.bind_some, rdI_n (by omega) (by omega), i_suc]
      simp only [Option.bind_some]
      unfold mtc at y
      by_cases a1 : t.2.2.1 20 i = Int32.ofNat p <;> by_cases a2 : t.2.2.1 21 i = Int32.ofNat q <;> by_cases a3 : t.2.2.1 20 i = Int32.ofNat q <;> by_cases a4 : t.2.2.1 21 i = Int32.ofNat p <;> simp only [a1, a2, a3, a4, if_true, if_false, Option.bind_some, Sum.elim_inl, Sum.elim_inr, and_self, true_and, false_and, and_true, and_false, or_self, or_true, true_or, or_false, false_or] at y ⊢ <;> (first | rfl | (split <;> (first | rfl | simp only [Option.bind_some, Sum.elim_inl, Sum.elim_inr] | (split <;> rfl))))
    · refine Or.inr ⟨(o, Int32.ofNat (i + 1)), ?_, rfl, ?_⟩
      · rw [h24, if_pos ((i_lt (by omega) (by omega)).mpr hi), rdI_n (by omega) (by omega), Option.bind_some, rdI_n (by omega) (by omega), i_suc]
        simp only [Option.bind_some]
        have e1 : (if t.2.2.1 20 i = Int32.ofNat p then (if t.2.2.1 21 i = Int32.ofNat q then some (Sum.inr (β := Sum Unit (Sum Int32 Int32)) (α := Unit) (.inl ())) else some (.inl ())) else some (.inl ())) = some (.inl ()) := by
          by_cases a1 : t.2.2.1 20 i = Int32.ofNat p
          · rw [if_pos a1, if_neg (fun z => y (Or.inl ⟨a1, z⟩))]
          · rw [if_neg a1]
        have y1 : ¬ (t.2.2.1 20 i = Int32.ofNat p ∧ t.2.2.1 21 i = Int32.ofNat q) := fun z => y (Or.inl z)
        have y2 : ¬ (t.2.2.1 20 i = Int32.ofNat q ∧ t.2.2.1 21 i = Int32.ofNat p) := fun z => y (Or.inr z)
        by_cases a1 : t.2.2.1 20 i = Int32.ofNat p
        · have a2 : ¬ t.2.2.1 21 i = Int32.ofNat q := fun z => y1 ⟨a1, z⟩
          by_cases a3 : t.2.2.1 20 i = Int32.ofNat q
          · have a4 : ¬ t.2.2.1 21 i = Int32.ofNat p := fun z => y2 ⟨a3, z⟩
            rw [if_pos a1, if_neg a2, Option.bind_some, Sum.elim_inl, if_pos a3, if_neg a4]; rfl
          · rw [if_pos a1, if_neg a2, Option.bind_some, Sum.elim_inl, if_neg a3]; rfl
        · by_cases a3 : t.2.2.1 20 i = Int32.ofNat q
          · have a4 : ¬ t.2.2.1 21 i = Int32.ofNat p := fun z => y2 ⟨a3, z⟩
            rw [if_neg a1, Option.bind_some, Sum.elim_inl, if_pos a3, if_neg a4]; rfl
          · rw [if_neg a1, Option.bind_some, Sum.elim_inl, if_neg a3]; rfl
      · rcases h with ⟨h1, h2⟩ | ⟨k, h1, h2⟩
        · refine Or.inl ⟨h1, fun j hj => ?_⟩
          by_cases z : j = i
          · rw [z]; exact y
          · exact h2 j (by omega)
        · exact Or.inr ⟨k, by omega, h2⟩
  · rintro ⟨o, p2⟩ ⟨rfl, h⟩
    dsimp only at h ⊢
    exact ⟨o, by rw [h24, if_neg (by rw [i_lt (by omega) (by omega)]; omega)], h⟩
theorem R4_lok {h h' : lHeap} {t T : TS} {K zn nr nS nT nC nR nP nL nL' a a1 b1 : Nat} {rel : Int32} {S C CS' CM CT E RS RM' RT P G D L F : Nat → Nat} {RW : Nat → Nat → Nat} (r : R4x h t K zn nr nS nT nC nR nP nL a rel S C CS' CM CT E RS RM' RT P G D L F RW) (hbu : ¬ t.1 1 = 0) (ha : a1 < nP) (hb : b1 < nP) (hh : ∀ q c, q ≠ L a1 → q ≠ L b1 → h q = some c → h' q = some c) (h1 : ∀ c, c ≠ 0 → c ≠ 24 → T.1 c = t.1 c) (h24 : T.1 24 = Int32.ofNat nL') (hn : nL' ≤ K + 1) (h3 : ∀ c j, c ≠ 20 → c ≠ 21 → T.2.2.1 c j = t.2.2.1 c j) (hL : ∀ p, p < nP → ∃ xs, h' (L p) = some (true, false, 1003, xs) ∧ ∀ q, bit xs q = true ↔ q < 1400 ∧ lok T nL' p q) (hprs : ∀ k, k < nL' → bel (T.2.2.1 20 k) nP ∧ bel (T.2.2.1 21 k) nP ∧ T.2.2.1 20 k ≠ T.2.2.1 21 k ∧ ∀ j, j < k → ¬ ((T.2.2.1 20 j = T.2.2.1 20 k ∧ T.2.2.1 21 j = T.2.2.1 21 k) ∨ (T.2.2.1 20 j = T.2.2.1 21 k ∧ T.2.2.1 21 j = T.2.2.1 20 k))) : R4x h' T (K + 1) zn nr nS nT nC nR nP nL' a rel S C CS' CM CT E RS RM' RT P G D L F RW := by
  obtain ⟨v0, v1, v2t, v2c, v2r, v2d, v3, v4, v5, v6⟩ := r
  obtain ⟨xa, ea, _⟩ := (v3.2.2.2.1 a1 ha).2.2.2.2.2.2.2.2.2.2.2
  obtain ⟨xb, eb, _⟩ := (v3.2.2.2.1 b1 hb).2.2.2.2.2.2.2.2.2.2.2
  have hH : ∀ X : Nat → lCell → Prop, (∀ c, X (L a1) c → c.2.2.1 = 1003 → False) → (∀ c, X (L b1) c → c.2.2.1 = 1003 → False) → hS h h' X := fun X hx hy => hS_mk2 ea eb hh hx hy
  have nA : ∀ p, p < nP → ∀ q, q = 108 ∨ q = 110 ∨ q = 111 ∨ q = 112 ∨ q = 113 ∨ q = 114 → L p ≠ q := fun p hp q hq z => by have := (v3.2.2.2.1 p hp).2.2.2.2.1.2.2; omega
  have T3 : ∀ c, c ≠ 20 → c ≠ 21 → T.2.2.1 c = t.2.2.1 c := fun c z1 z2 => funext (fun j => h3 c j z1 z2)
  have eq : ∀ l : List Nat, (∀ c ∈ l, c ≠ 20 ∧ c ≠ 21) → eqR t T l := fun l hl c hc => T3 c (hl c hc).1 (hl c hc).2
  refine ⟨V0_cg v0 (hH _ (fun c z1 z2 => by rcases z1 with z | z; exact nA a1 ha 108 (by omega) z; omega) (fun c z1 z2 => by rcases z1 with z | z; exact nA b1 hb 108 (by omega) z; omega)) (h1 1 (by omega) (by omega)) (h1 9 (by omega) (by omega)) (h1 49 (by omega) (by omega)) (h1 45 (by omega) (by omega)) (T3 64 (by omega) (by omega)), V1_cg v1 (hH _ (fun c z1 z2 => by rcases z1 with z | z; exact nA a1 ha 111 (by omega) z; omega) (fun c z1 z2 => by rcases z1 with z | z; exact nA b1 hb 111 (by omega) z; omega)) (h1 27 (by omega) (by omega)) (h1 9 (by omega) (by omega)) (eq _ (by decide)), ⟨by rw [h1 45 (by omega) (by omega)]; exact v2t.1, by rw [T3 39 (by omega) (by omega)]; exact v2t.2⟩, V2c_cg v2c (hH _ (fun c z1 z2 => by rcases z1 with z | z | z | z; exact nA a1 ha 112 (by omega) z; all_goals omega) (fun c z1 z2 => by rcases z1 with z | z | z | z; exact nA b1 hb 112 (by omega) z; all_goals omega)) (h1 36 (by omega) (by omega)) (eq _ (by decide)), V2r_cg v2r (hH _ (fun c z1 z2 => by rcases z1 with z | z | z | z; exact nA a1 ha 113 (by omega) z; all_goals omega) (fun c z1 z2 => by rcases z1 with z | z | z | z; exact nA b1 hb 113 (by omega) z; all_goals omega)) (h1 39 (by omega) (by omega)) (eq _ (by decide)), v2d, ?_, V4_cg v4 (hH _ (fun c z1 z2 => by rcases z1 with z | z; exact nA a1 ha 114 (by omega) z; omega) (fun c z1 z2 => by rcases z1 with z | z; exact nA b1 hb 114 (by omega) z; omega)) (h1 49 (by omega) (by omega)) (eq _ (by decide)), ⟨by omega, hn, by omega⟩, fun z => absurd ((h1 1 (by omega) (by omega)).symm.trans z) hbu⟩
  obtain ⟨⟨mc, x1⟩, x2, x3, x4, x5, x6, x7, x8, x9⟩ := v3
  refine ⟨⟨mc, hh _ _ (nA a1 ha 110 (by omega)).symm (nA b1 hb 110 (by omega)).symm x1⟩, by rw [h1 10 (by omega) (by omega)]; exact x2, x3, fun p' hp' => ?_, x5, x6, x7, h24, hprs⟩
  obtain ⟨y1, y2, y3⟩ := x4 p' hp'
  refine ⟨?_, y2, ?_⟩
  · have : porC T G D L p' = porC t G D L p' := by
      unfold porC cxP cyP flB
      rw [T3 7 (by omega) (by omega), T3 8 (by omega) (by omega), T3 9 (by omega) (by omega), T3 11 (by omega) (by omega), T3 12 (by omega) (by omega), T3 13 (by omega) (by omega), T3 14 (by omega) (by omega), T3 15 (by omega) (by omega), T3 50 (by omega) (by omega), T3 51 (by omega) (by omega), T3 52 (by omega) (by omega)]
    rw [this]
    exact hh _ _ (apart y1 ea (by show (80 : Nat) ≠ 1003; decide)) (apart y1 eb (by show (80 : Nat) ≠ 1003; decide)) y1
  · have hg : hS h h' (fun _ c => c.2.2.1 = 79 ∨ c.2.2.1 = 1004 ∨ c.2.2.1 = 86) := hH _ (fun c z1 z2 => by rcases z1 with z | z | z <;> omega) (fun c z1 z2 => by rcases z1 with z | z | z <;> omega)
    obtain ⟨a1, ⟨x, y, a2⟩, a3, a4, a5, a6, a7, a8, ⟨n, a9, a10, a11, a12⟩, xs, a13, a14⟩ := y3
    have q2 := hg _ _ (Or.inl rfl) a2
    have hL' := hL p' hp'
    unfold V3p okPor xIn yIn cxP cyP flB rowG at *
    rw [h1 9 (by omega) (by omega), T3 7 (by omega) (by omega), T3 8 (by omega) (by omega), T3 9 (by omega) (by omega), T3 10 (by omega) (by omega), T3 11 (by omega) (by omega), T3 12 (by omega) (by omega), T3 13 (by omega) (by omega), T3 14 (by omega) (by omega), T3 15 (by omega) (by omega), T3 16 (by omega) (by omega), T3 17 (by omega) (by omega), T3 18 (by omega) (by omega), T3 19 (by omega) (by omega), T3 50 (by omega) (by omega), T3 51 (by omega) (by omega), T3 52 (by omega) (by omega)]
    exact ⟨by rw [q2]; simp, ⟨x, y, q2⟩, a3, a4, a5, a6, a7, a8, ⟨n, a9, a10, hg _ _ (Or.inr (Or.inl rfl)) a11, fun i hi => ⟨hg _ _ (Or.inr (Or.inr rfl)) (a12 i hi).1, (a12 i hi).2⟩⟩, hL'⟩
