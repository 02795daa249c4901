/-! cells: walking numbers, the reference lowers them -/
def smN (p : Nat → Nat) : Nat → Nat
  | 0 => 0
  | n + 1 => smN p n + p n
theorem smN_le {p q : Nat → Nat} {n : Nat} (h : ∀ k, k < n → q k ≤ p k) : smN q n ≤ smN p n := by
  induction n with
  | zero => exact Nat.le_refl _
  | succ n ih => unfold smN; have := ih (fun k hk => h k (by omega)); have := h n (by omega); omega
theorem smN_lt {p q : Nat → Nat} {n k : Nat} (h : ∀ k, k < n → q k ≤ p k) (hk : k < n) (hl : q k < p k) : smN q n < smN p n := by
  induction n with
  | zero => omega
  | succ n ih =>
    unfold smN
    have h1 := h n (by omega)
    by_cases e : k = n
    · have := smN_le (n := n) (fun k hk => h k (by omega))
      rw [e] at hl; omega
    · have := ih (fun k hk => h k (by omega)) (by omega); omega
/-- cells beside, with a way between them, both inside -/
def adN (t : TS) (nl : Nat) (c b : Nat) : Prop := c < 576 ∧ ¬ ouT t c ∧ ¬ ouT t b ∧ ∃ d, d < 4 ∧ bsd c d = b ∧ psB t nl d (cX c) (cY c)
def exA (t : TS) (nl : Nat) (c : Nat) : Prop := c < 576 ∧ exC t nl 4 c
def wgt (f : Nat → Nat) (c : Nat) : Nat := if f c = 0 then 1000 else f c
/-- numbers while they are lowered -/
def lwI (t : TS) (nl : Nat) (T : TS) (f : Nat → Nat) : Prop := T.1 = t.1 ∧ (∀ c, c ≠ 46 → T.2.2.1 c = t.2.2.1 c) ∧ (∀ c, c < 576 → T.2.2.1 46 c = Int32.ofNat (f c)) ∧ (∀ Z, Z ≠ 9 → rt T Z = rt t Z) ∧ (∀ c, f c ≠ 0 → c < 576 ∧ rcW (exA t nl) (adN t nl) (f c) c) ∧ (∀ c, exA t nl c → f c = 1) ∧ ∀ c, f c ≤ 1 + ctB (fun j => decide (f j ≠ 0)) 576
/-- one look: through a way to the cell beside -/
theorem lw_one {t T : TS} {nl : Nat} {f : Nat → Nat} (h : lwI t nl T f) {c d : Nat} (hc : c < 576) (hd : d < 4) (hi : ¬ ouT t c) : ∃ f', (f' = f ∧ (¬ ouT t (bsd c d) → psB t nl d (cX c) (cY c) → f (bsd c d) ≠ 0 → f c ≠ 0 ∧ f c ≤ f (bsd c d) + 1)) ∨ (lwI t nl (wrI T 46 c (T.2.2.1 46 (bsd c d) + 1)) f' ∧ (¬ ouT t (bsd c d) ∧ psB t nl d (cX c) (cY c) ∧ f (bsd c d) ≠ 0 ∧ (f c = 0 ∨ f (bsd c d) + 1 < f c)) ∧ f' = fun j => if j = c then f (bsd c d) + 1 else f j) := by
  by_cases hh : ¬ ouT t (bsd c d) ∧ psB t nl d (cX c) (cY c) ∧ f (bsd c d) ≠ 0 ∧ (f c = 0 ∨ f (bsd c d) + 1 < f c)
  · obtain ⟨h1, h2, h3, h4, h5, h6, h7⟩ := h
    obtain ⟨g1, g2, g3, g4⟩ := hh
    refine ⟨fun j => if j = c then f (bsd c d) + 1 else f j, Or.inr ⟨⟨h1, fun k hk => funext (fun j => (wr_ne hk j).trans (congrFun (h2 k hk) j)), fun j hj => ?_, fun Z hZ => ?_, fun j hj => ?_, fun j hj => ?_, fun j => ?_⟩, ⟨g1, g2, g3, g4⟩, rfl⟩⟩
    · dsimp only
      by_cases w : j = c
      · have hlt := (h5 _ g3).1
        rw [w, wr_at, if_pos ⟨rfl, rfl⟩, if_pos rfl, h3 _ hlt, i_suc]
      · rw [wr_nk w, if_neg w]; exact h3 j hj
    · rw [rt_wrI (by show (9 : Nat) ≠ Z; omega)]; exact h4 Z hZ
    · dsimp only at hj ⊢
      by_cases w : j = c
      · rw [if_pos w, w]
        exact ⟨hc, Or.inr ⟨bsd c d, ⟨hc, hi, g1, d, hd, rfl, g2⟩, (h5 _ g3).2⟩⟩
      · rw [if_neg w] at hj ⊢; exact h5 j hj
    · dsimp only
      by_cases w : j = c
      · have := h6 j hj
        rw [w] at this
        omega
      · rw [if_neg w]; exact h6 j hj
    · have hb := h7 (bsd c d)
      have hj := h7 j
      have mono : ∀ n, ctB (fun j => decide (f j ≠ 0)) n ≤ ctB (fun j => decide ((if j = c then f (bsd c d) + 1 else f j) ≠ 0)) n := fun n => by
        induction n with
        | zero => exact Nat.le_refl _
        | succ n ih =>
          rw [ctB_s, ctB_s]
          by_cases w : n = c
          · simp only [w, if_true]
            have : decide (f (bsd c d) + 1 ≠ 0) = true := decide_eq_true (by omega)
            rw [if_pos this]
            rw [w] at ih
            split <;> omega
          · simp only [w, if_false]; omega
      rcases g4 with g4 | g4
      · have hl : ctB (fun j => decide (f j ≠ 0)) 576 < ctB (fun j => decide ((if j = c then f (bsd c d) + 1 else f j) ≠ 0)) 576 := ctB_lt hc (decide_eq_true (by rw [if_pos rfl]; omega)) (decide_eq_false (by omega)) (fun j hj => by
          have := of_decide_eq_true hj
          refine decide_eq_true ?_
          split
          · omega
          · exact this)
        dsimp only
        split <;> omega
      · have := mono 576
        have hc7 := h7 c
        dsimp only
        split <;> omega
  · exact ⟨f, Or.inl ⟨rfl, fun k1 k2 k3 => by
      have : ¬ (f c = 0 ∨ f (bsd c d) + 1 < f c) := fun w => hh ⟨k1, k2, k3, w⟩
      omega⟩⟩
