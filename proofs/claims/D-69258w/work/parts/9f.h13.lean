/-! the gate: why the twin refuses; locks -/
section
variable {s : CS} {t : TS} {K zn nr nS nT nC nR nP nL a : Nat} {rel : Int32} {S C CS' CM CT E RS RM' RT P G D L F : Nat → Nat} {RW : Nat → Nat → Nat}
def elsB (t : TS) (c : Nat) (f : Option Int32) : Bool := match f with
  | none => false
  | some x => decide (¬ t.2.2.1 24 (bN (t.2.2.1 30 c)) = x)
def rgV (t : TS) (CT RT : Nat → Nat) (nR nr c q m e : Nat) (f : Option Int32) : Int32 := if ¬ CT c < e then 1 else if t.2.2.1 31 c < Int32.ofNat m then 2 else if soB t 3 c e m = true then 3 else if elsB t c f = true then 4 else if rgtB t RT nR nr e (bN (t.2.2.1 30 c)) q m = true then 0 else 5
theorem t_hol (hK : K < 1000) (r : R4x s.1 t K zn nr nS nT nC nR nP nL a rel S C CS' CM CT E RS RM' RT P G D L F RW) (hbu : ¬ t.1 1 = 0) {k m bt pn c q : Nat} (hk : k < nR) (hq : q < nr) (hc : c < nC) (hpn : pn < nS) (e30 : t.2.2.1 30 c = Int32.ofNat pn) (hb : bt < 2147483648) (hm : m < 2147483648) {A : Type} {f : Int32 → Option A} : Option.bind (t_599 2 (Int32.ofNat k) (Int32.ofNat bt) t) (fun x6 => Option.bind (t_599 1 (Int32.ofNat k) (Int32.ofNat bt) t) (fun x7 => Option.bind ((if x7 < 0 then some (0 : Int32) else Option.bind (rdI t 36 16 (Int32.ofNat k)) (fun x8 => (if Int32.ofNat m < x8 then some 0 else (if x6 < 0 then some 1 else (if Int32.ofNat m < x6 then some 1 else some 0)))))) (fun v84 => Option.bind ((if v84 = 0 then some (0 : Int32) else Option.bind (rdI t 30 60 (Int32.ofNat c)) (fun x9 => Option.bind (rdI t 22 40 x9) (fun x10 => Option.bind (t_610 (Int32.ofNat q) t) (fun x11 => Option.bind (t_611 (Int32.ofNat k) x10 x11 (Int32.ofNat m - Int32.ofNat m / (1440 : Int32) * (1440 : Int32)) t) (fun x12 => (if x12 = 0 then some (0 : Int32) else some 1))))))) f))) = f (if holB t RT (min bt nT) (t.2.2.1 22 pn) (Int32.ofNat (bN (t.2.2.1 64 q) % 10)) m k = true then 1 else 0) := by
  have hnT : nT ≤ K := r.2.2.2.2.2.2.2.2.1.1
  have h45 := r.2.2.1.1
  have hnR := r.2.2.2.2.1.2.2.1
  have hnC := r.2.2.2.1.2.2.1
  have hnS := r.2.1.2.2.1
  have he : min bt nT ≤ nT := Nat.min_le_right _ _
  have l1 := t_lastT h45 (by omega) 2 k hb
  have l2 := t_lastT h45 (by omega) 1 k hb
  rw [show t_599 2 (Int32.ofNat k) (Int32.ofNat bt) t = _ from l1, show t_599 1 (Int32.ofNat k) (Int32.ofNat bt) t = _ from l2]; repeat (first | rw [Option.bind_some] | rw [Sum.elim_inl] | rw [Sum.elim_inr])
  rw [rdI_n (by omega) (by omega), rdI_n (by omega) (by omega), e30]; repeat (first | rw [Option.bind_some] | rw [Sum.elim_inl] | rw [Sum.elim_inr])
  rw [rdI_n (by omega) (by omega), (c_zonR r hbu hq).2.2]; repeat (first | rw [Option.bind_some] | rw [Sum.elim_inl] | rw [Sum.elim_inr])
  rw [i_modL hm (by omega), t_cov (by omega)]; repeat (first | rw [Option.bind_some] | rw [Sum.elim_inl] | rw [Sum.elim_inr])
  have n1 := t_tel1 r hk he
  have n2 := ltd_neg (k := 2) (w := k) r.2.2.1.2 he
  unfold holB soB
  generalize min bt nT = e at *
  by_cases x1 : RT k < e
  · rw [if_neg (fun z => (n1.mp z) x1)]
    by_cases x2 : Int32.ofNat m < t.2.2.1 36 k
    · rw [if_pos x2]; repeat (first | rw [Option.bind_some] | rw [Sum.elim_inl] | rw [Sum.elim_inr] | rw [if_neg (show ¬ (1 : Int32) = 0 by decide)] | rw [if_pos (show (0 : Int32) = 0 from rfl)] | rw [if_pos (show true = true from rfl)] | rw [if_neg (show ¬ false = true by decide)] | dsimp only)
      simp [x2]
    · rw [if_neg x2]
      by_cases x3 : ltd t 2 k e = -1
      · rw [if_pos (n2.mpr x3)]; repeat (first | rw [Option.bind_some] | rw [Sum.elim_inl] | rw [Sum.elim_inr] | rw [if_neg (show ¬ (1 : Int32) = 0 by decide)] | rw [if_pos (show (0 : Int32) = 0 from rfl)] | rw [if_pos (show true = true from rfl)] | rw [if_neg (show ¬ false = true by decide)] | dsimp only)
        cases hcv : covB t k (t.2.2.1 22 pn) (Int32.ofNat (bN (t.2.2.1 64 q) % 10)) (Int32.ofNat (m % 1440)) <;> simp [x1, x2, x3]
      · rw [if_neg (fun z => x3 (n2.mp z))]
        by_cases x4 : Int32.ofNat m < ltd t 2 k e
        · rw [if_pos x4]; repeat (first | rw [Option.bind_some] | rw [Sum.elim_inl] | rw [Sum.elim_inr] | rw [if_neg (show ¬ (1 : Int32) = 0 by decide)] | rw [if_pos (show (0 : Int32) = 0 from rfl)] | rw [if_pos (show true = true from rfl)] | rw [if_neg (show ¬ false = true by decide)] | dsimp only)
          cases hcv : covB t k (t.2.2.1 22 pn) (Int32.ofNat (bN (t.2.2.1 64 q) % 10)) (Int32.ofNat (m % 1440)) <;> simp [x1, x2, x4]
        · rw [if_neg x4]; repeat (first | rw [Option.bind_some] | rw [Sum.elim_inl] | rw [Sum.elim_inr] | rw [if_neg (show ¬ (1 : Int32) = 0 by decide)] | rw [if_pos (show (0 : Int32) = 0 from rfl)] | rw [if_pos (show true = true from rfl)] | rw [if_neg (show ¬ false = true by decide)] | dsimp only)
          simp [x3, x4]
  · rw [if_pos (n1.mpr x1)]; repeat (first | rw [Option.bind_some] | rw [Sum.elim_inl] | rw [Sum.elim_inr] | rw [if_neg (show ¬ (1 : Int32) = 0 by decide)] | rw [if_pos (show (0 : Int32) = 0 from rfl)] | rw [if_pos (show true = true from rfl)] | rw [if_neg (show ¬ false = true by decide)] | dsimp only)
    simp [x1]
theorem t_why (hK : K < 1000) (r : R4x s.1 t K zn nr nS nT nC nR nP nL a rel S C CS' CM CT E RS RM' RT P G D L F RW) (hbu : ¬ t.1 1 = 0) {c q m bt : Nat} (hc : c < nC) (hq : q ≤ nr) (hb : bt < 2147483648) (hm : m < 2147483648) (f : Option Int32) (v5 : Int32) (hf : (f = none ∧ v5 < 0) ∨ (f = some v5 ∧ ¬ v5 < 0)) : t_609 (Int32.ofNat c) (Int32.ofNat q) (Int32.ofNat m) (Int32.ofNat bt) v5 t = some (rgV t CT RT nR nr c q m (min bt nT) f) := by
  have hnT : nT ≤ K := r.2.2.2.2.2.2.2.2.1.1
  have h45 := r.2.2.1.1
  have hnR := r.2.2.2.2.1.2.2.1
  have h39 := r.2.2.2.2.1.2.1
  have hnC := r.2.2.2.1.2.2.1
  have hnS := r.2.1.2.2.1
  have h9 := r.1.2.2.2.1
  have hnr := r.1.2.2.2.2.1
  have he : min bt nT ≤ nT := Nat.min_le_right _ _
  obtain ⟨pn, hpn, e30⟩ := (r.2.2.2.1.2.2.2.1 c hc).2.2.2.2.1
  have hbp : bN (t.2.2.1 30 c) = pn := by rw [e30, bN_of (by omega)]
  have l0 := t_lastT h45 (by omega) 0 c hb
  have l3 := t_lastT h45 (by omega) 3 c hb
  have n0 := t_tel0 r hc he
  have n3 := ltd_neg (k := 3) (w := c) r.2.2.1.2 he
  unfold t_609 rgV
  rw [show t_599 0 (Int32.ofNat c) (Int32.ofNat bt) t = _ from l0, show t_599 3 (Int32.ofNat c) (Int32.ofNat bt) t = _ from l3]; repeat (first | rw [Option.bind_some] | rw [Sum.elim_inl] | rw [Sum.elim_inr])
  by_cases x1 : CT c < min bt nT
  · rw [if_neg (fun z => (n0.mp z) x1), if_neg (show ¬ ¬ CT c < min bt nT from fun z => z x1), rdI_n (by omega) (by omega)]; repeat (first | rw [Option.bind_some] | rw [Sum.elim_inl] | rw [Sum.elim_inr])
    by_cases x2 : t.2.2.1 31 c < Int32.ofNat m
    · rw [if_pos x2, if_pos x2]
    · rw [if_neg x2, if_neg x2]
      have e3 : (if ltd t 3 c (min bt nT) < 0 then some (Sum.inl (β := Int32) ()) else (if Int32.ofNat m < ltd t 3 c (min bt nT) then some (.inl ()) else some (.inr 3))) = some (if soB t 3 c (min bt nT) m = true then .inr 3 else .inl ()) := by
        unfold soB
        by_cases y1 : ltd t 3 c (min bt nT) = -1
        · rw [if_pos (n3.mpr y1)]; simp [y1]
        · rw [if_neg (fun z => y1 (n3.mp z))]
          by_cases y2 : Int32.ofNat m < ltd t 3 c (min bt nT)
          · rw [if_pos y2]; simp [y2]
          · rw [if_neg y2]; simp [y1, y2]
      rw [e3]; repeat (first | rw [Option.bind_some] | rw [Sum.elim_inl] | rw [Sum.elim_inr])
      cases hso : soB t 3 c (min bt nT) m with
      | true => rfl
      | false =>
        rw [if_neg (show ¬ false = true by decide), if_neg (show ¬ false = true by decide)]; repeat (first | rw [Option.bind_some] | rw [Sum.elim_inl] | rw [Sum.elim_inr])
        have e4 : (if v5 < 0 then some (Sum.inl (β := Int32) ()) else Option.bind (rdI t 30 60 (Int32.ofNat c)) (fun x4 => Option.bind (rdI t 24 40 x4) (fun x5 => (if x5 = v5 then some (.inl ()) else some (.inr 4))))) = some (if elsB t c f = true then .inr 4 else .inl ()) := by
          rw [rdI_n (by omega) (by omega), Option.bind_some, e30, rdI_n (by omega) (by omega), Option.bind_some]
          rcases hf with ⟨rfl, z⟩ | ⟨rfl, z⟩
          · rw [if_pos z]; rfl
          · rw [if_neg z]
            unfold elsB
            rw [hbp]
            by_cases y : t.2.2.1 24 pn = v5
            · rw [if_pos y]; simp [y]
            · rw [if_neg y]; simp [y]
        rw [e4]; repeat (first | rw [Option.bind_some] | rw [Sum.elim_inl] | rw [Sum.elim_inr])
        cases hfm : elsB t c f with
        | true => rfl
        | false =>
          rw [if_neg (show ¬ false = true by decide), if_neg (show ¬ false = true by decide)]; repeat (first | rw [Option.bind_some] | rw [Sum.elim_inl] | rw [Sum.elim_inr])
          unfold rgtB
          rw [hbp, h9]
          by_cases y : q = nr
          · rw [if_pos (by rw [y])]; repeat (first | rw [Option.bind_some] | rw [Sum.elim_inl] | rw [Sum.elim_inr])
            rw [wh_inr (x := (1 : Int32)) (by
              dsimp only
              rw [if_neg (show ¬ (1 : Int32) = 0 by decide)]
              split <;> rfl)]; repeat (first | rw [Option.bind_some] | rw [Sum.elim_inl] | rw [Sum.elim_inr] | rw [if_neg (show ¬ (1 : Int32) = 0 by decide)] | rw [if_pos (show (0 : Int32) = 0 from rfl)] | rw [if_pos (show true = true from rfl)] | rw [if_neg (show ¬ false = true by decide)] | dsimp only)
            simp [y]
          · rw [if_neg (fun z => y ((i_inj (by omega) (by omega)).mp z))]; repeat (first | rw [Option.bind_some] | rw [Sum.elim_inl] | rw [Sum.elim_inr])
            have lp : ∃ x, wh (S := Int32 × Int32) (X := Int32) (fun p52 => (if p52.2 < (t.1 39) then (if p52.1 = 0 then Option.bind (t_599 2 p52.2 (Int32.ofNat bt) t) (fun x6 => Option.bind (t_599 1 p52.2 (Int32.ofNat bt) t) (fun x7 => Option.bind ((if x7 < 0 then some (0 : Int32) else Option.bind (rdI t 36 16 p52.2) (fun x8 => (if Int32.ofNat m < x8 then some 0 else (if x6 < 0 then some 1 else (if Int32.ofNat m < x6 then some 1 else some 0)))))) (fun v84 => Option.bind ((if v84 = 0 then some (0 : Int32) else Option.bind (rdI t 30 60 (Int32.ofNat c)) (fun x9 => Option.bind (rdI t 22 40 x9) (fun x10 => Option.bind (t_610 (Int32.ofNat q) t) (fun x11 => Option.bind (t_611 p52.2 x10 x11 (Int32.ofNat m - Int32.ofNat m / (1440 : Int32) * (1440 : Int32)) t) (fun x12 => (if x12 = 0 then some 0 else some 1))))))) (fun v107 => some (.inl (v107, p52.2 + 1)))))) else some (.inr p52.1)) else some (.inr p52.1))) (0, 0) = some x ∧ x = (if hasB4 t RT (min bt nT) (t.2.2.1 22 pn) (Int32.ofNat (bN (t.2.2.1 64 q) % 10)) m nR = true then 1 else 0) := by
              refine wh_cnt nR (fun k p => p.2 = Int32.ofNat k ∧ p.1 = (if hasB4 t RT (min bt nT) (t.2.2.1 22 pn) (Int32.ofNat (bN (t.2.2.1 64 q) % 10)) m k = true then 1 else 0)) ?_ ?_ ⟨rfl, rfl⟩
              · rintro k ⟨p1, p2⟩ hk ⟨rfl, rfl⟩
                dsimp only
                rw [h39, if_pos ((i_lt (by omega) (by omega)).mpr hk)]
                cases hh : hasB4 t RT (min bt nT) (t.2.2.1 22 pn) (Int32.ofNat (bN (t.2.2.1 64 q) % 10)) m k with
                | true =>
                  refine Or.inl ⟨1, by rw [if_pos rfl, if_neg (show ¬ (1 : Int32) = 0 by decide)], ?_⟩
                  have : hasB4 t RT (min bt nT) (t.2.2.1 22 pn) (Int32.ofNat (bN (t.2.2.1 64 q) % 10)) m nR = true := by
                    unfold hasB4 at hh ⊢
                    obtain ⟨j, hj, e⟩ := List.any_eq_true.mp hh
                    exact any_t (by have := List.mem_range.mp hj; omega) e
                  rw [this]; rfl
                | false =>
                  refine Or.inr ⟨(if holB t RT (min bt nT) (t.2.2.1 22 pn) (Int32.ofNat (bN (t.2.2.1 64 q) % 10)) m k = true then 1 else 0, Int32.ofNat (k + 1)), ?_, rfl, ?_⟩
                  · rw [if_neg (show ¬ false = true by decide), if_pos rfl, t_hol hK r hbu hk (by omega) hc hpn e30 hb hm, i_suc]
                  · rw [hasB4_s, hh]; rfl
              · rintro ⟨p1, p2⟩ ⟨rfl, rfl⟩
                dsimp only
                exact ⟨_, by rw [h39, if_neg (by rw [i_lt (by omega) (by omega)]; omega)], rfl⟩
            obtain ⟨x, lx, rfl⟩ := lp
            rw [lx]; repeat (first | rw [Option.bind_some] | rw [Sum.elim_inl] | rw [Sum.elim_inr])
            cases hh : hasB4 t RT (min bt nT) (t.2.2.1 22 pn) (Int32.ofNat (bN (t.2.2.1 64 q) % 10)) m nR <;> simp [y]
  · rw [if_pos (n0.mpr x1), if_pos x1]
/-- the next bit that is set -/
theorem nxt_none {xs : List Value} : ∀ n k, nxt xs n k = none → ∀ j, k ≤ j → j < k + n → bit xs j = false := by
  intro n
  induction n with
  | zero => intro k _ j h1 h2; omega
  | succ n ih =>
    intro k h j h1 h2
    unfold nxt at h
    by_cases y : bit xs k = true
    · rw [if_pos y] at h; cases h
    · rw [if_neg y] at h
      by_cases z : j = k
      · rw [z]; simpa using y
      · exact ih (k + 1) h j (by omega) (by omega)
theorem nxt_some {xs : List Value} : ∀ n k i, nxt xs n k = some i → k ≤ i ∧ i < k + n ∧ bit xs i = true ∧ ∀ j, k ≤ j → j < i → bit xs j = false := by
  intro n
  induction n with
  | zero => intro k i h; cases h
  | succ n ih =>
    intro k i h
    unfold nxt at h
    by_cases y : bit xs k = true
    · rw [if_pos y] at h
      cases h
      exact ⟨Nat.le_refl _, by omega, y, fun j h1 h2 => by omega⟩
    · rw [if_neg y] at h
      obtain ⟨h1, h2, h3, h4⟩ := ih (k + 1) i h
      refine ⟨by omega, by omega, h3, fun j h5 h6 => ?_⟩
      by_cases z : j = k
      · rw [z]; simpa using y
      · exact h4 j (by omega) h6
theorem bit_len {xs : List Value} {k : Nat} (h : xs.length ≤ k) : bit xs k = false := by
  unfold bit
  rw [List.getElem?_eq_none h]; rfl
theorem bsNext_r {s : CS} {a i : Nat} {xs : List Value} (h : s.1 a = some (true, false, 1003, xs)) (hi : i < 2147483648) : (bsNext s a (Int32.ofNat i) = some (-1) ∧ ∀ j, i ≤ j → bit xs j = false) ∨ ∃ j, bsNext s a (Int32.ofNat i) = some (Int32.ofNat j) ∧ i ≤ j ∧ bit xs j = true ∧ ∀ k, i ≤ k → k < j → bit xs k = false := by
  unfold bsNext bsC cc
  rw [h]
  simp only [if_true, Option.bind_some]
  rw [if_pos (i_nlt0 hi), i_clamp hi]
  cases hn : nxt xs (xs.length - i) i with
  | none =>
    refine Or.inl ⟨rfl, fun j hj => ?_⟩
    rcases Nat.lt_or_ge j xs.length with z | z
    · exact nxt_none _ _ hn j hj (by omega)
    · exact bit_len z
  | some j =>
    obtain ⟨h1, h2, h3, h4⟩ := nxt_some _ _ _ hn
    exact Or.inr ⟨j, rfl, h1, h3, h4⟩
/-- an open portal that is an airlock with this one -/
def lkd (t : TS) (nL p : Nat) : Prop := ∃ q, q < 1400 ∧ lok t nL p q ∧ t.2.2.1 13 q = 1
theorem lok_lt (r : R4x s.1 t K zn nr nS nT nC nR nP nL a rel S C CS' CM CT E RS RM' RT P G D L F RW) {p q : Nat} (hq : q < 1400) (h : lok t nL p q) : q < nP := by
  obtain ⟨_, _, _, _, _, _, v3, _⟩ := r
  obtain ⟨_, _, hn, _, _, _, _, _, hp⟩ := v3
  obtain ⟨k, hk, h⟩ := h
  obtain ⟨⟨x, hx, ex⟩, ⟨y, hy, ey⟩, _⟩ := hp k hk
  rcases h with ⟨h1, h2⟩ | ⟨h1, h2⟩
  · rw [ey] at h2; have := (i_inj (by omega) (by omega)).mp h2; omega
  · rw [ex] at h1; have := (i_inj (by omega) (by omega)).mp h1; omega
theorem c_lkd (r : R4x s.1 t K zn nr nS nT nC nR nP nL a rel S C CS' CM CT E RS RM' RT P G D L F RW) {p : Nat} (hp : p < nP) : Tr (c_1044 108 (P p) s) (fun x => (x = 1 ∧ lkd t nL p) ∨ (x = 0 ∧ ¬ lkd t nL p)) := by
  have r' := r
  obtain ⟨⟨g, _⟩, _, _, _, _, _, ⟨⟨mc, q1⟩, q10, qn, q4, _⟩, _⟩ := r'
  obtain ⟨h1, _, h3⟩ := q4 p hp
  obtain ⟨_, _, _, _, _, _, _, _, _, xs, x1, x2⟩ := h3
  have pos : ∀ q, bit xs q = true → q < 1400 ∧ lok t nL p q := fun q h => (x2 q).mp h
  unfold c_1044
  rw [xN_o (b := L p) h1 rfl rfl]; repeat (first | rw [Option.bind_some] | rw [Sum.elim_inl] | rw [Sum.elim_inr])
  rw [if_pos (isK_t x1 rfl)]
  have b0 := bsNext_r (i := 0) x1 (by omega)
  have hinv : ∀ (i : Nat) (y : Int32), (bsNext s (L p) (Int32.ofNat i) = some y) → i < 2147483648 → (∀ q, q < i → bit xs q = true → ¬ t.2.2.1 13 q = 1) → (y = -1 ∧ ¬ lkd t nL p) ∨ ∃ j, i ≤ j ∧ y = Int32.ofNat j ∧ bit xs j = true ∧ ∀ q, q < j → bit xs q = true → ¬ t.2.2.1 13 q = 1 := by
    intro i y hy hi hq
    rcases bsNext_r (i := i) x1 hi with ⟨z1, z2⟩ | ⟨j, z1, z2, z3, z4⟩
    · rw [z1] at hy
      cases hy
      refine Or.inl ⟨rfl, fun ⟨q, w1, w2, w3⟩ => ?_⟩
      have hb : bit xs q = true := (x2 q).mpr ⟨w1, w2⟩
      rcases Nat.lt_or_ge q i with u | u
      · exact hq q u hb w3
      · rw [z2 q u] at hb; cases hb
    · rw [z1] at hy
      cases hy
      refine Or.inr ⟨j, z2, rfl, z3, fun q w1 w2 => ?_⟩
      rcases Nat.lt_or_ge q i with u | u
      · exact hq q u w2
      · rw [z4 q u w1] at w2; cases w2
  have b0' : ∃ y, bsNext s (L p) 0 = some y := by
    rcases b0 with ⟨z, _⟩ | ⟨j, z, _⟩
    · exact ⟨_, z⟩
    · exact ⟨_, z⟩
  obtain ⟨y0, hy0⟩ := b0'
  rw [hy0]; repeat (first | rw [Option.bind_some] | rw [Sum.elim_inl] | rw [Sum.elim_inr])
  have h0 := hinv 0 y0 hy0 (by omega) (fun q h => absurd h (by omega))
  refine Tr.bd (P := fun x => (x = .inr 1 ∧ lkd t nL p) ∨ (x = .inl () ∧ ¬ lkd t nL p)) (Tr.bd (P := fun x => (x = .inl () ∧ lkd t nL p) ∨ (x = .inr (.inl ()) ∧ ¬ lkd t nL p)) (wh_cnt 1400 (fun k x => (x = -1 ∧ ¬ lkd t nL p) ∨ ∃ j, k ≤ j ∧ x = Int32.ofNat j ∧ bit xs j = true ∧ ∀ q, q < j → bit xs q = true → ¬ t.2.2.1 13 q = 1) ?_ ?_ ?_) ?_) ?_
  · rintro k x hk (⟨rfl, h⟩ | ⟨j, h2, rfl, h4, h5⟩)
    · exact Or.inl ⟨_, by rw [if_pos (show (-1 : Int32) < 0 by decide)], Or.inr ⟨rfl, h⟩⟩
    · obtain ⟨hj1, hj2⟩ := pos j h4
      have hj3 := lok_lt r hj1 hj2
      have hc := (q4 j hj3).1
      have h13 := (q4 j hj3).2.2.2.2.2.2.2.1
      rw [if_neg (i_nlt0 (by omega)), xN_o (b := 110) g rfl rfl, Option.bind_some, if_pos (isK_t q1 rfl), alGet_r q1 hj3 (by omega), Option.bind_some, toN_o hc rfl, Option.bind_some, xI_o (x := t.2.2.1 13 j) hc rfl rfl, Option.bind_some]
      rcases h13 with z | z
      · rw [if_pos z, Option.bind_some, if_pos (isK_t x1 rfl), i_suc]
        have hb : ∃ y, bsNext s (L p) (Int32.ofNat (j + 1)) = some y := by
          rcases bsNext_r (i := j + 1) x1 (by omega) with ⟨w, _⟩ | ⟨_, w, _⟩
          · exact ⟨_, w⟩
          · exact ⟨_, w⟩
        obtain ⟨y, hy⟩ := hb
        rw [hy]
        refine Or.inr ⟨y, rfl, ?_⟩
        rcases hinv (j + 1) y hy (by omega) (fun q w1 w2 => by
          by_cases u : q = j
          · rw [u, z]; decide
          · exact h5 q (by omega) w2) with w | ⟨j', w1, w2⟩
        · exact Or.inl w
        · exact Or.inr ⟨j', by omega, w2⟩
      · rw [if_neg (by rw [z]; decide)]
        exact Or.inl ⟨_, rfl, Or.inl ⟨rfl, j, hj1, hj2, z⟩⟩
  · rintro x (⟨rfl, h⟩ | ⟨j, h2, rfl, h4, h5⟩)
    · exact ⟨_, by rw [if_pos (show (-1 : Int32) < 0 by decide)], Or.inr ⟨rfl, h⟩⟩
    · have := (pos j h4).1; omega
  · rcases h0 with h | ⟨j, h⟩
    · exact Or.inl h
    · exact Or.inr ⟨j, h⟩
  · rintro x (⟨rfl, h⟩ | ⟨rfl, h⟩)
    · exact ⟨_, rfl, Or.inl ⟨rfl, h⟩⟩
    · exact ⟨_, rfl, Or.inr ⟨rfl, h⟩⟩
  · rintro x (⟨rfl, h⟩ | ⟨rfl, h⟩)
    · exact ⟨_, rfl, Or.inl ⟨rfl, h⟩⟩
    · exact ⟨_, rfl, Or.inr ⟨rfl, h⟩⟩
end
