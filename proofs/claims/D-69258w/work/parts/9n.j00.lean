/-! the library's objects as single cells of an abstract memory -/
/-- sums of credits -/
def sumr (f : Nat → Nat) : Nat → Nat
  | 0 => 0
  | n + 1 => sumr f n + f n
theorem sumr_cg {f g : Nat → Nat} : ∀ {n : Nat}, (∀ q, q < n → f q = g q) → sumr f n = sumr g n := by
  intro n
  induction n with
  | zero => intro _; rfl
  | succ n ih =>
    intro h
    unfold sumr
    rw [ih (fun q hq => h q (by omega)), h n (by omega)]
theorem sumr_upd {f g : Nat → Nat} {a k : Nat} : ∀ {n : Nat}, a < n → g a = k → (∀ q, q < n → q ≠ a → g q = f q) → sumr g n + f a = sumr f n + k := by
  intro n
  induction n with
  | zero => intro h; omega
  | succ n ih =>
    intro ha hk h
    unfold sumr
    by_cases e : a = n
    · subst e
      rw [sumr_cg (g := f) (fun q hq => h q (by omega) (by omega)), hk]
      omega
    · have := ih (by omega) hk (fun q hq hn => h q (by omega) hn)
      rw [h n (by omega) (by omega)]
      omega
theorem sumr_ext {f : Nat → Nat} {n : Nat} : ∀ {m : Nat}, n ≤ m → (∀ q, n ≤ q → q < m → f q = 0) → sumr f m = sumr f n := by
  intro m
  induction m with
  | zero => intro h _; rw [Nat.le_zero.mp h]
  | succ m ih =>
    intro h hz
    by_cases e : n = m + 1
    · rw [e]
    · show sumr f m + f m = _
      rw [ih (by omega) (fun q h1 h2 => hz q h1 (by omega)), hz m (by omega) (by omega)]
      rfl
/-- kinds stay -/
def lKs (M M' : lMem) : Prop := ∀ (q : Nat) (w b : Bool) (ci : Nat) (fs : List Value), M.1 q = some (w, b, ci, fs) → ∃ w' fs', M'.1 q = some (w', b, ci, fs')
theorem lKs.rf (M : lMem) : lKs M M := fun q w b ci fs h => ⟨w, fs, h⟩
theorem lKs.tr {A B C : lMem} (h : lKs A B) (k : lKs B C) : lKs A C := fun q w b ci fs e => by
  obtain ⟨w', fs', e⟩ := h q w b ci fs e
  exact k q w' b ci fs' e
theorem lKs.upd {M0 M : lMem} {a n s : Nat} {w w' b : Bool} {ci : Nat} {fs fs' : List Value} (h : lKs M0 M) (e : M.1 a = some (w, b, ci, fs)) : lKs M0 (lUpd M.1 a (w', b, ci, fs'), n, s) := by
  intro q w1 b1 c1 f1 e1
  obtain ⟨w2, f2, e2⟩ := h q w1 b1 c1 f1 e1
  by_cases hq : q = a
  · subst hq
    rw [e2] at e
    cases e
    exact ⟨w', fs', lUpd_eq ..⟩
  · exact ⟨w2, f2, (lUpd_ne _ _ hq).trans e2⟩
theorem lKs.new {M0 M : lMem} {a n s : Nat} {c : lCell} (h : lKs M0 M) (e : M.1 a = none) : lKs M0 (lUpd M.1 a c, n, s) := by
  intro q w1 b1 c1 f1 e1
  obtain ⟨w2, f2, e2⟩ := h q w1 b1 c1 f1 e1
  refine ⟨w2, f2, (lUpd_ne _ _ (fun hq => ?_)).trans e2⟩
  rw [hq, e] at e2
  cases e2
theorem lInA_ks {M M' : lMem} (h : lKs M M') {tab : List (Nat × Nat)} {t : Nat} {v : Value} (e : lInA M.1 tab t v = true) : lInA M'.1 tab t v = true := by
  unfold lInA at e ⊢
  split at e
  · rename_i r
    split at e
    · rename_i w ci fs hc
      obtain ⟨w', fs', hc'⟩ := h _ _ _ _ _ hc
      simp only [hc']
      exact e
    · cases e
  · exact e
  · cases e
/-- what the library's objects of a kind (from 1000 on) hold: contents, address, cells, credit -/
abbrev lJ : Type := Nat → List Value → Nat → lHeap → Nat → Prop
/-- values that may lie in arrays of objects -/
def okVs (M : lMem) (vs : List Value) : Prop := ∀ b, Value.ref b ∈ vs → ∃ w ci fs, M.1 b = some (w, false, ci, fs)
theorem okVs.ks {M M' : lMem} {vs : List Value} (h : okVs M vs) (k : lKs M M') : okVs M' vs := fun b hb => by
  obtain ⟨w, ci, fs, e⟩ := h b hb
  obtain ⟨w', fs', e'⟩ := k b w false ci fs e
  exact ⟨w', ci, fs', e'⟩
def lHp (own : Nat → Nat) (M : lMem) (a : Nat) : lHeap := fun q => if own q = a then M.1 q else none
def lCel (J : lJ) (G : lHeap) (own cr : Nat → Nat) (M : lMem) (a : Nat) (c : lCell) : Prop :=
  own a = a ∧ a < M.2.1 ∧ ((c.1 = true ∨ 1000 < c.2.2.1) → G a = none) ∧
  (c.2.2.1 < 1000 → ∃ w', M.1 a = some (w', c.2.1, c.2.2.1, c.2.2.2) ∧ (c.1 = true → w' = true)) ∧
  (1000 ≤ c.2.2.1 → c.2.1 = false ∧ J c.2.2.1 c.2.2.2 a (lHp own M a) (cr a)) ∧
  (c.2.2.1 = 1013 ∨ c.2.2.1 = 1004 ∨ c.2.2.1 = 1037 → okVs M c.2.2.2)
/-- kinds that may lie in arrays of objects -/
def rk6 (c : lCell) : Prop := c.2.2.1 < 1000 ∧ (c.2.1 = false → raTab.contains (6, c.2.2.1) = true)
def lAbo (J : lJ) (G : lHeap) (own cr : Nat → Nat) (M A : lMem) : Prop :=
  M.2.1 ≤ A.2.1 ∧ M.2.2 + sumr cr M.2.1 ≤ A.2.2 ∧ (∀ q, M.2.1 ≤ q → M.1 q = none) ∧ (∀ q c, M.1 q = some c → rk6 c) ∧ (∀ q c, G q = some c → M.1 q = some c ∧ own q = q) ∧ ∀ a c, A.1 a = some c → lCel J G own cr M a c
def lAb (J : lJ) (G : lHeap) (M A : lMem) : Prop := ∃ own cr, lAbo J G own cr M A
/-- of a relation of kinds: the object itself is there -/
def lJok (J : lJ) : Prop := ∀ ci fs a h k, J ci fs a h k → ∃ w fs', h a = some (w, false, ci % 1000, fs')
/-- new addresses belong to a -/
def ownN (own : Nat → Nat) (n a : Nat) : Nat → Nat := fun q => if q < n then own q else a
theorem ownN_lt {own : Nat → Nat} {n a q : Nat} (h : q < n) : ownN own n a q = own q := if_pos h
theorem ownN_ge {own : Nat → Nat} {n a q : Nat} (h : n ≤ q) : ownN own n a q = a := if_neg (by omega)
def crdN (cr : Nat → Nat) (n a k : Nat) : Nat → Nat := fun q => if q = a then k else if q < n then cr q else 0
theorem crdN_a {cr : Nat → Nat} {n a k : Nat} : crdN cr n a k a = k := if_pos rfl
theorem crdN_lt {cr : Nat → Nat} {n a k q : Nat} (h : q ≠ a) (h2 : q < n) : crdN cr n a k q = cr q := (if_neg h).trans (if_pos h2)
theorem crdN_ge {cr : Nat → Nat} {n a k q : Nat} (h : q ≠ a) (h2 : n ≤ q) : crdN cr n a k q = 0 := (if_neg h).trans (if_neg (by omega))
section
variable {J : lJ} {G : lHeap} {own cr : Nat → Nat} {M A M' : lMem} {a n' s' k : Nat} {c0 c : lCell}
theorem lAbo.lt (h : lAbo J G own cr M A) {q : Nat} {c : lCell} (e : M.1 q = some c) : q < M.2.1 := by
  by_cases z : q < M.2.1
  · exact z
  · rw [h.2.2.1 q (by omega)] at e
    cases e
/-- one cell and what it owns is changed -/
theorem lAbo.chg (h : lAbo J G own cr M A) (h0 : A.1 a = some c0) (hw : c0.1 = true ∨ 1000 < c0.2.2.1) (hz : M.2.1 ≤ M'.2.1) (hn : ∀ q, M'.2.1 ≤ q → M'.1 q = none) (h7 : ∀ q c, M'.1 q = some c → rk6 c) (hs : lKs M M') (ho : ∀ q, q < M.2.1 → own q ≠ a → M'.1 q = M.1 q)
    (hc : lCel J G (ownN own M.2.1 a) (crdN cr M.2.1 a k) M' a c) (hz1 : M'.2.1 ≤ n') (hz2 : M'.2.2 + k + A.2.2 ≤ s' + M.2.2 + cr a) : lAbo J G (ownN own M.2.1 a) (crdN cr M.2.1 a k) M' (lUpd A.1 a c, n', s') := by
  have h' := h
  obtain ⟨k1, k2, k3, k4, k5, k6⟩ := h
  have la : a < M.2.1 := (k6 a c0 h0).2.1
  have e1 : sumr (crdN cr M.2.1 a k) M'.2.1 = sumr (crdN cr M.2.1 a k) M.2.1 := sumr_ext hz (fun q h1 h2 => crdN_ge (by omega) h1)
  have e2 := sumr_upd (f := cr) (g := crdN cr M.2.1 a k) (a := a) (k := k) la crdN_a (fun q h1 h2 => crdN_lt h2 h1)
  refine ⟨hz1, by show M'.2.2 + _ ≤ s'; omega, hn, h7, fun q c e => ?_, fun b c e => ?_⟩
  · obtain ⟨e1, e2⟩ := k5 q c e
    have e3 := h'.lt e1
    have e4 : own q ≠ a := fun z => by
      have e5 := (k6 a c0 h0).2.2.1 hw
      rw [← z, e2, e] at e5
      cases e5
    exact ⟨(ho q e3 e4).trans e1, (ownN_lt e3).trans e2⟩
  · by_cases z : b = a
    · subst z
      have e : lUpd A.1 b _ b = some c := e
      rw [lUpd_eq] at e
      cases e
      exact hc
    · have e : lUpd A.1 a _ b = some c := e
      rw [lUpd_ne _ _ z] at e
      obtain ⟨q1, q2, q3, q4, q5, q6⟩ := k6 b c e
      have e4 : own b ≠ a := by rw [q1]; exact z
      refine ⟨(ownN_lt q2).trans q1, Nat.lt_of_lt_of_le q2 hz, q3, fun hc => ?_, fun hc => ?_, fun hc => (q6 hc).ks hs⟩
      · rw [ho b q2 e4]
        exact q4 hc
      · obtain ⟨r1, r2⟩ := q5 hc
        refine ⟨r1, ?_⟩
        have e5 : lHp (ownN own M.2.1 a) M' b = lHp own M b := by
          funext q
          unfold lHp
          by_cases e6 : q < M.2.1
          · by_cases e7 : own q = b
            · rw [if_pos ((ownN_lt e6).trans e7), if_pos e7]
              exact ho q e6 (by rw [e7]; exact z)
            · rw [if_neg (fun w => e7 ((ownN_lt e6).symm.trans w)), if_neg e7]
          · rw [if_neg (fun w => z (w.symm.trans (ownN_ge (by omega)))), k3 q (by omega)]
            split <;> rfl
        rw [e5, crdN_lt z q2]
        exact r2
/-- a new cell with all that it owns -/
theorem lAbo.mk (h : lAbo J G own cr M A) (hs : lKs M M') (hz : M.2.1 ≤ M'.2.1) (hn : ∀ q, M'.2.1 ≤ q → M'.1 q = none) (h7 : ∀ q c, M'.1 q = some c → rk6 c) (ho : ∀ q, q < M.2.1 → M'.1 q = M.1 q) (ha : M.2.1 ≤ a)
    (hc : lCel J G (ownN own M.2.1 a) (crdN cr M.2.1 a k) M' a c) (hz1 : M'.2.1 ≤ n') (hz2 : M'.2.2 + k + A.2.2 ≤ s' + M.2.2) : lAbo J G (ownN own M.2.1 a) (crdN cr M.2.1 a k) M' (lUpd A.1 a c, n', s') := by
  have h' := h
  obtain ⟨k1, k2, k3, k4, k5, k6⟩ := h
  have la : a < M'.2.1 := hc.2.1
  have e0 : crdN cr M.2.1 M'.2.1 0 a = 0 := crdN_ge (by omega) ha
  have e1 := sumr_upd (f := crdN cr M.2.1 M'.2.1 0) (g := crdN cr M.2.1 a k) (a := a) (k := k) la crdN_a (fun q h1 h2 => by
    by_cases z : q < M.2.1
    · rw [crdN_lt h2 z, crdN_lt (by omega) z]
    · rw [crdN_ge h2 (by omega), crdN_ge (by omega) (by omega)])
  have e2 : sumr (crdN cr M.2.1 M'.2.1 0) M'.2.1 = sumr (crdN cr M.2.1 M'.2.1 0) M.2.1 := sumr_ext hz (fun q h1 h2 => crdN_ge (by omega) h1)
  have e3 : sumr (crdN cr M.2.1 M'.2.1 0) M.2.1 = sumr cr M.2.1 := sumr_cg (fun q hq => crdN_lt (by omega) hq)
  refine ⟨hz1, by show M'.2.2 + _ ≤ s'; omega, hn, h7, fun q c e => ?_, fun b c e => ?_⟩
  · obtain ⟨e1, e2⟩ := k5 q c e
    have e3 := h'.lt e1
    exact ⟨(ho q e3).trans e1, (ownN_lt e3).trans e2⟩
  · by_cases z : b = a
    · subst z
      have e : lUpd A.1 b _ b = some c := e
      rw [lUpd_eq] at e
      cases e
      exact hc
    · have e : lUpd A.1 a _ b = some c := e
      rw [lUpd_ne _ _ z] at e
      obtain ⟨q1, q2, q3, q4, q5, q6⟩ := k6 b c e
      refine ⟨(ownN_lt q2).trans q1, Nat.lt_of_lt_of_le q2 hz, q3, fun hc => ?_, fun hc => ?_, fun hc => (q6 hc).ks hs⟩
      · rw [ho b q2]
        exact q4 hc
      · obtain ⟨r1, r2⟩ := q5 hc
        refine ⟨r1, ?_⟩
        have e5 : lHp (ownN own M.2.1 a) M' b = lHp own M b := by
          funext q
          unfold lHp
          by_cases e6 : q < M.2.1
          · rw [ownN_lt e6, ho q e6]
          · rw [if_neg (fun w => z (w.symm.trans (ownN_ge (by omega)))), k3 q (by omega)]
            split <;> rfl
        rw [e5, crdN_lt z q2]
        exact r2
/-- a plain cell that is in the abstract memory -/
theorem lAbo.pl (h : lAbo J G own cr M A) {w b : Bool} {ci : Nat} {fs : List Value} (e : A.1 a = some (w, b, ci, fs)) (hc : ci < 1000) : ∃ w', M.1 a = some (w', b, ci, fs) ∧ (w = true → w' = true) := (h.2.2.2.2.2 a _ e).2.2.2.1 hc
/-- the relation does as the calculus wants -/
theorem lAb_ok (hJ : lJok J) : lRok (lAb J G) := by
  refine ⟨?_, ?_, ?_, ?_⟩
  · rintro M A a w b ci fs ⟨own, cr, h⟩ e hc
    exact h.pl e hc
  · rintro M A a w ci fs ⟨own, cr, h⟩ e
    by_cases hc : ci < 1000
    · obtain ⟨w', e2, _⟩ := h.pl e hc
      exact ⟨w', fs, by rw [Nat.mod_eq_of_lt hc]; exact e2⟩
    · obtain ⟨q1, q2, q3, q4, q5, _⟩ := h.2.2.2.2.2 a _ e
      obtain ⟨r1, r2⟩ := q5 (by dsimp only; omega)
      obtain ⟨w', fs', e2⟩ := hJ _ _ _ _ _ r2
      refine ⟨w', fs', ?_⟩
      unfold lHp at e2
      rw [if_pos q1] at e2
      exact e2
  · rintro M A a b ci fs fs' ⟨own, cr, h⟩ e hc hl
    obtain ⟨q1, q2, q3, q4, q5, _⟩ := h.2.2.2.2.2 a _ e
    obtain ⟨w', e2, e3⟩ := h.pl e hc
    have e3 := e3 rfl
    subst e3
    have r6 : rk6 (true, b, ci, fs') := (h.2.2.2.1 a (true, b, ci, fs) e2 : rk6 (true, b, ci, fs))
    refine ⟨_, _, h.chg (k := cr a) (M' := (lUpd M.1 a (true, b, ci, fs'), M.2.1, M.2.2)) e (Or.inl rfl) (Nat.le_refl _) (fun q hq => ?_) (fun q c hq => ?_) ((lKs.rf M).upd e2) (fun q hq hn => ?_) ⟨?_, q2, fun _ => q3 (Or.inl rfl), fun _ => ⟨true, lUpd_eq .., fun h => h⟩, fun z => ?_, fun z => ?_⟩ h.1 ?_⟩
    · have z : q ≠ a := by
        have hq : M.2.1 ≤ q := hq
        omega
      exact (lUpd_ne _ _ z).trans (h.2.2.1 q hq)
    · by_cases z : q = a
      · subst z
        have hq : lUpd M.1 q _ q = some c := hq
        rw [lUpd_eq] at hq
        cases hq
        exact r6
      · have hq : lUpd M.1 a _ q = some c := hq
        rw [lUpd_ne _ _ z] at hq
        exact h.2.2.2.1 q c hq
    · exact lUpd_ne _ _ (fun z => hn (by rw [z]; exact q1))
    · exact (ownN_lt q2).trans q1
    · dsimp only at z
      omega
    · dsimp only at z
      omega
    · show M.2.2 + cr a + A.2.2 ≤ A.2.2 + M.2.2 + cr a
      omega
  · rintro M A b ci fs ⟨own, cr, h⟩ hc h6
    refine ⟨?_, _, _, h.mk (k := 0) (a := M.2.1) (M' := (lUpd M.1 M.2.1 (true, b, ci, fs), M.2.1 + 1, M.2.2 + fs.length)) ((lKs.rf M).new (h.2.2.1 _ (Nat.le_refl _))) (Nat.le_succ _) (fun q hq => ?_) (fun q c hq => ?_) (fun q hq => lUpd_ne _ _ (by omega)) (Nat.le_refl _) ⟨?_, Nat.lt_succ_self _, fun _ => ?_, fun _ => ⟨true, lUpd_eq .., fun h => h⟩, fun z => ?_, fun z => ?_⟩ (Nat.succ_le_succ h.1) ?_⟩
    · cases e : A.1 M.2.1 with
      | none => rfl
      | some c => exact absurd (h.2.2.2.2.2 _ c e).2.1 (Nat.lt_irrefl _)
    · have hq : M.2.1 + 1 ≤ q := hq
      exact (lUpd_ne _ _ (by omega)).trans (h.2.2.1 q (by omega))
    · by_cases z : q = M.2.1
      · subst z
        have hq : lUpd M.1 M.2.1 _ M.2.1 = some c := hq
        rw [lUpd_eq] at hq
        cases hq
        exact ⟨hc, h6⟩
      · have hq : lUpd M.1 M.2.1 _ q = some c := hq
        rw [lUpd_ne _ _ z] at hq
        exact h.2.2.2.1 q c hq
    · exact ownN_ge (Nat.le_refl _)
    · cases e : G M.2.1 with
      | none => rfl
      | some c =>
        have := h.lt (h.2.2.2.2.1 _ c e).1
        exact absurd this (Nat.lt_irrefl _)
    · dsimp only at z
      omega
    · dsimp only at z
      omega
    · show M.2.2 + fs.length + 0 + A.2.2 ≤ A.2.2 + fs.length + M.2.2
      omega
end
