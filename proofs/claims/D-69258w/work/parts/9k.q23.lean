/-! permits: a rule is judged, the component -/
section
variable {t : TS} {nf : Nat} {hq : lHeap}
/-- kinds of the cells that stay as they were made: clauses' parts and texts -/
def kKp (k : Nat) : Bool := k == 71 || k == 72 || k == 73 || k == 74 || k == 1000
def noK (h : lHeap) : lHeap := fun p => Option.bind (h p) (fun c => if kKp c.2.2.1 = true then some c else none)
theorem kKp_ne {k j : Nat} (h : kKp k = true) (hj : kKp j = false) : k ≠ j := fun e => by rw [e, hj] at h; exact absurd h (by decide)
theorem noK_of {h : lHeap} {p : Nat} {c : lCell} (e : noK h p = some c) : h p = some c ∧ kKp c.2.2.1 = true := by
  unfold noK at e
  cases w : h p with
  | none => rw [w] at e; cases e
  | some d =>
    rw [w, Option.bind_some] at e
    by_cases z : kKp d.2.2.1 = true
    · rw [if_pos z] at e
      obtain rfl := Option.some.inj e
      exact ⟨rfl, z⟩
    · rw [if_neg z] at e; cases e
theorem noK_in {h : lHeap} {p : Nat} {c : lCell} (e : h p = some c) (z : kKp c.2.2.1 = true) : noK h p = some c := by
  unfold noK
  rw [e, Option.bind_some, if_pos z]
theorem noK_up {h h' : lHeap} (e : ∀ p c, h p = some c → h' p = some c) : ∀ p c, noK h p = some c → noK h' p = some c := fun p c w => by
  obtain ⟨w1, w2⟩ := noK_of w
  exact noK_in (e _ _ w1) w2
theorem noK_cup {s : CS} {a : Nat} {c c' : lCell} (h : s.1 a = some c) (z : kKp c.2.2.1 = false) (z' : kKp c'.2.2.1 = false) : noK (cup s a c').1 = noK s.1 := by
  funext p
  unfold noK
  rw [cup_a]
  by_cases w : p = a
  · rw [if_pos w, w, h, Option.bind_some, Option.bind_some, if_neg (by rw [z']; decide), if_neg (by rw [z]; decide)]
  · rw [if_neg w]
theorem cup70 {s : CS} {a : Nat} {w b : Bool} {fs : List Value} {c' : lCell} (h : s.1 a = some (w, b, 70, fs)) {p : Nat} {c : lCell} (z : c.2.2.1 ≠ 70) (e : s.1 p = some c) : (cup s a c').1 p = some c := by
  rw [cup_a, if_neg (fun q => ?_)]
  · exact e
  · rw [q, h] at e
    rw [← Option.some.inj e] at z
    exact z rfl
/-- what asking leans upon -/
def EnvA (t : TS) (nf : Nat) (S : CS) : Prop := wfS S ∧ SgK S ∧ R3f S.1 t nf
theorem EnvA_v {s S : CS} {n : Nat} (E : EnvA t nf s) (v : VOk s S n) : EnvA t nf S := ⟨v.1, SgK_up (fun _ _ h => VOk_up v E.1 h) E.2.1, R3f_up E.2.2 (fun _ h => VOk_up v E.1 h)⟩
theorem EnvA_c {s : CS} {a : Nat} {w b : Bool} {fs : List Value} {c' : lCell} (E : EnvA t nf s) (h : s.1 a = some (w, b, 70, fs)) : EnvA t nf (cup s a c') := by
  obtain ⟨hw, K, R⟩ := E
  have la := wf_lt hw h
  refine ⟨wf_cup hw la, ?_, ?_⟩
  · obtain ⟨⟨w1, k1⟩, ⟨w2, k2⟩, ⟨w3, k3⟩, ⟨w4, k4⟩, ⟨w5, k5⟩⟩ := K
    exact ⟨⟨w1, cup70 h (by show 1000 ≠ 70; decide) k1⟩, ⟨w2, cup70 h (by show 1000 ≠ 70; decide) k2⟩, ⟨w3, cup70 h (by show 1000 ≠ 70; decide) k3⟩, ⟨w4, cup70 h (by show 1000 ≠ 70; decide) k4⟩, ⟨w5, cup70 h (by show 1000 ≠ 70; decide) k5⟩⟩
  · refine R3f_up R (fun c hc => ?_)
    obtain ⟨mc, es, h1, _⟩ := id R
    refine cup70 h ?_ hc
    rw [h1] at hc
    rw [← Option.some.inj hc]
    show 1042 ≠ 70
    decide
/-- all but the rule's cell a stay -/
def JX (a : Nat) (s S : CS) (n : Nat) : Prop := wfS S ∧ s.2.1 ≤ S.2.1 ∧ (∀ p, p < s.2.1 → p ≠ a → S.1 p = s.1 p) ∧ S.2.2.1 ≤ s.2.2.1 + 3 * n ∧ S.2.2.2 ≤ s.2.2.2 + 9 * n
theorem JX_v {a : Nat} {s S V : CS} {n m k : Nat} (h1 : JX a s S n) (h2 : VOk S V m) (hk : n + m ≤ k) : JX a s V k := by
  obtain ⟨a1, a2, a3, a4, a5⟩ := h1
  obtain ⟨b1, b2, b3, b4, b5⟩ := h2
  exact ⟨b1, by omega, fun p hp hq => (b3 p (by omega)).trans (a3 p hp hq), by omega, by omega⟩
theorem JX_c {a : Nat} {s S : CS} {n : Nat} {c : lCell} (h : JX a s S n) (ha : a < S.2.1) : JX a s (cup S a c) n := by
  obtain ⟨a1, a2, a3, a4, a5⟩ := h
  exact ⟨wf_cup a1 ha, a2, fun p hp hq => (cup_ne hq).trans (a3 p hp hq), a4, a5⟩
theorem JX_0 {a : Nat} {s : CS} (hw : wfS s) : JX a s s 0 := ⟨hw, Nat.le_refl _, fun _ _ _ => rfl, by omega, by omega⟩
/-- a side that is kept -/
def FrK (b0 : Nat) (S : CS) (v : Value) (p : Int64 × Int64) : Prop := (v = .null ∧ p = (0, 0)) ∨ ∃ f, v = .ref f ∧ FrC S f p.1 p.2 ∧ b0 ≤ f
theorem FrK_up {b0 : Nat} {s s' : CS} (e : ∀ p c, c.2.2.1 ≠ 70 → s.1 p = some c → s'.1 p = some c) {v : Value} {p : Int64 × Int64} (r : FrK b0 s v p) : FrK b0 s' v p := by
  rcases r with r | ⟨f, r1, r2, r3⟩
  · exact Or.inl r
  · exact Or.inr ⟨f, r1, e _ _ (by show 76 ≠ 70; decide) r2, r3⟩
def kpL (r1 : StR) : Int64 × Int64 := Sum.elim (fun _ => (0, 0)) hdS r1
def kpQ (r1 r2 : StR) : Int64 × Int64 := Sum.elim (fun _ => (0, 0)) (fun _ => Sum.elim (fun _ => (0, 0)) hdS r2) r1
abbrev ClD := List (Int32 × Int64) × List (Int32 × Int64) × Nat
abbrev OpE := Sum (Int32 × Int64) Bool
noncomputable def clA (t : TS) (nf : Nat) (D : ClD) : OpE := clRes D.2.2 (evS t nf D.1 []) (evS t nf D.2.1 [])
/-- whether all k clauses from c on hold -/
def exQ (r : Nat → OpE) : Nat → Nat → OpE
  | _, 0 => .inr true
  | c, k + 1 => Sum.elim .inl (fun q => if q = true then exQ r (c + 1) k else .inr false) (r c)
def ruA (r : Nat → OpE) (c m : Nat) : Sum (Int32 × Int64) Nat := Sum.elim .inl (fun q => if q = true then .inr 0 else Sum.elim .inl (fun z => if m = 0 then .inr 1 else if z = true then .inr 2 else .inr 1) (exQ r (c + 1) m)) (r c)
def cstD (D : Nat → ClD) (c : Nat) : Nat → Nat
  | 0 => 0
  | k + 1 => cstD D c k + (2 * (D (c + k)).1.length + 2 * (D (c + k)).2.1.length + 1)
theorem cstD_le (D : Nat → ClD) (c : Nat) {k m : Nat} (h : k ≤ m) : cstD D c k ≤ cstD D c m := by
  induction m with
  | zero => rw [Nat.le_zero.mp h]; exact Nat.le_refl _
  | succ m ih =>
    by_cases z : k = m + 1
    · rw [z]; exact Nat.le_refl _
    · have := ih (by omega)
      show _ ≤ cstD D c m + _
      omega
/-- the clauses' part of the store -/
def Sub (hq : lHeap) (s : CS) : Prop := ∀ p c, hq p = some c → noK s.1 p = some c
theorem Sub_v {s S : CS} {n : Nat} (h : Sub hq s) (hw : wfS s) (v : VOk s S n) : Sub hq S := fun p c e => noK_up (fun _ _ w => VOk_up v hw w) p c (h p c e)
theorem Sub_c {s : CS} {a : Nat} {w w' b b' : Bool} {fs fs' : List Value} (h : Sub hq s) (ha : s.1 a = some (w, b, 70, fs)) : Sub hq (cup s a (w', b', 70, fs')) := fun p c e => by rw [noK_cup ha rfl rfl]; exact h p c e
theorem Sub_in {s : CS} (h : Sub hq s) : ∀ p c, hq p = some c → s.1 p = some c := fun p c e => (noK_of (h p c e)).1
/-- the exceptions, one by one -/
theorem ex_lp {s : CS} {ex : Nat} {mc : Int32} {m c1 : Nat} {CE : Nat → Nat} {D : Nat → ClD} (E : EnvA t nf s) (hx : s.1 ex = some (true, false, 1013, .int mc :: rowC (fun j => .ref (CE j)) m)) (hm : m < 1000) (hs : Sub hq s) (hj : ∀ j, j < m → ClP hq (CE j) (D (c1 + j)).1 (D (c1 + j)).2.1 (D (c1 + j)).2.2) : ∃ x, wh (S := CS × Int32) (X := Sum (CS) (Sum (CS) (Sum (Nat × CS) (Nat × CS)))) (fun p28 => Option.bind (alHas p28.1 ex p28.2) (fun x18 => (if x18 = 0 then some (.inr (.inr (.inl p28.1))) else Option.bind (alNext p28.1 ex mc p28.2) (fun e19 => Option.bind (toN p28.1 [74] e19) (fun a20 => (if isK p28.1 [74] a20 = true then Option.bind (c_957 a20 107 p28.1) (Sum.elim (fun x21 => (if x21.1 = 0 then some (.inr (.inl x21.2)) else some (.inl (x21.2, p28.2 + 1)))) (fun q22 => some (.inr (.inr (.inr (.inr (q22.1, q22.2))))))) else none)))))) (s, 0) = some x ∧ ∃ S', VOk s S' (cstD D c1 m) ∧ ((exQ (fun c => clA t nf (D c)) c1 m = .inr true ∧ x = .inr (.inl S')) ∨ (exQ (fun c => clA t nf (D c)) c1 m = .inr false ∧ x = .inl S' ∧ 0 < m) ∨ ∃ e o nm, exQ (fun c => clA t nf (D c)) c1 m = .inl (o, nm) ∧ 0 < o ∧ ExO hq S' e o nm ∧ x = .inr (.inr (.inr (e, S')))) := by
  refine wh_cnt m (fun k (a : CS × Int32) => a.2 = Int32.ofNat k ∧ VOk s a.1 (cstD D c1 k) ∧ exQ (fun c => clA t nf (D c)) c1 m = exQ (fun c => clA t nf (D c)) (c1 + k) (m - k)) ?_ ?_ ⟨rfl, ⟨E.1, Nat.le_refl _, fun _ _ => rfl, Nat.le_add_right _ _, Nat.le_add_right _ _⟩, rfl⟩
  · rintro k ⟨S, _⟩ hk ⟨rfl, v, ih⟩
    dsimp only at v ⊢
    have up : ∀ p c, s.1 p = some c → S.1 p = some c := fun p c h => VOk_up v E.1 h
    rw [alHas_r (up _ _ hx) (by omega) (by omega), Option.bind_some, if_neg (by rw [if_neg (by omega)]; decide), alNext_r (up _ _ hx) hk (by omega), Option.bind_some]
    have hc' := hj k hk
    obtain ⟨ca, cb, cg, hcc, _⟩ := id hc'
    have hcc := up _ _ (Sub_in hs _ _ hcc)
    rw [toN_o hcc rfl, Option.bind_some, if_pos (isK_t hcc rfl)]
    have E1 := EnvA_v E v
    obtain ⟨X, eX, S1, v1, h⟩ := c_clX E1.1 E1.2.1 E1.2.2 (fun p c h => up _ _ (Sub_in hs p c h)) hc'
    rw [eX, Option.bind_some]
    have vv : VOk s S1 (cstD D c1 (k + 1)) := VOk_tr v v1 (Nat.le_refl _)
    have un : exQ (fun c => clA t nf (D c)) c1 m = Sum.elim .inl (fun q => if q = true then exQ (fun c => clA t nf (D c)) (c1 + (k + 1)) (m - (k + 1)) else .inr false) (clA t nf (D (c1 + k))) := by
      rw [ih, show m - k = (m - (k + 1)) + 1 by omega]; rfl
    rcases h with ⟨q, q1, rfl⟩ | ⟨e, o, nm, o0, q1, rfl, x1⟩
    · rw [Sum.elim_inl]
      have q1' : clA t nf (D (c1 + k)) = .inr q := q1
      rw [q1', Sum.elim_inr] at un
      cases q with
      | false =>
        left
        rw [if_pos (show (if false = true then (1 : Int32) else 0, S1).1 = 0 from rfl)]
        exact ⟨_, rfl, S1, VOk_tr vv ⟨vv.1, Nat.le_refl _, fun _ _ => rfl, by omega, by omega⟩ (m := 0) (cstD_le D c1 (by omega)), Or.inr (Or.inl ⟨un, rfl, by omega⟩)⟩
      | true =>
        right
        rw [if_neg (show ¬ (if true = true then (1 : Int32) else 0, S1).1 = 0 from (by decide : ¬ (1 : Int32) = 0)), i_suc]
        exact ⟨_, rfl, rfl, vv, un⟩
    · left
      rw [Sum.elim_inr]
      have q1' : clA t nf (D (c1 + k)) = .inl (o, nm) := q1
      rw [q1', Sum.elim_inl] at un
      exact ⟨_, rfl, S1, VOk_tr vv ⟨vv.1, Nat.le_refl _, fun _ _ => rfl, by omega, by omega⟩ (m := 0) (cstD_le D c1 (by omega)), Or.inr (Or.inr ⟨e, o, nm, un, o0, x1, rfl⟩)⟩
  · rintro ⟨S, _⟩ ⟨rfl, v, ih⟩
    dsimp only at v ⊢
    have up : ∀ p c, s.1 p = some c → S.1 p = some c := fun p c h => VOk_up v E.1 h
    rw [alHas_r (up _ _ hx) (by omega) (by omega), Option.bind_some, if_pos (if_pos rfl)]
    refine ⟨_, rfl, S, v, Or.inl ⟨ih.trans ?_, rfl⟩⟩
    rw [Nat.sub_self]; rfl
end
