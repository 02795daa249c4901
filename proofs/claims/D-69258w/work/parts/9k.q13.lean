/-! permits: a tree's value, the component -/
section
variable {s S S' : CS} {t : TS} {nf : Nat}
noncomputable def valC (n a : Nat) (S : CS) : Option (Sum (Nat × CS) (Nat × CS)) := if isK S [71] a = true then c_950 a 107 S else (if isK S [72] a = true then c_952 a 107 S else (if isK S [73] a = true then c_954 n a 107 S else none))
/-- the store only grows -/
def VOk (S S' : CS) (n : Nat) : Prop := wfS S' ∧ S.2.1 ≤ S'.2.1 ∧ (∀ p, p < S.2.1 → S'.1 p = S.1 p) ∧ S'.2.2.1 ≤ S.2.2.1 + 3 * n ∧ S'.2.2.2 ≤ S.2.2.2 + 9 * n
theorem VOk_tr {V : CS} {n m k : Nat} (h1 : VOk s S n) (h2 : VOk S V m) (hk : n + m ≤ k) : VOk s V k := by
  obtain ⟨a1, a2, a3, a4, a5⟩ := h1
  obtain ⟨b1, b2, b3, b4, b5⟩ := h2
  exact ⟨b1, by omega, fun p hp => (b3 p (by omega)).trans (a3 p hp), by omega, by omega⟩
theorem VOk_up {k : Nat} (h : VOk S S' k) (hw : wfS S) {p : Nat} {c : lCell} (e : S.1 p = some c) : S'.1 p = some c := (h.2.2.1 p (wf_lt hw e)).trans e
/-- an exception tells what is open -/
def ExO (hq : lHeap) (S : CS) (e : Nat) (o : Int32) (nm : Int64) : Prop := (o = 2 ∧ nm = 0 ∧ ∃ fs, S.1 e = some (true, false, 33, fs)) ∨ (o ≠ 2 ∧ ∃ (b : Nat) (w : Bool) (xs : List Nat), S.1 e = some (true, false, 75, [.ref e, .ref 17, .ref 18, .ref b, .null, .int 0, .int o, .ref b]) ∧ S.1 b = some (w, false, 1000, txV xs) ∧ xs.length < 1000 ∧ nmL xs = nm ∧ (b = 91 ∨ hq b ≠ none))
def VO (hq : lHeap) (S : CS) (n : Nat) (X : Sum (Nat × CS) (Nat × CS)) (r : Sum (Int32 × Int64) StP) : Prop := ∃ S', VOk S S' n ∧ ((∃ x y f, r = .inr [(x, y)] ∧ y ≠ 0 ∧ X = .inl (f, S') ∧ FrC S' f x y ∧ S.2.1 ≤ f) ∨ ∃ e o nm, o ≠ 0 ∧ r = .inl (o, nm) ∧ X = .inr (e, S') ∧ ExO hq S' e o nm)
theorem VOk_nw (hw : wfS S) (c : lCell) {j k n : Nat} (hj : j ≤ 3 * n) (hk : k ≤ 9 * n) : VOk S (nwc S c j k).2 n := by
  refine ⟨wf_nwc hw, by show S.2.1 ≤ S.2.1 + 1; omega, fun p hp => nwc_ne (by omega), ?_, ?_⟩
  · show S.2.2.1 + j ≤ _; omega
  · show S.2.2.2 + k ≤ _; omega
theorem VO_fr {hq : lHeap} (hw : wfS S) {w91 : Bool} (h91 : S.1 91 = some (w91, false, 1000, txV [])) {r : Int32 × Int64 × Int64} (hr : (∃ e, e.1 ≠ 0 ∧ ∀ st, pshR r st = .inl e) ∨ ∃ x y, y ≠ 0 ∧ ∀ st, pshR r st = .inr ((x, y) :: st)) : VO hq S 1 (frX S r) (pshR r []) := by
  by_cases h0 : r.1 = 0
  · have e : pshR r [] = .inr [(r.2.1, r.2.2)] := if_pos h0
    have y0 : r.2.2 ≠ 0 := by
      rcases hr with ⟨e1, _, h⟩ | ⟨x, y, hy, h⟩
      · have := h []; rw [e] at this; cases this
      · have := h []; rw [e] at this
        have h2 := List.cons.inj (Sum.inr.inj this)
        rw [show r.2.2 = y from (Prod.mk.inj h2.1).2]; exact hy
    refine ⟨frN S r.2.1 r.2.2, VOk_nw (j := 1) (k := 2) hw _ (by omega) (by omega), Or.inl ⟨_, _, S.2.1, e, y0, if_pos h0, nwc_eq S _ 1 2, Nat.le_refl _⟩⟩
  · have e : pshR r [] = .inl (r.1, 0) := if_neg h0
    by_cases h2 : r.1 = 2
    · refine ⟨exAr S, VOk_nw (j := 1) (k := 6) hw _ (by omega) (by omega), Or.inr ⟨S.2.1, r.1, 0, h0, e, ?_, Or.inl ⟨h2, rfl, _, nwc_eq S _ 1 6⟩⟩⟩
      unfold frX; rw [if_neg h0, if_pos h2]
    · have l91 := wf_lt hw h91
      refine ⟨exOp S r.1 91, VOk_nw (j := 1) (k := 8) hw _ (by omega) (by omega), Or.inr ⟨S.2.1, r.1, 0, h0, e, ?_, Or.inr ⟨h2, 91, w91, [], nwc_eq S _ 1 8, ?_, by decide, rfl, Or.inl rfl⟩⟩⟩
      · unfold frX; rw [if_neg h0, if_neg h2]
      · exact (nwc_ne (by omega)).trans h91
end
