/-! permits: trees, their leaves -/
section
variable {s : CS} {t : TS} {nf : Nat} {a b : Nat} {w : Bool} {xs : List Nat}
/-- what stands between two sides of a pair -/
def opC (c k : Int32) : Prop := (c = 43 ∧ k = 2) ∨ (c = 45 ∧ k = 3) ∨ (c = 42 ∧ k = 4) ∨ (c = 47 ∧ k = 5)
/-- cell a is a tree of depth n at most; l are its steps in order -/
def PT (h : lHeap) : Nat → Nat → List (Int32 × Int64) → Prop
  | 0, _, _ => False
  | n + 1, a, l => (∃ v : Int32, h a = some (true, false, 71, [.int v]) ∧ l = [(0, v.toInt64)]) ∨ (∃ (b : Nat) (w : Bool) (xs : List Nat), h a = some (true, false, 72, [.ref b]) ∧ h b = some (w, false, 1000, txV xs) ∧ xs.length < 1000 ∧ l = [(1, nmL xs)]) ∨ ∃ (c k : Int32) (b1 b2 : Nat) (l1 l2 : List (Int32 × Int64)), h a = some (true, false, 73, [.int c, .ref b1, .ref b2]) ∧ opC c k ∧ PT h n b1 l1 ∧ PT h n b2 l2 ∧ l = l1 ++ l2 ++ [(k, 0)]
theorem PT_up {h h' : lHeap} (e : ∀ p c, h p = some c → h' p = some c) {n a : Nat} {l : List (Int32 × Int64)} (r : PT h n a l) : PT h' n a l := by
  induction n generalizing a l with
  | zero => exact r
  | succ n ih =>
    unfold PT at r ⊢
    rcases r with ⟨v, r1, r2⟩ | ⟨b, w, xs, r1, r2, r3⟩ | ⟨c, k, b1, b2, l1, l2, r1, r2, r3, r4, r5⟩
    · exact Or.inl ⟨v, e _ _ r1, r2⟩
    · exact Or.inr (Or.inl ⟨b, w, xs, e _ _ r1, e _ _ r2, r3⟩)
    · exact Or.inr (Or.inr ⟨c, k, b1, b2, l1, l2, e _ _ r1, r2, ih r3, ih r4, r5⟩)
theorem PT_ne {h : lHeap} {n a : Nat} {l : List (Int32 × Int64)} (r : PT h n a l) : l ≠ [] := by
  cases n with
  | zero => exact absurd r id
  | succ n =>
    unfold PT at r
    rcases r with ⟨v, r1, rfl⟩ | ⟨b, w, xs, r1, r2, r3, rfl⟩ | ⟨c, k, b1, b2, l1, l2, r1, r2, r3, r4, rfl⟩
    · simp
    · simp
    · simp
theorem c_pln {v : Int32} (h : s.1 a = some (true, false, 71, [.int v])) (q : Nat) : c_950 a q s = some (frX s (frR v.toInt64 1)) := by
  unfold c_950
  rw [xI_o h rfl rfl, Option.bind_some, c_fracX (by decide), frX_e]
theorem c_nmd0 (hw : wfS s) (h : s.1 a = some (true, false, 72, [.ref b])) (hb : s.1 b = some (w, false, 1000, txV xs)) (hl : xs.length < 1000) (r : R3f s.1 t nf) (e : fcI t (nmL xs) nf = none) : c_952 a 107 s = some (.inr (s.2.1, exOp (chg s 1 1) 1 b)) := by
  have la := wf_lt hw h
  obtain ⟨mc, es, h1, _⟩ := id r
  unfold c_952
  rw [xN_o h rfl rfl, Option.bind_some, c_nmL hb hl, Option.bind_some, Option.bind_some, if_pos (isK_t (show (chg s 1 1).1 107 = _ from h1) rfl), fc_get (show R3f (chg s 1 1).1 t nf from r), e, Option.bind_some]
  show Option.bind (some none) _ = _
  rw [Option.bind_some, if_pos rfl, Option.bind_some, xN_o (b := b) (show (nw (chg s 1 1) 75 [.null, .null, .null, .null, .null, .int 0, .int 0, .null]).2.1 a = some (true, false, 72, [.ref b]) from (show (nw (chg s 1 1) 75 [.null, .null, .null, .null, .null, .int 0, .int 0, .null]).2.1 a = s.1 a from if_neg (show ¬ a = s.2.1 by omega)).trans h) rfl rfl, Option.bind_some]
  have := ex_75 (s := chg s 1 1) 1 b
  rw [Option.bind_some] at this
  exact this
theorem c_nmd1 (h : s.1 a = some (true, false, 72, [.ref b])) (hb : s.1 b = some (w, false, 1000, txV xs)) (hl : xs.length < 1000) (r : R3f s.1 t nf) {k : Nat} (e : fcI t (nmL xs) nf = some k) : c_952 a 107 s = some (frX (chg s 1 1) (frR (t.2.2.1 78 k).toInt64 1)) := by
  obtain ⟨mc, es, h1, _⟩ := id r
  unfold c_952
  rw [xN_o h rfl rfl, Option.bind_some, c_nmL hb hl, Option.bind_some, Option.bind_some, if_pos (isK_t (show (chg s 1 1).1 107 = _ from h1) rfl), fc_get (show R3f (chg s 1 1).1 t nf from r), e, Option.bind_some]
  show Option.bind (some (some (t.2.2.1 78 k))) _ = _
  rw [Option.bind_some, if_neg (fun z => by cases z), Option.bind_some, c_fracX (by decide), frX_e]
end
