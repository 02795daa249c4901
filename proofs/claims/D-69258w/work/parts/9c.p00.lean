/-! the program: kinds, blocks -/
def kid (k : Nat) : Nat := if k < 15 then k else if k = 15 then 96 else k + 3
def kcl : List Nat := [103, 115, 123, 124, 125, 126, 127, 128, 129, 104, 105, 106, 107, 108, 109, 110, 112, 113, 114, 116, 102, 117, 118, 119, 120, 121]
def kci (k : Nat) : Nat := kcl.getD k 0
def inp (k : Nat) : Nat := if k < 2 ∨ k = 20 then 0 else if k = 14 then 3 else if k < 13 ∨ k = 18 ∨ k = 19 ∨ k = 23 ∨ k = 24 then 2 else 1
/-- what never changes -/
def RK (h : lHeap) : Prop := (∀ k, k < 26 → h (kid k) = some (false, false, kci k, [.int (Int32.ofNat k), .int (Int32.ofNat (inp k))])) ∧ h 93 = some (false, false, 133, [.int 3]) ∧ h 94 = some (false, false, 133, [.int 2]) ∧ h 95 = some (false, false, 133, [.int 1])
def wv (B : Nat → Nat → Nat) (x : Int32) : Value := if x = -1 then .null else .ref (B (bN x) 0)
def bC (t : TS) (B : Nat → Nat → Nat) (k : Nat) : lCell := (true, false, 94, [.int (Int32.ofNat k), .ref (kid (bN (t.2.2.1 125 k))), .int (t.2.2.1 126 k), .int (t.2.2.1 127 k), .int (t.2.2.1 128 k), .ref (B k 1), .ref (B k 2), .int (t.2.2.1 131 k), .int (t.2.2.1 132 k), .int (t.2.2.1 133 k), .int (t.2.2.1 134 k), .int (t.2.2.1 135 k), .int (t.2.2.1 137 k - 1)])
def wire (t : TS) (k i : Nat) : Int32 := t.2.2.1 129 (3 * k + i)
def R5b (h : lHeap) (t : TS) (n : Nat) (B : Nat → Nat → Nat) (k : Nat) : Prop :=
  h (B k 0) = some (bC t B k) ∧ h (B k 1) = some (true, true, 8, rowC (fun i => wv B (wire t k i)) 3) ∧ h (B k 2) = some (true, true, 0, rowC (fun i => .int (t.2.2.1 130 (8 * k + i))) 8) ∧ (∃ K, K < 26 ∧ t.2.2.1 125 k = Int32.ofNat K) ∧ (∀ i, i < 3 → wire t k i = -1 ∨ ∃ w, w < n ∧ wire t k i = Int32.ofNat w) ∧ v01 (t.2.2.1 134 k)
/-- a block's own numbers -/
def bRow (c : Nat) : Prop := c = 126 ∨ c = 127 ∨ c = 128 ∨ c = 131 ∨ c = 132 ∨ c = 133 ∨ c = 134 ∨ c = 135 ∨ c = 137
/-- as long as there is no block -/
def R5f (t : TS) (n : Nat) : Prop := ∀ k, n ≤ k → k < 40 → (∀ c, bRow c → t.2.2.1 c k = 0) ∧ ∀ i, i < 8 → t.2.2.1 130 (8 * k + i) = 0
def injB (n : Nat) (B : Nat → Nat → Nat) : Prop := (∀ k j k' j', k < n → j < 3 → k' < n → j' < 3 → B k j = B k' j' → k = k' ∧ j = j') ∧ ∀ k j, k < n → j < 3 → 179 ≤ B k j
/-! the order -/
def dep (t : TS) (b w : Nat) : Bool := !(bN (t.2.2.1 125 b) == 16) && (List.range (inp (bN (t.2.2.1 125 b)))).any (fun i => wire t b i == Int32.ofNat w)
def mayC (t : TS) (n : Nat) (acc : List Nat) (b : Nat) : Bool := !acc.contains b && (List.range n).all (fun w => !dep t b w || acc.contains w)
def gre (t : TS) (n : Nat) : Nat → List Nat → List Nat
  | 0, acc => acc
  | f + 1, acc => match (List.range n).find? (mayC t n acc) with
    | none => acc
    | some b => gre t n f (acc ++ [b])
def ordC (t : TS) (n : Nat) : Nat := (gre t n n []).length
def ordL (t : TS) (n : Nat) : List Nat := gre t n n [] ++ (List.range n).filter (fun b => !(gre t n n []).contains b)
def R5o (h : lHeap) (t : TS) (n : Nat) (B : Nat → Nat → Nat) (o : Value) (od : Int32) : Prop := o = .null ∨ ∃ oid mc, o = .ref oid ∧ 179 ≤ oid ∧ (∀ k j, k < n → j < 3 → B k j ≠ oid) ∧ h oid = some (true, false, 1013, .int mc :: (ordL t n).map (fun b => .ref (B b 0))) ∧ od = Int32.ofNat (ordC t n)
def R5p (h : lHeap) (t : TS) (n : Nat) (B : Nat → Nat → Nat) (o : Value) (od nw : Int32) : Prop :=
  h 115 = some (true, false, 100, [.ref 116, .ref 117, o, .int od, .ref 118, .ref 119, .int nw, .int (t.1 1)]) ∧ h 116 = some (true, true, 9, rowC (fun k => .ref (kid k)) 26) ∧ (∃ mc, h 117 = some (true, false, 1013, .int mc :: rowC (fun k => .ref (B k 0)) n)) ∧ h 119 = some (true, true, 0, rowC (fun k => .int (t.2.2.1 140 k)) 4) ∧ t.1 400 = Int32.ofNat n ∧ n ≤ 40 ∧ t.1 418 = (if t.2.2.1 140 0 < 20000 then 0 else 1) ∧ v01 (t.1 1) ∧ (0 < n → t.1 1 ≠ 0)
def R5x (h : lHeap) (t : TS) (n : Nat) (B : Nat → Nat → Nat) (o : Value) (od nw : Int32) : Prop := R5p h t n B o od nw ∧ R5f t n ∧ injB n B ∧ (∀ k, k < n → R5b h t n B k) ∧ R5o h t n B o od
def R5 (h : lHeap) (t : TS) : Prop := ∃ n B o od nw, R5x h t n B o od nw
def R10 (h : lHeap) (t : TS) : Prop := h 118 = some (true, true, 0, rowC (fun k => .int (t.2.2.1 136 k)) 10)
/-! congruence -/
theorem mayC_cg {t t' : TS} {n : Nat} {acc : List Nat} {b : Nat} (h : ∀ w, dep t' b w = dep t b w) : mayC t' n acc b = mayC t n acc b := by
  unfold mayC
  have : (fun w => !dep t' b w || acc.contains w) = (fun w => !dep t b w || acc.contains w) := funext (fun w => by rw [h w])
  rw [this]
theorem find_cg {l : List Nat} {p q : Nat → Bool} (h : ∀ b ∈ l, p b = q b) : l.find? p = l.find? q := by
  induction l with
  | nil => rfl
  | cons x r ih => rw [List.find?_cons, List.find?_cons, h x (by simp), ih (fun b hb => h b (List.mem_cons_of_mem _ hb))]
theorem gre_cg {t t' : TS} {n : Nat} (h : ∀ b w, b < n → dep t' b w = dep t b w) : ∀ f acc, gre t' n f acc = gre t n f acc := by
  intro f
  induction f with
  | zero => intro acc; rfl
  | succ f ih =>
    intro acc
    have e : (List.range n).find? (mayC t' n acc) = (List.range n).find? (mayC t n acc) := find_cg (fun b hb => mayC_cg (fun w => h b w (List.mem_range.mp hb)))
    simp only [gre, e, ih]
theorem dep_cg {t t' : TS} (h1 : ∀ j, t'.2.2.1 125 j = t.2.2.1 125 j) (h2 : ∀ j, t'.2.2.1 129 j = t.2.2.1 129 j) (b w : Nat) : dep t' b w = dep t b w := by
  unfold dep wire
  simp only [h1, h2]
theorem ord_cg {t t' : TS} {n : Nat} (h1 : ∀ j, t'.2.2.1 125 j = t.2.2.1 125 j) (h2 : ∀ j, t'.2.2.1 129 j = t.2.2.1 129 j) : ordL t' n = ordL t n ∧ ordC t' n = ordC t n := by
  have e := gre_cg (n := n) (fun b w _ => dep_cg h1 h2 b w) n []
  refine ⟨?_, ?_⟩
  · unfold ordL; rw [e]
  · unfold ordC; rw [e]
theorem R5b_cg {h h' : lHeap} {t t' : TS} {n k : Nat} {B : Nat → Nat → Nat} (r : R5b h t n B k) (c : ∀ j, j < 3 → h' (B k j) = h (B k j)) (h1 : ∀ c, bRow c ∨ c = 125 → t'.2.2.1 c k = t.2.2.1 c k) (h2 : ∀ j, t'.2.2.1 129 j = t.2.2.1 129 j) (h3 : ∀ i, i < 8 → t'.2.2.1 130 (8 * k + i) = t.2.2.1 130 (8 * k + i)) : R5b h' t' n B k := by
  obtain ⟨r1, r2, r3, r4, r5, r6⟩ := r
  have q := fun c (hc : bRow c) => h1 c (Or.inl hc)
  refine ⟨?_, ?_, ?_, by rw [h1 125 (Or.inr rfl)]; exact r4, fun i hi => by unfold wire; rw [h2]; exact r5 i hi, by rw [q 134 (by unfold bRow; omega)]; exact r6⟩
  · rw [c 0 (by omega), r1]
    unfold bC
    rw [h1 125 (Or.inr rfl), q 126 (by unfold bRow; omega), q 127 (by unfold bRow; omega), q 128 (by unfold bRow; omega), q 131 (by unfold bRow; omega), q 132 (by unfold bRow; omega), q 133 (by unfold bRow; omega), q 134 (by unfold bRow; omega), q 135 (by unfold bRow; omega), q 137 (by unfold bRow; omega)]
  · rw [c 1 (by omega), r2]; unfold wire; simp only [h2]
  · rw [c 2 (by omega), r3]; congr 4; exact rowC_congr (fun i hi => by rw [h3 i hi])
theorem R5_cg {h : lHeap} {t t' : TS} (r : R5 h t) (hr : ∀ c j, mR c = 5 → t'.2.2.1 c j = t.2.2.1 c j) (hn : ∀ c, c ≠ 0 → (mI c = 5 ∨ c = 1) → t'.1 c = t.1 c) : R5 h t' := by
  obtain ⟨n, B, o, od, nw, ⟨p1, p2, p3, p4, p5, p6, p7, p8, p9⟩, f, i, b, q⟩ := r
  refine ⟨n, B, o, od, nw, ⟨by rw [hn 1 (by omega) (Or.inr rfl)]; exact p1, p2, p3, by simp only [hr 140 _ rfl]; exact p4, by rw [hn 400 (by omega) (Or.inl rfl)]; exact p5, p6, by rw [hn 418 (by omega) (Or.inl rfl), hr 140 _ rfl]; exact p7, by rw [hn 1 (by omega) (Or.inr rfl)]; exact p8, by rw [hn 1 (by omega) (Or.inr rfl)]; exact p9⟩, ?_, i, ?_, ?_⟩
  · intro k h1 h2
    refine ⟨fun c hc => ?_, fun i hi => by rw [hr 130 _ rfl]; exact (f k h1 h2).2 i hi⟩
    rw [hr c k (by unfold bRow at hc; rcases hc with rfl | rfl | rfl | rfl | rfl | rfl | rfl | rfl | rfl <;> rfl)]
    exact (f k h1 h2).1 c hc
  · intro k hk
    refine R5b_cg (b k hk) (fun _ _ => rfl) (fun c hc => hr c k ?_) (fun j => hr _ _ rfl) (fun _ _ => hr _ _ rfl)
    rcases hc with hc | rfl
    · unfold bRow at hc; rcases hc with rfl | rfl | rfl | rfl | rfl | rfl | rfl | rfl | rfl <;> rfl
    · rfl
  · unfold R5o
    rw [(ord_cg (t := t) (t' := t') (n := n) (fun j => hr _ _ rfl) (fun j => hr _ _ rfl)).1, (ord_cg (t := t) (t' := t') (n := n) (fun j => hr _ _ rfl) (fun j => hr _ _ rfl)).2]
    exact q
