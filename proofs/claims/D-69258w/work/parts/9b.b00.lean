/-! the bus -/
def byt (x : Int32) : Prop := ∃ b, b < 256 ∧ x = Int32.ofNat b
def bN (x : Int32) : Nat := x.toNatClampNeg
def tl (t : TS) (k j i : Nat) : Int32 := t.2.2.1 147 (24 * (6 * k + j) + i)
def v01 (x : Int32) : Prop := x = 0 ∨ x = 1
/-- the cell of a station -/
def sC (t : TS) (k : Nat) : lCell := (true, false, 46, [.int (t.2.2.1 143 k), .ref (128 + 3 * k), .int (t.2.2.1 145 k), .ref (129 + 3 * k), .int (t.2.2.1 148 k), .int (t.2.2.1 149 k), .int (t.2.2.1 150 k), .int (t.2.2.1 151 k), .int (t.2.2.1 152 k), .int (t.2.2.1 153 k), .int (t.2.2.1 154 k)])
/-- a telegram that waits -/
def R6t (h : lHeap) (t : TS) (k j a b m : Nat) : Prop :=
  h a = some (true, false, 93, [.int (tl t k j 22), .ref b, .int (tl t k j 23)]) ∧ h b = some (true, true, 0, rowC (fun i => .int (tl t k j i)) m) ∧ tl t k j 21 = Int32.ofNat m ∧ 8 ≤ m ∧ m ≤ 21 ∧ (∀ i, i < m → byt (tl t k j i) ∧ (i = 0 → tl t k j 23 = 0 → 32 ≤ bN (tl t k j i))) ∧ 179 ≤ a ∧ 179 ≤ b
/-- how often the first one was said; none says and waits at once -/
def hdO (t : TS) (k n : Nat) : Prop := (0 < n → ∃ sd, tl t k 0 23 = Int32.ofNat sd ∧ sd ≤ 4 ∧ (t.2.2.1 149 k = -1 → sd ≤ 3)) ∧ (∀ j, 1 ≤ j → j < n → tl t k j 23 = 0) ∧ (t.2.2.1 148 k = -1 ∨ t.2.2.1 149 k = -1)
/-- station k: n telegrams, their numbers, those of their bytes, how many bytes -/
def R6s (h : lHeap) (t : TS) (k n : Nat) (ti bi m : Nat → Nat) : Prop :=
  h (127 + 3 * k) = some (sC t k) ∧ h (129 + 3 * k) = some (true, false, 1004, rowC (fun j => .ref (ti j)) n) ∧ t.2.2.1 146 k = Int32.ofNat n ∧ n ≤ 6 ∧
  (∃ xs, h (128 + 3 * k) = some (true, false, 1003, xs) ∧ ∀ g, g < 256 → t.2.2.1 144 (256 * k + g) = if bit xs g = true then 1 else 0) ∧
  (∀ j, j < n → R6t h t k j (ti j) (bi j) (m j)) ∧ v01 (t.2.2.1 145 k) ∧ (∃ a, a < 65536 ∧ t.2.2.1 143 k = Int32.ofNat a) ∧
  (t.2.2.1 148 k = -1 ∨ ∃ p, t.2.2.1 148 k = Int32.ofNat p ∧ 0 < n ∧ p + 2 < 13 * m 0) ∧ (t.2.2.1 149 k = -1 ∨ 0 < n ∧ ∃ p, p < 1000000 ∧ t.2.2.1 149 k = Int32.ofNat p) ∧ (t.2.2.1 150 k = -1 ∨ byt (t.2.2.1 150 k) ∧ ∃ p, p < 11 ∧ t.2.2.1 151 k = Int32.ofNat p) ∧ hdO t k n
/-- the character at hand, so many bits of it behind its first one -/
def lett (t : TS) (q : Nat) : Nat → Int32
  | 0 => 0
  | c + 1 => lett t q c ||| (t.2.2.1 141 (q + (c + 1)) <<< (Int32.ofNat (c + 1) &&& 31))
/-- the ear in bit time N -/
def R6e (h : lHeap) (t : TS) (N : Nat) : Prop := ∃ (mc e1 e2 e3 e4 e5 e6 e7 : Int32) (nb : Nat) (f : Nat → Value),
  h 122 = some (true, false, 130, [.ref 123, .int e1, .int e2, .int e3, .int e4, .int e5, .int e6, .int e7]) ∧ h 123 = some (true, false, 1013, .int mc :: rowC f nb) ∧ nb ≤ 14000 ∧ v01 e1 ∧ (∃ hc, t.2.2.1 157 1 = Int32.ofNat hc ∧ hc ≤ N) ∧
  ((t.1 516 = 0 ∧ e4 = 0) ∨ ∃ b, t.1 516 = Int32.ofNat b ∧ 0 < b ∧ b ≤ N ∧ e4 = 1 ∧ e2 = Int32.ofNat b ∧ e1 = t.1 519 ∧ t.1 517 = Int32.ofNat nb ∧ (∀ i, i < nb → f i = .int (t.2.2.1 155 i) ∧ byt (t.2.2.1 155 i)) ∧
    ((t.1 528 = Int32.ofNat (b + 13 * nb) ∧ b + 13 * nb ≤ N ∧ N < b + 13 * nb + 10 ∧ e5 = Int32.ofNat (N - (b + 13 * nb) + 1) ∧ e6 = lett t (b + 13 * nb) (N - (b + 13 * nb)) ∧ e7 = 0) ∨
     (t.1 528 = 0 ∧ 0 < nb ∧ t.1 520 = Int32.ofNat (b + 13 * nb - 3) ∧ b + 13 * nb ≤ N + 3 ∧ N + 1 ≤ b + 13 * nb ∧ e5 = 11 ∧ e3 = Int32.ofNat (b + 13 * nb - 3) ∧ e7 = Int32.ofNat (N + 3 - (b + 13 * nb)))))
/-- how long the line was idle -/
def R6i (t : TS) (N d : Nat) : Prop := (∃ z, 1 ≤ z ∧ z ≤ N ∧ d = N - z ∧ t.2.2.1 141 z = 0 ∧ ∀ i, z < i → i ≤ N → t.2.2.1 141 i = 1) ∨ (d = 1000 + N ∧ ∀ i, 1 ≤ i → i ≤ N → t.2.2.1 141 i = 1)
/-- what will be disturbed -/
def R6d (h : lHeap) (t : TS) (N : Nat) : Prop := ∃ (mc : Int32) (es : List (Value × Value)), h 124 = some (true, false, 1042, .int mc :: fl es) ∧ Mp rkI es (fun z => if ∃ i : Nat, i ≤ 182000 ∧ z = (i : Int) ∧ N < i ∧ t.2.2.1 142 i = 1 then some (.int 0) else none) ∧ (∀ x ∈ es.map Prod.fst, ∃ i, x = .int i) ∧ t.1 503 = Int32.ofNat es.length ∧ es.length ≤ 50
def R6g (h : lHeap) (t : TS) (N M : Nat) : Prop := (∃ (d : Nat), R6i t N d ∧
  h 120 = some (true, false, 122, [.ref 121, .ref 122, .ref 124, .ref 125, .ref 126, .int (t.1 523), .int (if t.1 524 = 0 then -1 else t.1 524), .int (t.1 525), .int (t.1 526), .int (t.1 500), .int (Int32.ofNat d), .ref 115, .int (t.1 1)])) ∧
  (∃ mc, h 121 = some (true, false, 1013, .int mc :: rowC (fun k => .ref (127 + 3 * k)) 8)) ∧ (∃ mc n, h 125 = some (true, false, 1013, .int mc :: rowC (fun k => .int (t.2.2.1 156 k)) n) ∧ t.1 521 = Int32.ofNat n ∧ n ≤ 14000 ∧ (∀ i, i < n → byt (t.2.2.1 156 i)) ∧ (t.1 524 ≠ 0 → 8 ≤ n)) ∧
  h 126 = some (true, true, 0, rowC (fun k => .int (t.2.2.1 157 k)) 5) ∧ t.1 500 = Int32.ofNat M ∧ M ≤ 180000 ∧ v01 (t.1 523) ∧ v01 (t.1 525) ∧ v01 (t.1 1) ∧ (∃ e, e ≤ 180000 ∧ t.1 524 = Int32.ofNat e) ∧ (∀ i, i ≤ 180000 → v01 (t.2.2.1 141 i)) ∧ (∀ i, i ≤ 182000 → v01 (t.2.2.1 142 i)) ∧ (t.1 526 = -1 ∨ byt (t.1 526))
def inj2 (n : Nat → Nat) (a : Nat → Nat → Nat) : Prop := ∀ k j k' j', k < 8 → k' < 8 → j < n k → j' < n k' → a k j = a k' j' → k = k' ∧ j = j'
def R6x (h : lHeap) (t : TS) (N Ne Nd M : Nat) : Prop := R6g h t N M ∧ R6e h t Ne ∧ R6d h t Nd ∧ ∃ (n : Nat → Nat) (ti bi m : Nat → Nat → Nat), inj2 n ti ∧ inj2 n bi ∧ ∀ k, k < 8 → R6s h t k (n k) (ti k) (bi k) (m k)
abbrev R6 (h : lHeap) (t : TS) (N : Nat) : Prop := R6x h t N N N N
