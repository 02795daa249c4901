/-! the lifts -/
/-- a car; which call it has begun -/
def carC (t : TS) (C : Nat → Nat) (D : Nat → Nat) (b : Option Nat) (k : Nat) : lCell := (true, false, 95, [.int (Int32.ofNat k), .int (t.2.2.1 158 k), .int (t.2.2.1 159 k), .int (t.2.2.1 160 k), .int (t.2.2.1 161 k), .int (t.2.2.1 162 k), vR (b.map D)])
/-- a call; the car that has begun it -/
def calC (t : TS) (C : Nat → Nat) (c : Nat) : lCell := (true, false, 96, [.int (Int32.ofNat c), .int (t.2.2.1 163 c), .int (t.2.2.1 164 c), .int (t.2.2.1 165 c), if t.2.2.1 167 c = -1 then .null else .ref (C (bN (t.2.2.1 167 c)))])
def isO (t : TS) (c : Nat) : Prop := t.2.2.1 166 c = 1
def flr (x : Int32) : Prop := ∃ f, f < 60 ∧ x = Int32.ofNat f
/-- a car's numbers -/
def okCar (t : TS) (k : Nat) : Prop := (∃ v, 1 ≤ v ∧ v ≤ 5 ∧ t.2.2.1 158 k = Int32.ofNat v) ∧ flr (t.2.2.1 159 k) ∧ (∃ v, v ≤ 100000 ∧ t.2.2.1 160 k = Int32.ofNat v) ∧ flr (t.2.2.1 161 k) ∧ flr (t.2.2.1 162 k)
/-- a call's numbers -/
def okCall (t : TS) (nc : Nat) (c : Nat) : Prop := flr (t.2.2.1 163 c) ∧ flr (t.2.2.1 164 c) ∧ (∃ v, v ≤ bN (t.1 612) ∧ t.2.2.1 165 c = Int32.ofNat v) ∧ (t.2.2.1 167 c = -1 ∨ ∃ k, k < nc ∧ t.2.2.1 167 c = Int32.ofNat k)
/-- the open calls as a map -/
def R8o (h : lHeap) (t : TS) (nk nc : Nat) (C D : Nat → Nat) : Prop := ∃ (mc : Int32) (es : List (Value × Value)), h 164 = some (true, false, 1042, .int mc :: fl es) ∧ Mp rkI es (fun z => if 0 ≤ z ∧ z < (nk : Int) ∧ t.2.2.1 166 z.toNat = 1 then some (.ref (D z.toNat)) else none) ∧ (∀ x ∈ es.map Prod.fst, ∃ i, x = .int i) ∧ es.length ≤ 6
/-- what was made -/
def toC (t : TS) (c : Nat) : lCell := (true, false, 99, [.int (t.2.2.1 172 c), .int (t.2.2.1 173 c), .int (t.2.2.1 174 c), .int (t.2.2.1 175 c)])
def R8m (h : lHeap) (t : TS) (nk nc : Nat) (M : Nat → Nat) : Prop := ∃ (mc : Int32) (es : List (Value × Value)), h 169 = some (true, false, 1042, .int mc :: fl es) ∧ Mp rkI es (fun z => if 0 ≤ z ∧ z < (nk : Int) ∧ ¬ t.2.2.1 172 z.toNat = -1 then some (.ref (M z.toNat)) else none) ∧ (∀ x ∈ es.map Prod.fst, ∃ i, x = .int i) ∧ es.length ≤ 6 ∧ (∀ c, c < nk → ¬ t.2.2.1 172 c = -1 → 179 ≤ M c ∧ h (M c) = some (toC t c) ∧ ∃ k, k < nc ∧ t.2.2.1 172 c = Int32.ofNat k) ∧ ∀ c, nk ≤ c → c < 400 → t.2.2.1 172 c = -1
def R8x (h : lHeap) (t : TS) (nc nk : Nat) (C D M : Nat → Nat) (b : Nat → Option Nat) : Prop :=
  (∃ nw hm : Int32, ∃ lst : Int64, h 162 = some (true, false, 49, [.ref 163, .ref 164, .int (t.1 606), .int nw, .int hm, .int (t.1 1), .ref 165, .ref 166, .ref 167, .ref 168, .long lst, .ref 169])) ∧ (∃ mc, h 163 = some (true, false, 1013, .int mc :: rowC (fun k => .ref (C k)) nc)) ∧
  (∃ mc es, h 165 = some (true, false, 1013, .int mc :: es)) ∧ (∃ mc es, h 166 = some (true, false, 1013, .int mc :: es)) ∧ (∃ f : Nat → Int32, h 167 = some (true, true, 0, rowC (fun i => .int (f i)) 4)) ∧ (∃ f : Nat → Int32, h 168 = some (true, true, 0, rowC (fun i => .int (f i)) 4)) ∧
  t.1 600 = Int32.ofNat nc ∧ nc ≤ 4 ∧ t.1 606 = Int32.ofNat nk ∧ nk ≤ 400 ∧ v01 (t.1 1) ∧ (0 < nc ∨ 0 < nk → t.1 1 ≠ 0) ∧ (∃ tm, tm ≤ 6000 ∧ t.1 612 = Int32.ofNat tm) ∧
  (∀ k, k < nc → h (C k) = some (carC t C D (b k) k) ∧ okCar t k ∧ 179 ≤ C k) ∧ (∀ j k, j < nc → k < nc → C j = C k → j = k) ∧
  (∀ c, c < nk → v01 (t.2.2.1 166 c) ∧ okCall t nc c ∧ (isO t c → h (D c) = some (calC t C c) ∧ 179 ≤ D c)) ∧ (∀ c e, c < nk → e < nk → isO t c → isO t e → D c = D e → c = e) ∧
  (∀ k c, k < nc → (b k = some c ↔ c < nk ∧ isO t c ∧ t.2.2.1 167 c = Int32.ofNat k)) ∧
  R8o h t nk nc C D ∧ R8m h t nk nc M
def R8 (h : lHeap) (t : TS) : Prop := ∃ nc nk C D M b, R8x h t nc nk C D M b
