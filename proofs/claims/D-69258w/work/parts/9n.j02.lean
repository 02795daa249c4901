/-! the library's objects: how each kind lies in the memory -/
/-- contents in an array, the rest free -/
def jfil (es : List Value) (cap : Nat) : List Value := es ++ List.replicate (cap - es.length) .null
/-- ArrayList (13): the first value tells its count of changes -/
def JL (E : lE) (fs : List Value) (a : Nat) (h : lHeap) (k : Nat) : Prop := ∃ (m : Int32) (es : List Value) (e cap : Nat), fs = .int m :: es ∧ h a = some (true, false, 13, [.int m, .ref e, .int (Int32.ofNat es.length)]) ∧ es.length ≤ 500000 ∧ cap ≤ 800000 ∧ 16 * es.length ≤ k + 4 * cap ∧
  ((cap = 0 ∧ es = [] ∧ E 19 = .ref e) ∨ (10 ≤ cap ∧ es.length ≤ cap ∧ e ≠ a ∧ h e = some (true, true, 6, jfil es cap)))
/-- ArrayDeque (4): a ring -/
def JD (fs : List Value) (a : Nat) (h : lHeap) : Prop := ∃ (e hd cap : Nat) (f : Nat → Value), h a = some (true, false, 4, [.ref e, .int (Int32.ofNat hd), .int (Int32.ofNat ((hd + fs.length) % cap))]) ∧ 17 ≤ cap ∧ fs.length < cap ∧ hd < cap ∧ cap ≤ 300000 ∧ e ≠ a ∧ h e = some (true, true, 6, rowC f cap) ∧ ∀ i, i < cap → f ((hd + i) % cap) = fs.getD i .null
/-- TreeMap's entries (23): a reference or null; what lies in a map, entry by entry -/
def rfO : Option Nat → Value
  | none => .null
  | some e => .ref e
def triL (K V : Nat → Value) : List Nat → List Value
  | [] => []
  | e :: r => .ref e :: K e :: V e :: triL K V r
def THp (h : lHeap) (Ls : List Nat) (K V : Nat → Value) (l r p : Nat → Option Nat) (c : Nat → Int32) : Prop := ∀ e, e ∈ Ls → h e = some (true, false, 23, [K e, V e, rfO (l e), rfO (r e), rfO (p e), .int (c e)])
/-- a tree, told place by place: the entry e has the place ps e, below it lie the places from ia e to ib e -/
def WFc (N : Nat → Prop) (n : Nat) (ps : Nat → Nat) (root : Option Nat) (ia ib : Nat → Nat) (l r p : Nat → Option Nat) : Prop :=
  (root = none → n = 0) ∧ (∀ e, root = some e → N e ∧ ia e = 0 ∧ ib e = n ∧ p e = none) ∧ ∀ e, N e → ia e ≤ ps e ∧ ps e < ib e ∧ ib e ≤ n ∧ (l e = none → ia e = ps e) ∧ (∀ x, l e = some x → N x ∧ ia x = ia e ∧ ib x = ps e ∧ p x = some e) ∧ (r e = none → ib e = ps e + 1) ∧ (∀ x, r e = some x → N x ∧ ia x = ps e + 1 ∧ ib x = ib e ∧ p x = some e) ∧ (p e = none → root = some e) ∧ ∀ q, p e = some q → N q ∧ (l q = some e ∨ r q = some e)
/-- TreeMap (42): count of changes, two views, entries in their order -/
def JT (fs : List Value) (a : Nat) (h : lHeap) : Prop := ∃ (m : Int32) (v1 v2 x0 x7 x8 : Value) (Ls : List Nat) (K V : Nat → Value) (l r p : Nat → Option Nat) (c : Nat → Int32) (ps ia ib : Nat → Nat) (root : Option Nat), fs = .int m :: v1 :: v2 :: triL K V Ls ∧ h a = some (true, false, 42, [x0, v2, .null, rfO root, .int (Int32.ofNat Ls.length), .int m, v1, x7, x8]) ∧ THp h Ls K V l r p c ∧ (∀ t e, Ls[t]? = some e → ps e = t) ∧ WFc (fun e => e ∈ Ls) Ls.length ps root ia ib l r p ∧ Ls.length ≤ 100000
/-- BitSet (3) -/
def JB (fs : List Value) (a : Nat) (h : lHeap) : Prop := ∃ (e n wiu : Nat) (ws : Nat → Int64), h a = some (true, false, 3, [.ref e, .int (Int32.ofNat wiu), .int 0]) ∧ e ≠ a ∧ h e = some (true, true, 1, (List.range n).map (fun i => Value.long (ws i))) ∧ 1 ≤ n ∧ n ≤ 40000 ∧ fs.length ≤ 64 * n ∧ fs.length ≤ 1000000 ∧ wiu ≤ n ∧ (∀ i, wiu ≤ i → ws i = 0) ∧ (wiu = 0 ∨ ws (wiu - 1) ≠ 0) ∧ (∀ v ∈ fs, v = .int 0 ∨ v = .int 1) ∧ ∀ q, bit fs q = (ws (q / 64)).toBitVec.getLsbD (q % 64)
/-- text builders (35): characters below 128 -/
def jchr (fs : List Value) : Prop := ∀ v ∈ fs, ∃ c : Nat, c < 128 ∧ v = .int (Int32.ofNat c)
def JS (fs : List Value) (a : Nat) (h : lHeap) (k : Nat) : Prop := ∃ (e cap : Nat) (x : Value) (rest : List Value), h a = some (true, false, 35, [.ref e, .int 0, x, .int (Int32.ofNat fs.length)]) ∧ e ≠ a ∧ h e = some (true, true, 2, fs ++ rest) ∧ fs.length + rest.length = cap ∧ 16 ≤ cap ∧ cap ≤ 300000 ∧ fs.length ≤ 100000 ∧ jchr (fs ++ rest) ∧ 8 * fs.length ≤ k + 2 * cap
/-- PriorityQueue (37): as they lie -/
def JQ (fs : List Value) (a : Nat) (h : lHeap) : Prop := ∃ (e cap : Nat) (m : Int32), h a = some (true, false, 37, [.ref e, .int (Int32.ofNat fs.length), .null, .int m]) ∧ fs.length ≤ cap ∧ 11 ≤ cap ∧ cap ≤ 300000 ∧ e ≠ a ∧ h e = some (true, true, 6, jfil fs cap)
/-- String (0): characters below 128 -/
def JW (G : lHeap) (fs : List Value) (a : Nat) (h : lHeap) : Prop := ∃ (w : Bool) (e : Nat) (hs hz : Int32), h a = some (w, false, 0, [.ref e, .int 0, .int hs, .int hz]) ∧ (∃ we, (h e = some (we, true, 2, fs) ∨ G e = some (we, true, 2, fs))) ∧ e ≠ a ∧ fs.length ≤ 200000 ∧ jchr fs ∧ (hs ≠ 0 → hsh fs 0 = some hs) ∧ (hz ≠ 0 → hz = 1 ∧ hsh fs 0 = some 0) ∧ (G a = none → w = true)
def lJd (E : lE) (G : lHeap) : lJ := fun ci fs a h k => (ci = 1013 ∧ JL E fs a h k) ∨ (ci = 1004 ∧ JD fs a h) ∨ (ci = 1042 ∧ JT fs a h) ∨ (ci = 1003 ∧ JB fs a h) ∨ (ci = 1035 ∧ JS fs a h k) ∨ (ci = 1037 ∧ JQ fs a h) ∨ (ci = 1000 ∧ JW G fs a h)
theorem lJd_ok {E : lE} {G : lHeap} : lJok (lJd E G) := by
  intro ci fs a h k hj
  rcases hj with ⟨rfl, m, es, e, cap, _, h1, _⟩ | ⟨rfl, e, hd, cap, f, h1, _⟩ | ⟨rfl, m, v1, v2, x0, x7, x8, Ls, K, V, l, r, p, c, ps, ia, ib, root, _, h1, _⟩ | ⟨rfl, e, n, wiu, ws, h1, _⟩ | ⟨rfl, e, cap, x, rest, h1, _⟩ | ⟨rfl, e, cap, m, h1, _⟩ | ⟨rfl, w, e, hs, hz, h1, _⟩
  all_goals exact ⟨_, _, h1⟩
section
variable {E : lE} {G : lHeap} {fs : List Value} {a k : Nat} {h : lHeap}
theorem lJd_L (hj : lJd E G 1013 fs a h k) : JL E fs a h k := by
  rcases hj with ⟨_, z⟩ | ⟨e, _⟩ | ⟨e, _⟩ | ⟨e, _⟩ | ⟨e, _⟩ | ⟨e, _⟩ | ⟨e, _⟩
  · exact z
  all_goals omega
theorem lJd_D (hj : lJd E G 1004 fs a h k) : JD fs a h := by
  rcases hj with ⟨e, _⟩ | ⟨_, z⟩ | ⟨e, _⟩ | ⟨e, _⟩ | ⟨e, _⟩ | ⟨e, _⟩ | ⟨e, _⟩
  · omega
  · exact z
  all_goals omega
theorem lJd_T (hj : lJd E G 1042 fs a h k) : JT fs a h := by
  rcases hj with ⟨e, _⟩ | ⟨e, _⟩ | ⟨_, z⟩ | ⟨e, _⟩ | ⟨e, _⟩ | ⟨e, _⟩ | ⟨e, _⟩
  · omega
  · omega
  · exact z
  all_goals omega
theorem lJd_B (hj : lJd E G 1003 fs a h k) : JB fs a h := by
  rcases hj with ⟨e, _⟩ | ⟨e, _⟩ | ⟨e, _⟩ | ⟨_, z⟩ | ⟨e, _⟩ | ⟨e, _⟩ | ⟨e, _⟩
  · omega
  · omega
  · omega
  · exact z
  all_goals omega
theorem lJd_S (hj : lJd E G 1035 fs a h k) : JS fs a h k := by
  rcases hj with ⟨e, _⟩ | ⟨e, _⟩ | ⟨e, _⟩ | ⟨e, _⟩ | ⟨_, z⟩ | ⟨e, _⟩ | ⟨e, _⟩
  · omega
  · omega
  · omega
  · omega
  · exact z
  all_goals omega
theorem lJd_Q (hj : lJd E G 1037 fs a h k) : JQ fs a h := by
  rcases hj with ⟨e, _⟩ | ⟨e, _⟩ | ⟨e, _⟩ | ⟨e, _⟩ | ⟨e, _⟩ | ⟨_, z⟩ | ⟨e, _⟩
  · omega
  · omega
  · omega
  · omega
  · omega
  · exact z
  · omega
theorem lJd_W (hj : lJd E G 1000 fs a h k) : JW G fs a h := by
  rcases hj with ⟨e, _⟩ | ⟨e, _⟩ | ⟨e, _⟩ | ⟨e, _⟩ | ⟨e, _⟩ | ⟨e, _⟩ | ⟨_, z⟩
  · omega
  · omega
  · omega
  · omega
  · omega
  · omega
  · exact z
end
