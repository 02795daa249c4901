/-! the component's store: cells by numbers, the next number, cells and slots that were taken -/
abbrev CS : Type := (Nat → Option lCell) × Nat × Nat × Nat
def vB : Option Int32 → Value
  | none => .null
  | some v => .int v
def toI : Value → Option Int32
  | .int x => some x
  | _ => none
def toL : Value → Option Int64
  | .long x => some x
  | _ => none
def toO : Value → Option (Option Nat)
  | .ref a => some (some a)
  | .null => some none
  | _ => none
def toP : Value → Option Nat
  | .ref a => some a
  | _ => none
/-- an object's field -/
def xV (s : CS) (tab : List (Nat × Nat)) (a : Nat) : Option Value := match s.1 a with
  | some (_, false, ci, fs) => Option.bind (lLook tab ci) (fun k => fs[k]?)
  | _ => none
def xI (s : CS) (tab : List (Nat × Nat)) (a : Nat) : Option Int32 := Option.bind (xV s tab a) toI
def xL (s : CS) (tab : List (Nat × Nat)) (a : Nat) : Option Int64 := Option.bind (xV s tab a) toL
def xR (s : CS) (tab : List (Nat × Nat)) (a : Nat) : Option (Option Nat) := Option.bind (xV s tab a) toO
def xN (s : CS) (tab : List (Nat × Nat)) (a : Nat) : Option Nat := Option.bind (xV s tab a) toP
def cup (s : CS) (a : Nat) (c : lCell) : CS := (lUpd s.1 a c, s.2)
def chg (s : CS) (n m : Nat) : CS := (s.1, s.2.1, s.2.2.1 + n, s.2.2.2 + m)
def xP (s : CS) (tab : List (Nat × Nat)) (a : Nat) (v : Value) : Option CS := match s.1 a with
  | some (true, false, ci, fs) => Option.bind (lLook tab ci) (fun k => if k < fs.length then some (cup s a (true, false, ci, fs.set k v)) else none)
  | _ => none
def nwc (s : CS) (c : lCell) (n m : Nat) : Nat × CS := (s.2.1, (lUpd s.1 s.2.1 c, s.2.1 + 1, s.2.2.1 + n, s.2.2.2 + m))
def nw (s : CS) (ci : Nat) (fs : List Value) : Nat × CS := nwc s (true, false, ci, fs) 1 fs.length
def nwa (s : CS) (t : Nat) (dv : Value) (n : Int32) : Option (Nat × CS) := if ¬ n < 0 ∧ n.toNatClampNeg ≤ 1000000 then some (nwc s (true, true, t, List.replicate n.toNatClampNeg dv) 1 n.toNatClampNeg) else none
def cln (s : CS) (t a : Nat) : Option (Nat × CS) := match s.1 a with
  | some (_, true, t', xs) => if t' = t ∧ xs.all (fun v => match toO v with | some _ => true | none => false) = true then some (nwc s (true, true, t, xs) 1 xs.length) else none
  | _ => none
/-- an array -/
def aCell (s : CS) (a : Nat) : Option (Bool × Nat × List Value) := match s.1 a with
  | some (w, true, t, xs) => if t < 1000 then some (w, t, xs) else none
  | _ => none
def aLen (s : CS) (a : Nat) : Option Int32 := Option.bind (aCell s a) (fun c => some c.2.2.length.toInt32)
def aV (s : CS) (ts : List Nat) (a : Nat) (i : Int32) : Option Value := Option.bind (aCell s a) (fun c => if ts.contains c.2.1 = true ∧ ¬ i < 0 then c.2.2[i.toNatClampNeg]? else none)
def aI (s : CS) (ts : List Nat) (a : Nat) (i : Int32) : Option Int32 := Option.bind (aV s ts a i) toI
def aL (s : CS) (a : Nat) (i : Int32) : Option Int64 := Option.bind (aV s [1] a i) toL
def aR (s : CS) (a : Nat) (i : Int32) : Option (Option Nat) := Option.bind (aV s [6, 7, 8, 9, 10, 11] a i) toO
def aN (s : CS) (a : Nat) (i : Int32) : Option Nat := Option.bind (aV s [6, 7, 8, 9, 10, 11] a i) toP
def aPut (s : CS) (t a : Nat) (i : Int32) (v : Value) : Option CS := match s.1 a with
  | some (true, true, t', xs) => if t' = t ∧ ¬ i < 0 ∧ i.toNatClampNeg < xs.length then some (cup s a (true, true, t, xs.set i.toNatClampNeg v)) else none
  | _ => none
def aPutB (s : CS) (a : Nat) (i x : Int32) : Option CS := aPut s 3 a i (.int (x &&& 1))
def kdo (s : CS) (a : Nat) : Option Nat := match s.1 a with
  | some (_, false, ci, _) => some (ci % 1000)
  | _ => none
def isK (s : CS) (tab : List Nat) (a : Nat) : Bool := match kdo s a with
  | some k => tab.contains k
  | none => false
def isKo (s : CS) (tab : List Nat) (o : Option Nat) : Bool := match o with
  | some a => isK s tab a
  | none => true
/-- as a new throwable is before its stack trace would be filled in -/
def isF (s : CS) (t1 t2 : List (Nat × Nat)) (a : Nat) : Bool := match s.1 a with
  | some (true, false, ci, fs) => decide (ci < 1000) && (match lLook t1 ci, lLook t2 ci with
    | some k, some kb => decide (fs[k]? = some (.ref 17)) && decide (fs[kb]? = some .null)
    | _, _ => false)
  | _ => false
def isAr (s : CS) (ts : List Nat) (a : Nat) : Bool := match s.1 a with
  | some (_, true, t, _) => decide (t < 1000) && ts.contains t
  | _ => false
/-- may be thrown -/
def isX (s : CS) (a : Nat) : Bool := match s.1 a with
  | some (_, false, ci, _) => decide (ci ≠ 0) && decide (ci < 1000)
  | _ => false
/-- no text (texts may be one and the same under two numbers) -/
def nst (s : CS) : Value → Bool
  | .ref a => match s.1 a with
    | some x => x.2.2.1 != 1000
    | none => false
  | .null => true
  | _ => false
def aPutR (s : CS) (a : Nat) (i : Int32) (o : Option Nat) : Option CS := match s.1 a with
  | some (true, true, t, xs) => if t < 1000 ∧ ¬ i < 0 ∧ i.toNatClampNeg < xs.length ∧ (match o with | none => raTab.any (fun q => q.1 == t) | some b => (match kdo s b with | some k => raTab.contains (t, k) | none => false)) = true then some (cup s a (true, true, t, xs.set i.toNatClampNeg (vR o))) else none
  | _ => none
/-! what lies in collections: objects by their numbers, boxed numbers as numbers -/
def toN (s : CS) (tab : List Nat) (e : Value) : Option Nat := match e with
  | .ref a => if isK s tab a = true then some a else none
  | _ => none
def toR (s : CS) (tab : List Nat) (e : Value) : Option (Option Nat) := match e with
  | .ref a => if isK s tab a = true then some (some a) else none
  | .null => some none
  | _ => none
def toB (e : Value) : Option Int32 := match e with
  | .int x => some x
  | _ => none
def toOB (e : Value) : Option (Option Int32) := match e with
  | .int x => some (some x)
  | .null => some none
  | _ => none
/-- contents of a collection of kind k -/
def cc (s : CS) (k a : Nat) : Option (List Value) := match s.1 a with
  | some (true, false, k', xs) => if k' = k then some xs else none
  | _ => none
def ccI (s : CS) (k k' a : Nat) (fs0 xs : List Value) : Option CS := match s.1 a with
  | some (true, false, k0, fs) => if k0 = k ∧ fs = fs0 then some (cup s a (true, false, k', xs)) else none
  | _ => none
def cput (s : CS) (k a n m : Nat) (xs : List Value) : CS := chg (cup s a (true, false, k, xs)) n m
/-! lists (contents behind the count of changes) -/
def alC (s : CS) (a : Nat) : Option (Int32 × List Value) := Option.bind (cc s 1013 a) (fun xs => match xs with
  | .int m :: es => some (m, es)
  | _ => none)
def alInit (s : CS) (a : Nat) : Option CS := ccI s 13 1013 a [.int 0, .null, .int 0] [.int 0]
def alSize (s : CS) (a : Nat) : Option Int32 := Option.bind (alC s a) (fun c => some c.2.length.toInt32)
def alEmpty (s : CS) (a : Nat) : Option Int32 := Option.bind (alC s a) (fun c => some (if c.2.length = 0 then 1 else 0))
def alGet (s : CS) (a : Nat) (i : Int32) : Option Value := Option.bind (alC s a) (fun c => if ¬ i < 0 then c.2[i.toNatClampNeg]? else none)
/-- what may lie in a list: no array -/
def elO (s : CS) (v : Value) : Bool := match v with
  | .ref a => (kdo s a).isSome
  | _ => true
def alAdd (s : CS) (a : Nat) (v : Value) : Option CS := Option.bind (alC s a) (fun c => if c.2.length < 500000 ∧ elO s v = true then some (cput s 1013 a 1 16 (.int (c.1 + 1) :: (c.2 ++ [v]))) else none)
def alClear (s : CS) (a : Nat) : Option CS := Option.bind (alC s a) (fun c => some (cput s 1013 a 0 0 [.int (c.1 + 1)]))
def alAddAll (s : CS) (a b : Nat) : Option (Int32 × CS) := Option.bind (alC s a) (fun c => Option.bind (alC s b) (fun e => if c.2.length + e.2.length < 500000 ∧ ¬ a = b then some (if e.2.length = 0 then 0 else 1, cput s 1013 a 2 (17 * e.2.length + 16) (.int (c.1 + 1) :: (c.2 ++ e.2))) else none))
def alMc (s : CS) (a : Nat) : Option (Int32 × CS) := Option.bind (alC s a) (fun c => some (c.1, chg s 1 4))
def alHas (s : CS) (a : Nat) (i : Int32) : Option Int32 := Option.bind (alC s a) (fun c => some (if i = c.2.length.toInt32 then 0 else 1))
def alNext (s : CS) (a : Nat) (m i : Int32) : Option Value := Option.bind (alC s a) (fun c => if c.1 = m ∧ ¬ i < 0 then c.2[i.toNatClampNeg]? else none)
/-! queues -/
def adC (s : CS) (a : Nat) : Option (List Value) := cc s 1004 a
def adInit (s : CS) (a : Nat) : Option CS := Option.bind (ccI s 4 1004 a [.null, .int 0, .int 0] []) (fun s => some (chg s 1 17))
def adEmpty (s : CS) (a : Nat) : Option Int32 := Option.bind (adC s a) (fun es => some (if es.length = 0 then 1 else 0))
def adSize (s : CS) (a : Nat) : Option Int32 := Option.bind (adC s a) (fun es => some es.length.toInt32)
/-- whether the ring may grow (it holds sixteen from the start) -/
def adG (n : Nat) : Nat := if n < 16 then 0 else 1
def adAdd (s : CS) (a : Nat) (v : Value) : Option CS := Option.bind (adC s a) (fun es => if es.length < 100000 ∧ v ≠ .null ∧ elO s v = true then some (cput s 1004 a (adG es.length) (adG es.length * (2 * es.length + 40)) (es ++ [v])) else none)
def adRem (s : CS) (a : Nat) : Option (Value × CS) := Option.bind (adC s a) (fun es => match es with
  | e :: r => some (e, cput s 1004 a 0 0 r)
  | [] => none)
def adFirst (s : CS) (a : Nat) : Option Value := Option.bind (adC s a) (fun es => es.head?)
/-! maps: keys in their order -/
def cmpI (a b : Int32) : Int32 := if a < b then -1 else if a = b then 0 else 1
def cmpL (a b : Int64) : Int32 := if a < b then -1 else if a = b then 0 else 1
def cmpK (s : CS) (x y : Value) : Option Int32 := match x, y with
  | .int a, .int b => some (cmpI a b)
  | .long a, .long b => some (cmpL a b)
  | .ref a, .ref b => if isK s [63] a = true ∧ isK s [63] b = true then
      Option.bind (xI s [(63, 0)] a) (fun x => Option.bind (xI s [(63, 0)] b) (fun x2 => if x = x2 then Option.bind (xI s [(63, 1)] a) (fun y => Option.bind (xI s [(63, 1)] b) (fun y2 => some (cmpI y y2))) else some (cmpI x x2)))
    else if isK s [91] a = true ∧ isK s [91] b = true then
      Option.bind (xI s [(91, 2)] a) (fun x => Option.bind (xI s [(91, 2)] b) (fun x2 => if x = x2 then Option.bind (xI s [(91, 0)] a) (fun y => Option.bind (xI s [(91, 0)] b) (fun y2 => some (cmpI y y2))) else some (cmpI x2 x)))
    else none
  | _, _ => none
def prs : List Value → List (Value × Value)
  | k :: v :: r => (k, v) :: prs r
  | _ => []
def fl : List (Value × Value) → List Value
  | [] => []
  | (k, v) :: r => k :: v :: fl r
def srt (s : CS) : List (Value × Value) → Prop
  | [] => True
  | e :: r => (∀ q ∈ r, cmpK s e.1 q.1 = some (-1)) ∧ srt s r
def tmC (s : CS) (a : Nat) : Option (Int32 × List (Value × Value)) := Option.bind (cc s 1042 a) (fun xs => match xs with
  | .int m :: es => some (m, prs es)
  | _ => none)
/-- a map in whose order a key has a place -/
noncomputable def tmK (s : CS) (a : Nat) (k : Value) : Option (Int32 × List (Value × Value)) := Option.bind (tmC s a) (fun c => @ite _ (srt s c.2 ∧ (∀ e ∈ c.2, (cmpK s k e.1).isSome = true) ∧ (cmpK s k k).isSome = true) (Classical.propDecidable _) (some c) none)
def tmInit (s : CS) (a : Nat) : Option CS := ccI s 42 1042 a [.null, .null, .null, .null, .int 0, .int 0, .null, .null, .null] [.int 0]
def fnd (s : CS) (k : Value) (es : List (Value × Value)) : Option (Value × Value) := es.find? (fun e => cmpK s k e.1 == some 0)
def ins (s : CS) (k v : Value) : List (Value × Value) → List (Value × Value)
  | [] => [(k, v)]
  | e :: r => if cmpK s k e.1 = some (-1) then (k, v) :: e :: r else e :: ins s k v r
noncomputable def tmGet (s : CS) (a : Nat) (k : Value) : Option Value := Option.bind (tmK s a k) (fun c => some (match fnd s k c.2 with
  | some e => e.2
  | none => .null))
noncomputable def tmHas (s : CS) (a : Nat) (k : Value) : Option Int32 := Option.bind (tmK s a k) (fun c => some (match fnd s k c.2 with
  | some _ => 1
  | none => 0))
noncomputable def tmPut (s : CS) (a : Nat) (k v : Value) : Option (Value × CS) := Option.bind (tmK s a k) (fun c => if c.2.length < 100000 then some (match fnd s k c.2 with
  | some e => (e.2, cput s 1042 a 0 0 (.int c.1 :: fl (c.2.map (fun q => if cmpK s k q.1 = some 0 then (q.1, v) else q))))
  | none => (.null, cput s 1042 a 1 6 (.int (c.1 + 1) :: fl (ins s k v c.2)))) else none)
noncomputable def tmRem (s : CS) (a : Nat) (k : Value) : Option (Value × CS) := Option.bind (tmK s a k) (fun c => some (match fnd s k c.2 with
  | some e => (e.2, cput s 1042 a 1 0 (.int (c.1 + 1) :: fl (c.2.filter (fun q => !(cmpK s k q.1 == some 0)))))
  | none => (.null, s)))
noncomputable def tmLower (s : CS) (a : Nat) (k : Value) : Option Value := Option.bind (tmK s a k) (fun c => some (match (c.2.filter (fun q => cmpK s k q.1 == some 1)).getLast? with
  | some e => e.1
  | none => .null))
def tmSize (s : CS) (a : Nat) : Option Int32 := Option.bind (tmC s a) (fun c => some c.2.length.toInt32)
def tmEmpty (s : CS) (a : Nat) : Option Int32 := Option.bind (tmC s a) (fun c => some (if c.2.length = 0 then 1 else 0))
def tmFirst (s : CS) (a : Nat) : Option Value := Option.bind (tmC s a) (fun c => Option.bind c.2.head? (fun e => some e.1))
def tmClear (s : CS) (a : Nat) : Option CS := Option.bind (tmC s a) (fun c => some (cput s 1042 a 1 0 [.int (c.1 + 1)]))
def tmVw (s : CS) (a : Nat) : Option CS := Option.bind (tmC s a) (fun _ => some (chg s 1 1))
def tmMc (s : CS) (a : Nat) : Option (Int32 × CS) := Option.bind (tmC s a) (fun c => some (c.1, chg s 1 4))
/-- a map that hasn't changed since its iterator was made -/
def tmM (s : CS) (a : Nat) (m : Int32) : Option (List (Value × Value)) := Option.bind (tmC s a) (fun c => if c.1 = m ∧ s.2.2.1 < 4000000000 then some c.2 else none)
def tmIHas (s : CS) (a : Nat) (m : Int32) (i : Nat) : Option Int32 := Option.bind (tmM s a m) (fun es => some (if i < es.length then 1 else 0))
def tmNx (s : CS) (a : Nat) (m : Int32) (i : Nat) : Option Unit := Option.bind (tmM s a m) (fun es => if i < es.length then some () else none)
def tmKey (s : CS) (a : Nat) (m : Int32) (i : Nat) : Option Value := Option.bind (tmM s a m) (fun es => Option.bind es[i]? (fun e => some e.1))
def tmVal (s : CS) (a : Nat) (m : Int32) (i : Nat) : Option Value := Option.bind (tmM s a m) (fun es => Option.bind es[i]? (fun e => some e.2))
def tmNxV (s : CS) (a : Nat) (m : Int32) (i : Nat) : Option Value := tmVal s a m i
/-! bits -/
def bsC (s : CS) (a : Nat) : Option (List Value) := cc s 1003 a
def bit (xs : List Value) (k : Nat) : Bool := xs[k]? == some (.int 1)
def bsInit (s : CS) (a : Nat) : Option CS := Option.bind (ccI s 3 1003 a [.null, .int 0, .int 0] []) (fun s => some (chg s 1 1))
def bsGet (s : CS) (a : Nat) (i : Int32) : Option Int32 := Option.bind (bsC s a) (fun xs => if ¬ i < 0 then some (if bit xs i.toNatClampNeg = true then 1 else 0) else none)
def setB (xs : List Value) (k : Nat) : List Value := if k < xs.length then xs.set k (.int 1) else xs ++ List.replicate (k - xs.length) (.int 0) ++ [.int 1]
/-- whether the words grow (one word there is always) -/
def bsG (xs : List Value) (k : Nat) : Nat := if k < 64 ∨ k / 64 < (xs.length + 63) / 64 then 0 else 1
def bsSet (s : CS) (a : Nat) (i : Int32) : Option CS := Option.bind (bsC s a) (fun xs => if ¬ i < 0 ∧ i.toNatClampNeg < 1000000 then some (cput s 1003 a (bsG xs i.toNatClampNeg) (bsG xs i.toNatClampNeg * (2 * (i.toNatClampNeg / 64) + 2)) (setB xs i.toNatClampNeg)) else none)
def bsSetB (s : CS) (a : Nat) (i b : Int32) : Option CS := if b = 0 then Option.bind (bsC s a) (fun xs => if ¬ i < 0 then some (cput s 1003 a 0 0 (xs.set i.toNatClampNeg (.int 0))) else none) else bsSet s a i
def nxt (xs : List Value) : Nat → Nat → Option Nat
  | 0, _ => none
  | n + 1, k => if bit xs k = true then some k else nxt xs n (k + 1)
def bsNext (s : CS) (a : Nat) (i : Int32) : Option Int32 := Option.bind (bsC s a) (fun xs => if ¬ i < 0 then some (match nxt xs (xs.length - i.toNatClampNeg) i.toNatClampNeg with
  | some k => k.toInt32
  | none => -1) else none)
def bsOr (s : CS) (a b : Nat) : Option CS := Option.bind (bsC s a) (fun xs => Option.bind (bsC s b) (fun ys => if ¬ a = b ∧ (ys.length = 0 ∨ bit ys (ys.length - 1) = true) then some (cput s 1003 a 1 (2 * (ys.length / 64) + 2) ((List.range (max xs.length ys.length)).map (fun k => .int (if bit xs k || bit ys k then 1 else 0)))) else none))
def bsCard (s : CS) (a : Nat) : Option Int32 := Option.bind (bsC s a) (fun xs => some ((xs.filter (fun v => v == .int 1)).length.toInt32))
/-! texts -/
def stC (s : CS) (a : Nat) : Option (List Value) := match s.1 a with
  | some (_, false, 1000, xs) => some xs
  | _ => none
def stLen (s : CS) (a : Nat) : Option Int32 := Option.bind (stC s a) (fun xs => some xs.length.toInt32)
def stEmpty (s : CS) (a : Nat) : Option Int32 := Option.bind (stC s a) (fun xs => some (if xs.length = 0 then 1 else 0))
def stAt (s : CS) (a : Nat) (i : Int32) : Option Int32 := Option.bind (stC s a) (fun xs => if ¬ i < 0 then Option.bind xs[i.toNatClampNeg]? toI else none)
def stEq (s : CS) (a : Nat) (o : Option Nat) : Option Int32 := Option.bind (stC s a) (fun xs => Option.bind o (fun b => Option.bind (stC s b) (fun ys => some (if xs = ys then 1 else 0))))
def hsh : List Value → Int32 → Option Int32
  | [], h => some h
  | v :: r, h => Option.bind (toI v) (fun c => hsh r (31 * h + c))
/-- of a text that was made (its hash is kept in it) -/
def stHash (s : CS) (a : Nat) : Option Int32 := match s.1 a with
  | some (true, false, 1000, xs) => hsh xs 0
  | _ => none
def idx : List Value → Int32 → Nat → Int32
  | [], _, _ => -1
  | v :: r, c, k => if v = .int c then k.toInt32 else idx r c (k + 1)
def stIdx (s : CS) (a : Nat) (c : Int32) : Option Int32 := Option.bind (stC s a) (fun xs => some (idx xs c 0))
def nwS (s : CS) (xs : List Value) : Nat × CS := nwc s (true, false, 1000, xs) 2 (xs.length + 4)
def sbCt (s : CS) (a : Nat) : Option (List Value) := cc s 1035 a
def sbInit (s : CS) (a : Nat) : Option CS := Option.bind (ccI s 35 1035 a [.null, .int 0, .int 0, .int 0] []) (fun s => some (chg s 1 16))
def sbInitS (s : CS) (a b : Nat) : Option CS := Option.bind (stC s b) (fun xs => if xs.length < 100000 then Option.bind (ccI s 35 1035 a [.null, .int 0, .int 0, .int 0] xs) (fun s => some (chg s 1 (8 * xs.length + 16))) else none)
def sbLen (s : CS) (a : Nat) : Option Int32 := Option.bind (sbCt s a) (fun xs => some xs.length.toInt32)
def sbAt (s : CS) (a : Nat) (i : Int32) : Option Int32 := Option.bind (sbCt s a) (fun xs => if ¬ i < 0 then Option.bind xs[i.toNatClampNeg]? toI else none)
def sbApp (s : CS) (a : Nat) (ys : List Value) : Option CS := Option.bind (sbCt s a) (fun xs => if xs.length + ys.length < 100000 then some (cput s 1035 a 2 (8 * ys.length + 16) (xs ++ ys)) else none)
def sbC (s : CS) (a : Nat) (c : Int32) : Option CS := if ¬ c < 0 ∧ c < 128 then sbApp s a [.int c] else none
def sbS (s : CS) (a b : Nat) : Option CS := Option.bind (stC s b) (fun ys => sbApp s a ys)
def digs : Nat → Nat → List Value → List Value
  | 0, _, r => r
  | n + 1, k, r => if k < 10 then .int ((48 + k).toInt32) :: r else digs n (k / 10) (.int ((48 + k % 10).toInt32) :: r)
def sbI (s : CS) (a : Nat) (i : Int32) : Option CS := if ¬ i < 0 then sbApp s a (digs 10 i.toNatClampNeg []) else none
def sbToS (s : CS) (a : Nat) : Option (Nat × CS) := Option.bind (sbCt s a) (fun xs => some (nwS s xs))
def sbSub (s : CS) (a : Nat) (i j : Int32) : Option (Nat × CS) := Option.bind (sbCt s a) (fun xs => if ¬ i < 0 ∧ i < j ∧ j.toNatClampNeg ≤ xs.length then some (nwS s ((xs.drop i.toNatClampNeg).take (j.toNatClampNeg - i.toNatClampNeg))) else none)
def sbSet (s : CS) (a : Nat) (n : Int32) : Option CS := Option.bind (sbCt s a) (fun xs => if ¬ n < 0 ∧ n.toNatClampNeg ≤ xs.length then some (cput s 1035 a 0 0 (xs.take n.toNatClampNeg)) else none)
/-! a queue of least numbers -/
def pqC (s : CS) (a : Nat) : Option (List Value) := cc s 1037 a
def pqInit (s : CS) (a : Nat) : Option CS := Option.bind (ccI s 37 1037 a [.null, .int 0, .null, .int 0] []) (fun s => some (chg s 1 11))
def pqEmpty (s : CS) (a : Nat) : Option Int32 := Option.bind (pqC s a) (fun xs => some (if xs.length = 0 then 1 else 0))
def pins (x : Int32) : List Value → List Value
  | [] => [.int x]
  | .int y :: r => if x < y then .int x :: .int y :: r else .int y :: pins x r
  | v :: r => v :: pins x r
def pqAdd (s : CS) (a : Nat) (v : Value) : Option CS := Option.bind (pqC s a) (fun xs => Option.bind (toI v) (fun x => if xs.length < 100000 then some (cput s 1037 a 1 (2 * xs.length + 40) (pins x xs)) else none))
def pqPoll (s : CS) (a : Nat) : Option (Value × CS) := Option.bind (pqC s a) (fun xs => some (match xs with
  | [] => (.null, s)
  | v :: r => (v, cput s 1037 a 0 0 r)))
