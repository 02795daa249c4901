/-! the plan: the relation -/
/-- doors -/
def dcC (t : TS) (l k : Nat) : lCell := (true, false, 60, [.int (t.2.2.1 55 (6 * l + k)), .int (t.2.2.1 56 (6 * l + k)), .int (t.2.2.1 57 (6 * l + k))])
def okDoor (t : TS) (L : PLn) (l k : Nat) : Prop := ∃ a b r, t.2.2.1 55 (6 * l + k) = Int32.ofNat a ∧ t.2.2.1 56 (6 * l + k) = Int32.ofNat b ∧ t.2.2.1 57 (6 * l + k) = Int32.ofNat r ∧ a < b ∧ b ≤ pN L l ∧ 1 ≤ r ∧ r ≤ 5
def D2 (h : lHeap) (t : TS) (L : PLn) (nl : Nat) (LD : Nat → Nat) (DC : Nat → Nat → Nat) (nd : Nat → Nat) : Prop := (∀ l, l < nl → t.2.2.1 54 l = Int32.ofNat (nd l) ∧ nd l ≤ 6 ∧ 179 ≤ LD l ∧ (∃ m : Int32, h (LD l) = some (true, false, 1013, .int m :: rowC (fun k => .ref (DC l k)) (nd l))) ∧ ∀ k, k < nd l → h (DC l k) = some (dcC t l k) ∧ 179 ≤ DC l k ∧ okDoor t L l k) ∧ ∀ l m, l < nl → m < nl → LD l = LD m → l = m
/-- lines -/
def L2 (h : lHeap) (t : TS) (L : PLn) (nl : Nat) (LC LD : Nat → Nat) : Prop := gdL L nl ∧ lnR t L nl ∧ (∃ ml, lnH h L nl LC LD ml) ∧ ∀ l, l < nl → 179 ≤ LC l
/-- what was found last: the spaces' names are the reference's -/
def F2 (h : lHeap) (t : TS) (L : PLn) (nl : Nat) (LC LD : Nat → Nat) (fd : Nat) : Prop := ∃ (Lf : PLn) (nf nr : Nat) (st ln : Nat → Nat) (lab : Int → Int → Int) (fL ou ol mp : Nat) (pid nid aid : Nat → Nat → Nat) (si rc rl sp sl : Nat → Nat), FT t Lf nf nr st ln lab (fun k => t.2.2.1 64 k) ∧ FD 179 h Lf nf nr st ln LC fd fL ou ol mp pid nid aid si rc rl sp sl (fun k => if lfB Lf nf st ln k = true then .ref (sp (spn Lf nf st ln k)) else .ref (spo ou sp (fcS Lf nf st lab k))) (fun k => t.2.2.1 64 k) (inF Lf nf st lab (KRs Lf nf nr st ln)) ∧ nf ≤ nl ∧ (∀ l, l < nf → pFl Lf l = pFl L l) ∧ (t.1 110 = 1 → nf = nl ∧ ∀ l, l < nl → Lf l = L l) ∧ (∀ k, k < spn Lf nf st ln nr → bel (t.2.2.1 64 k) 1001) ∧ ∀ l, l < nl → LD l ≠ fL ∧ LD l ≠ ol ∧ (∀ k, k < nr → LD l ≠ rl k) ∧ ∀ j, j < spn Lf nf st ln nr → LD l ≠ sl j
def R2x (h : lHeap) (t : TS) (L : PLn) (nl : Nat) (LC LD : Nat → Nat) (DC : Nat → Nat → Nat) (nd : Nat → Nat) (fo be co : Value) (fi : Nat) : Prop := h 102 = some (true, false, 67, [.ref 103, fo, be, co, .int (t.1 110), .int (t.1 111), .int (t.1 1)]) ∧ v01 (t.1 1) ∧ t.1 111 = Int32.ofNat fi ∧ fi ≤ 60 ∧ L2 h t L nl LC LD ∧ D2 h t L nl LD DC nd ∧ ((fo = .null ∧ t.1 109 = 0 ∧ t.1 110 = 0) ∨ ∃ fd, fo = .ref fd ∧ t.1 109 = 1 ∧ v01 (t.1 110) ∧ F2 h t L nl LC LD fd)
def R2 (h : lHeap) (t : TS) : Prop := ∃ L nl LC LD DC nd fo be co fi, R2x h t L nl LC LD DC nd fo be co fi
section
variable {h h' : lHeap} {t T : TS} {L : PLn} {nl : Nat} {LC LD : Nat → Nat} {DC : Nat → Nat → Nat} {nd : Nat → Nat} {fo be co : Value} {fi : Nat}
theorem FT_cg {nr : Nat} {st ln : Nat → Nat} {lab : Int → Int → Int} {nm : Nat → Int32} {Lf : PLn} {nf : Nat} (r : FT t Lf nf nr st ln lab nm) {I R : List Nat} (a : agr I R t T) (h0 : 127 ∉ I ∧ 130 ∉ I ∧ 112 ∉ I ∧ 113 ∉ I ∧ 135 ∉ I ∧ 117 ∉ I) (h1 : 52 ∉ R ∧ 66 ∉ R ∧ 67 ∉ R ∧ 68 ∉ R ∧ 69 ∉ R ∧ 70 ∉ R ∧ 58 ∉ R ∧ 59 ∉ R ∧ 60 ∉ R) (h2 : 72 ∉ R ∧ 73 ∉ R ∧ 64 ∉ R) : FT T Lf nf nr st ln lab nm := by
  obtain ⟨r1, r2, r3, r4, ⟨ps, r5⟩, r6, r7, r8⟩ := r
  exact ⟨r1, r2, r3, r4, ⟨ps, TGe_cg r5 a ⟨h0.1, h0.2.1, h0.2.2.1, h0.2.2.2.1⟩ h1⟩, rgR_cg r6 a h0.2.2.2.2.1 ⟨h2.1, h2.2.1⟩, by rw [a.1 117 h0.2.2.2.2.2]; exact r7, by rw [a.2.2.1 64 h2.2.2]; exact r8⟩
end
