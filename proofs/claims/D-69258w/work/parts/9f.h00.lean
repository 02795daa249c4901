/-! the gate -/
/-- what was told last of a kind and thing before the n-th telling -/
def ltd (t : TS) (k w : Nat) : Nat → Int32
  | 0 => -1
  | n + 1 => if t.2.2.1 37 n = Int32.ofNat k ∧ t.2.2.1 38 n = Int32.ofNat w then t.2.2.1 39 n else ltd t k w n
def isTl (t : TS) (k w n : Nat) : Prop := t.2.2.1 37 n = Int32.ofNat k ∧ t.2.2.1 38 n = Int32.ofNat w
/-- minutes since which something is so -/
def Snc (h : lHeap) (t : TS) (nT k w a m : Nat) : Prop := by classical exact (h a = some (true, false, 83, [.ref m]) ∧ ∃ (mc : Int32) (es : List (Value × Value)), h m = some (true, false, 1042, .int mc :: fl es) ∧ Mp rkI es (fun z => if 0 ≤ z ∧ z < (nT : Int) ∧ isTl t k w z.toNat then some (.int (t.2.2.1 39 z.toNat)) else none) ∧ ∀ x ∈ es.map Prod.fst, ∃ i, x = .int i)
def perC (t : TS) (k : Nat) : lCell := (true, false, 81, [.int (Int32.ofNat k), .int (t.2.2.1 22 k), .int (t.2.2.1 23 k), .int (t.2.2.1 24 k), .int (t.2.2.1 25 k), .int (t.2.2.1 26 k), .int (t.2.2.1 27 k), .int (t.2.2.1 28 k), .int (t.2.2.1 29 k)])
/-- where somebody is -/
def okPer (t : TS) (k : Nat) : Prop := ((t.2.2.1 24 k = t.1 9 ∧ t.2.2.1 25 k = -1 ∧ t.2.2.1 26 k = -1) ∨ (bel (t.2.2.1 24 k) (bN (t.1 9)) ∧ bel (t.2.2.1 25 k) 24 ∧ bel (t.2.2.1 26 k) 24)) ∧ (t.2.2.1 27 k = -1 ∨ ¬ t.2.2.1 27 k < 0) ∧ bel (t.2.2.1 29 k) 6001 ∧ bel (t.2.2.1 22 k) 10 ∧ bel (t.2.2.1 23 k) 6
/-- persons -/
def V1 (h : lHeap) (t : TS) (nS : Nat) (S : Nat → Nat) : Prop := (∃ mc : Int32, h 111 = some (true, false, 1013, .int mc :: rowC (fun k => .ref (S k)) nS)) ∧ t.1 27 = Int32.ofNat nS ∧ nS ≤ 40 ∧ (∀ k, k < nS → h (S k) = some (perC t k) ∧ okPer t k ∧ 179 ≤ S k) ∧ (∀ j k, j < nS → k < nS → S j = S k → j = k) ∧ ∀ k, nS ≤ k → k < 40 → t.2.2.1 28 k = 0 ∧ t.2.2.1 29 k = 0
def carD (t : TS) (S CS' CT : Nat → Nat) (k : Nat) : lCell := (true, false, 82, [.int (Int32.ofNat k), .ref (S (bN (t.2.2.1 30 k))), .int (t.2.2.1 31 k), .int (Int32.ofNat (CT k)), .ref (CS' k)])
def rigC (t : TS) (RS RT : Nat → Nat) (k : Nat) : lCell := (true, false, 84, [.int (t.2.2.1 32 k), .int (t.2.2.1 33 k), .int (t.2.2.1 34 k), .int (t.2.2.1 35 k), .int (t.2.2.1 36 k), .int (Int32.ofNat (RT k)), .ref (RS k)])
/-- tellings, cards, rights -/
def V2t (t : TS) (nT : Nat) : Prop := t.1 45 = Int32.ofNat nT ∧ ∀ j, j < nT → bel (t.2.2.1 39 j) 1000001
def V2c (h : lHeap) (t : TS) (nT nS nC : Nat) (S C CS' CM CT : Nat → Nat) : Prop := (∃ mc : Int32, h 112 = some (true, false, 1013, .int mc :: rowC (fun k => .ref (C k)) nC)) ∧ t.1 36 = Int32.ofNat nC ∧ nC ≤ 60 ∧ (∀ k, k < nC → h (C k) = some (carD t S CS' CT k) ∧ 179 ≤ C k ∧ 179 ≤ CS' k ∧ 179 ≤ CM k ∧ bel (t.2.2.1 30 k) nS ∧ Snc h t nT 3 k (CS' k) (CM k) ∧ CT k < nT ∧ isTl t 0 k (CT k) ∧ ∀ j, j < nT → isTl t 0 k j → j = CT k) ∧ (∀ j k, j < nC → k < nC → C j = C k → j = k) ∧ (∀ j k, nC ≤ k → k < 1000 → j < nT → ¬ isTl t 0 k j ∧ ¬ isTl t 3 k j)
def V2r (h : lHeap) (t : TS) (nT nR : Nat) (E RS RM' RT : Nat → Nat) : Prop := (∃ mc : Int32, h 113 = some (true, false, 1013, .int mc :: rowC (fun k => .ref (E k)) nR)) ∧ t.1 39 = Int32.ofNat nR ∧ nR ≤ 16 ∧ (∀ k, k < nR → h (E k) = some (rigC t RS RT k) ∧ 179 ≤ E k ∧ 179 ≤ RS k ∧ 179 ≤ RM' k ∧ bel (t.2.2.1 36 k) 1000001 ∧ Snc h t nT 2 k (RS k) (RM' k) ∧ RT k < nT ∧ isTl t 1 k (RT k) ∧ ∀ j, j < nT → isTl t 1 k j → j = RT k) ∧ (∀ j k, nR ≤ k → k < 1000 → j < nT → ¬ isTl t 1 k j ∧ ¬ isTl t 2 k j)
/-- maps of cards and rights are apart -/
def V2d (nC nR : Nat) (CM RM' : Nat → Nat) : Prop := (∀ j k, j < nC → k < nC → CM j = CM k → j = k) ∧ (∀ j k, j < nR → k < nR → RM' j = RM' k → j = k) ∧ ∀ j k, j < nC → k < nR → CM j ≠ RM' k
def knw (x : Int32) : Int32 := if x = 1000000 then 2147483647 else x
def flB (t : TS) (p : Nat) : Int32 := t.2.2.1 52 (bN (t.2.2.1 9 p))
def cxP (t : TS) (p : Nat) : Int32 := t.2.2.1 50 (bN (t.2.2.1 9 p)) + (if flB t p = 0 then 0 else t.2.2.1 11 p)
def cyP (t : TS) (p : Nat) : Int32 := t.2.2.1 51 (bN (t.2.2.1 9 p)) + (if flB t p = 0 then t.2.2.1 11 p else 0)
def porC (t : TS) (G D L : Nat → Nat) (p : Nat) : lCell := (true, false, 80, [.int (Int32.ofNat p), .ref (G p), .int (t.2.2.1 7 p), .int (t.2.2.1 8 p), .int (cxP t p), .int (cyP t p), .int (flB t p), .int (t.2.2.1 12 p), .int (t.2.2.1 13 p), .int (t.2.2.1 14 p), .int (knw (t.2.2.1 15 p)), .ref (D p), .ref (L p)])
/-- the cell of a portal in a room -/
def xIn (t : TS) (p : Nat) (r : Int32) : Int32 := if flB t p = 0 ∧ r = t.2.2.1 7 p then cxP t p - 1 else cxP t p
def yIn (t : TS) (p : Nat) (r : Int32) : Int32 := if flB t p ≠ 0 ∧ r = t.2.2.1 8 p then cyP t p - 1 else cyP t p
def inC (x : Int32) : Prop := bel x 24
/-- what a portal is, unchanged once it is built -/
def okPor (t : TS) (p : Nat) : Prop := bel (t.2.2.1 7 p) (bN (t.1 9) + 1) ∧ bel (t.2.2.1 8 p) (bN (t.1 9) + 1) ∧ t.2.2.1 7 p ≠ t.2.2.1 8 p ∧ bel (t.2.2.1 9 p) 20 ∧ v01 (flB t p) ∧ (∀ r, (r = t.2.2.1 7 p ∨ r = t.2.2.1 8 p) → r ≠ t.1 9 → inC (xIn t p r) ∧ inC (yIn t p r))
def rowG (t : TS) (C : Nat → Nat) (q : Nat) : lCell := (true, false, 86, [.ref (C (bN (t.2.2.1 17 q))), .int (t.2.2.1 18 q), .int (t.2.2.1 19 q)])
/-- two portals make an airlock -/
def lok (t : TS) (nL p q : Nat) : Prop := ∃ k, k < nL ∧ ((t.2.2.1 20 k = Int32.ofNat p ∧ t.2.2.1 21 k = Int32.ofNat q) ∨ (t.2.2.1 20 k = Int32.ofNat q ∧ t.2.2.1 21 k = Int32.ofNat p))
/-- a portal -/
def V3p (h : lHeap) (t : TS) (nT nC nL : Nat) (C G D L : Nat → Nat) (RW : Nat → Nat → Nat) (p : Nat) : Prop := h (G p) ≠ none ∧ (∃ (a : Value) (b : Value × Value), h (G p) = some (true, false, 79, [.int (t.2.2.1 9 p), .int (t.2.2.1 10 p), a, b.1, .int (t.2.2.1 11 p), b.2])) ∧ (179 ≤ G p ∧ 179 ≤ D p ∧ 179 ≤ L p) ∧ okPor t p ∧ v01 (t.2.2.1 12 p) ∧ v01 (t.2.2.1 13 p) ∧ bel (t.2.2.1 14 p) 6001 ∧ ((t.2.2.1 15 p = 1000000 ∧ t.2.2.1 16 p = 0) ∨ bel (t.2.2.1 15 p) (nT + 1)) ∧
  (∃ n : Nat, n ≤ 20 ∧ t.2.2.1 16 p = Int32.ofNat n ∧ h (D p) = some (true, false, 1004, rowC (fun i => .ref (RW p i)) n) ∧ ∀ i, i < n → h (RW p i) = some (rowG t C (20 * p + i)) ∧ 179 ≤ RW p i ∧ bel (t.2.2.1 17 (20 * p + i)) nC ∧ (t.2.2.1 18 (20 * p + i) = t.2.2.1 7 p ∨ t.2.2.1 18 (20 * p + i) = t.2.2.1 8 p) ∧ bel (t.2.2.1 19 (20 * p + i)) 101) ∧
  ∃ xs : List Value, h (L p) = some (true, false, 1003, xs) ∧ ∀ q, bit xs q = true ↔ q < 1400 ∧ lok t nL p q
def V3 (h : lHeap) (t : TS) (nT nP nC nL : Nat) (P C G D L : Nat → Nat) (RW : Nat → Nat → Nat) : Prop := (∃ mc : Int32, h 110 = some (true, false, 1013, .int mc :: rowC (fun k => .ref (P k)) nP)) ∧ t.1 10 = Int32.ofNat nP ∧ nP ≤ 1400 ∧ (∀ p, p < nP → h (P p) = some (porC t G D L p) ∧ 179 ≤ P p ∧ V3p h t nT nC nL C G D L RW p) ∧ (∀ j k, j < nP → k < nP → P j = P k → j = k) ∧ (∀ j k, j < nP → k < nP → D j = D k → j = k) ∧ (∀ j k, j < nP → k < nP → L j = L k → j = k) ∧ t.1 24 = Int32.ofNat nL ∧ ∀ k, k < nL → bel (t.2.2.1 20 k) nP ∧ bel (t.2.2.1 21 k) nP ∧ t.2.2.1 20 k ≠ t.2.2.1 21 k ∧ ∀ j, j < k → ¬ ((t.2.2.1 20 j = t.2.2.1 20 k ∧ t.2.2.1 21 j = t.2.2.1 21 k) ∨ (t.2.2.1 20 j = t.2.2.1 21 k ∧ t.2.2.1 21 j = t.2.2.1 20 k))
def agaC (t : TS) (k : Nat) : lCell := (true, false, 85, [.int (t.2.2.1 40 k), .int (t.2.2.1 41 k), .int (t.2.2.1 42 k), .int (t.2.2.1 43 k)])
def V4 (h : lHeap) (t : TS) (a : Nat) (F : Nat → Nat) : Prop := (∃ mc : Int32, h 114 = some (true, false, 1013, .int mc :: rowC (fun k => .ref (F k)) (min a 100))) ∧ t.1 49 = Int32.ofNat a ∧ ∀ k, k < a → k < 100 → h (F k) = some (agaC t k) ∧ 179 ≤ F k
/-- the gate's own cell, the rooms' zones -/
def V0 (h : lHeap) (t : TS) (zn nr : Nat) (rel : Int32) : Prop := h 108 = some (true, false, 89, [.ref 101, .int (if t.1 1 = 0 then -1 else t.1 9), .ref zn, .ref 110, .ref 111, .ref 112, .ref 113, .ref 114, .int (t.1 49), .int (t.1 45), .int rel]) ∧ v01 (t.1 1) ∧ v01 rel ∧ t.1 9 = Int32.ofNat nr ∧ nr ≤ 40 ∧ (t.1 1 ≠ 0 → 109 ≤ zn ∧ ∃ f : Nat → Int32, h zn = some (true, true, 0, rowC (fun i => .int (f i)) nr) ∧ ∀ i, i < nr → bel (t.2.2.1 64 i) 1001 ∧ f i = Int32.ofNat (bN (t.2.2.1 64 i) % 10))
def R4x (h : lHeap) (t : TS) (K zn nr nS nT nC nR nP nL a : Nat) (rel : Int32) (S C CS' CM CT E RS RM' RT P G D L F : Nat → Nat) (RW : Nat → Nat → Nat) : Prop :=
  V0 h t zn nr rel ∧ V1 h t nS S ∧ V2t t nT ∧ V2c h t nT nS nC S C CS' CM CT ∧ V2r h t nT nR E RS RM' RT ∧ V2d nC nR CM RM' ∧ V3 h t nT nP nC nL P C G D L RW ∧ V4 h t a F ∧ (nT ≤ K ∧ nL ≤ K ∧ a ≤ 20 * K) ∧ (t.1 1 = 0 → nS = 0 ∧ nT = 0 ∧ nC = 0 ∧ nR = 0 ∧ nP = 0 ∧ nL = 0 ∧ a = 0)
def R4 (h : lHeap) (t : TS) (K : Nat) : Prop := ∃ zn nr nS nT nC nR nP nL a rel S C CS' CM CT E RS RM' RT P G D L F RW, R4x h t K zn nr nS nT nC nR nP nL a rel S C CS' CM CT E RS RM' RT P G D L F RW
/-- stores in which cells stay -/
def hS (h h' : lHeap) (X : Nat → lCell → Prop) : Prop := ∀ q c, X q c → h q = some c → h' q = some c
section
variable {h h' : lHeap} {t T : TS} {K zn nr nS nT nC nR nP nL a : Nat} {rel : Int32} {S C CS' CM CT E RS RM' RT P G D L F : Nat → Nat} {RW : Nat → Nat → Nat}
theorem Snc_cg {k w b m : Nat} (r : Snc h t nT k w b m) (hh : hS h h' (fun _ c => c.2.2.1 = 83 ∨ c.2.2.1 = 1042)) (e : eqR t T [37, 38, 39]) : by classical exact (Snc h' T nT k w b m) := by
  classical
  obtain ⟨r1, mc, es, r2, r3, r4⟩ := r
  have hf : ∀ n, isTl T k w n ↔ isTl t k w n := fun n => by unfold isTl; rw [e 37 (by simp), e 38 (by simp)]
  refine ⟨hh _ _ (Or.inl rfl) r1, mc, es, hh _ _ (Or.inr rfl) r2, ?_, r4⟩
  have : (fun z : Int => if 0 ≤ z ∧ z < (nT : Int) ∧ isTl T k w z.toNat then some (Value.int (T.2.2.1 39 z.toNat)) else none) = fun z : Int => if 0 ≤ z ∧ z < (nT : Int) ∧ isTl t k w z.toNat then some (Value.int (t.2.2.1 39 z.toNat)) else none := by
    funext z
    simp only [hf, e 39 (by simp)]
  rw [this]; exact r3
theorem ltd_cg (e : eqR t T [37, 38, 39]) (k w n : Nat) : ltd T k w n = ltd t k w n := by
  induction n with
  | zero => rfl
  | succ n ih => unfold ltd; rw [ih, e 37 (by simp), e 38 (by simp), e 39 (by simp)]
theorem V1_cg (r : V1 h t nS S) (hh : hS h h' (fun q c => q = 111 ∨ c.2.2.1 = 81)) (h1 : T.1 27 = t.1 27) (h2 : T.1 9 = t.1 9) (e : eqR t T [22, 23, 24, 25, 26, 27, 28, 29]) : V1 h' T nS S := by
  obtain ⟨⟨mc, r1⟩, r2, r3, r4, r5, r6⟩ := r
  unfold V1 perC okPer at *
  rw [h1, h2, e 22 (by simp), e 23 (by simp), e 24 (by simp), e 25 (by simp), e 26 (by simp), e 27 (by simp), e 28 (by simp), e 29 (by simp)]
  exact ⟨⟨mc, hh _ _ (Or.inl rfl) r1⟩, r2, r3, fun k hk => ⟨hh _ _ (Or.inr rfl) (r4 k hk).1, (r4 k hk).2⟩, r5, r6⟩
theorem V2c_cg (r : V2c h t nT nS nC S C CS' CM CT) (hh : hS h h' (fun q c => q = 112 ∨ c.2.2.1 = 82 ∨ c.2.2.1 = 83 ∨ c.2.2.1 = 1042)) (h1 : T.1 36 = t.1 36) (e : eqR t T [30, 31, 37, 38, 39]) : V2c h' T nT nS nC S C CS' CM CT := by
  obtain ⟨⟨mc, r1⟩, r2, r3, r4, r5, r6⟩ := r
  have e37 := e 37 (by simp)
  have e38 := e 38 (by simp)
  have e39 := e 39 (by simp)
  unfold V2c carD isTl at *
  rw [h1, e 30 (by simp), e 31 (by simp), e37, e38]
  refine ⟨⟨mc, hh _ _ (Or.inl rfl) r1⟩, r2, r3, fun k hk => ?_, r5, r6⟩
  obtain ⟨a1, a2, a3, a4, a5, a6, a7⟩ := r4 k hk
  exact ⟨hh _ _ (Or.inr (Or.inl rfl)) a1, a2, a3, a4, a5, Snc_cg a6 (fun q c z => hh q c (Or.inr (Or.inr z))) (fun c hc => e c (by simp at hc ⊢; omega)), a7⟩
theorem V2r_cg (r : V2r h t nT nR E RS RM' RT) (hh : hS h h' (fun q c => q = 113 ∨ c.2.2.1 = 84 ∨ c.2.2.1 = 83 ∨ c.2.2.1 = 1042)) (h1 : T.1 39 = t.1 39) (e : eqR t T [32, 33, 34, 35, 36, 37, 38, 39]) : V2r h' T nT nR E RS RM' RT := by
  obtain ⟨⟨mc, r1⟩, r2, r3, r4, r6⟩ := r
  have e37 := e 37 (by simp)
  have e38 := e 38 (by simp)
  have e39 := e 39 (by simp)
  unfold V2r rigC isTl at *
  rw [h1, e 32 (by simp), e 33 (by simp), e 34 (by simp), e 35 (by simp), e 36 (by simp), e37, e38]
  refine ⟨⟨mc, hh _ _ (Or.inl rfl) r1⟩, r2, r3, fun k hk => ?_, r6⟩
  obtain ⟨a1, a2, a3, a4, a5, a6, a7⟩ := r4 k hk
  exact ⟨hh _ _ (Or.inr (Or.inl rfl)) a1, a2, a3, a4, a5, Snc_cg a6 (fun q c z => hh q c (Or.inr (Or.inr z))) (fun c hc => e c (by simp at hc ⊢; omega)), a7⟩
theorem V3p_cg {p : Nat} (r : V3p h t nT nC nL C G D L RW p) (hh : hS h h' (fun _ c => c.2.2.1 = 79 ∨ c.2.2.1 = 1004 ∨ c.2.2.1 = 86 ∨ c.2.2.1 = 1003)) (h9 : T.1 9 = t.1 9) (e : eqR t T [7, 8, 9, 10, 11, 12, 13, 14, 15, 16, 17, 18, 19, 20, 21, 50, 51, 52]) : V3p h' T nT nC nL C G D L RW p := by
  obtain ⟨r1, ⟨x, y, r2⟩, r3, r4, r5, r6, r7, r8, ⟨n, r9, r10, r11, r12⟩, xs, r13, r14⟩ := r
  have q2 := hh _ _ (Or.inl rfl) r2
  unfold V3p okPor xIn yIn cxP cyP flB rowG lok at *
  rw [h9, e 7 (by simp), e 8 (by simp), e 9 (by simp), e 10 (by simp), e 11 (by simp), e 12 (by simp), e 13 (by simp), e 14 (by simp), e 15 (by simp), e 16 (by simp), e 17 (by simp), e 18 (by simp), e 19 (by simp), e 20 (by simp), e 21 (by simp), e 50 (by simp), e 51 (by simp), e 52 (by simp)]
  exact ⟨by rw [q2]; simp, ⟨x, y, q2⟩, r3, r4, r5, r6, r7, r8, ⟨n, r9, r10, hh _ _ (Or.inr (Or.inl rfl)) r11, fun i hi => ⟨hh _ _ (Or.inr (Or.inr (Or.inl rfl))) (r12 i hi).1, (r12 i hi).2⟩⟩, xs, hh _ _ (Or.inr (Or.inr (Or.inr rfl))) r13, r14⟩
theorem V3_cg (r : V3 h t nT nP nC nL P C G D L RW) (hh : hS h h' (fun q c => q = 110 ∨ c.2.2.1 = 80 ∨ c.2.2.1 = 79 ∨ c.2.2.1 = 1004 ∨ c.2.2.1 = 86 ∨ c.2.2.1 = 1003)) (h9 : T.1 9 = t.1 9) (h10 : T.1 10 = t.1 10) (h24 : T.1 24 = t.1 24) (e : eqR t T [7, 8, 9, 10, 11, 12, 13, 14, 15, 16, 17, 18, 19, 20, 21, 50, 51, 52]) : V3 h' T nT nP nC nL P C G D L RW := by
  obtain ⟨⟨mc, r1⟩, r2, r3, r4, r5, r6, r7, r8, r9⟩ := r
  refine ⟨⟨mc, hh _ _ (Or.inl rfl) r1⟩, by rw [h10]; exact r2, r3, fun p hp => ?_, r5, r6, r7, by rw [h24]; exact r8, by rw [e 20 (by simp), e 21 (by simp)]; exact r9⟩
  obtain ⟨a1, a2, a3⟩ := r4 p hp
  refine ⟨?_, a2, V3p_cg a3 (fun q c z => hh q c (Or.inr (Or.inr z))) h9 e⟩
  have e' : porC T G D L p = porC t G D L p := by
    unfold porC cxP cyP flB
    rw [e 7 (by simp), e 8 (by simp), e 9 (by simp), e 11 (by simp), e 12 (by simp), e 13 (by simp), e 14 (by simp), e 15 (by simp), e 50 (by simp), e 51 (by simp), e 52 (by simp)]
  rw [e']
  exact hh _ _ (Or.inr (Or.inl rfl)) a1
theorem V4_cg (r : V4 h t a F) (hh : hS h h' (fun q c => q = 114 ∨ c.2.2.1 = 85)) (h1 : T.1 49 = t.1 49) (e : eqR t T [40, 41, 42, 43]) : V4 h' T a F := by
  obtain ⟨⟨mc, r1⟩, r2, r3⟩ := r
  unfold V4 agaC at *
  rw [h1, e 40 (by simp), e 41 (by simp), e 42 (by simp), e 43 (by simp)]
  exact ⟨⟨mc, hh _ _ (Or.inl rfl) r1⟩, r2, fun k h1 h2 => ⟨hh _ _ (Or.inr rfl) (r3 k h1 h2).1, (r3 k h1 h2).2⟩⟩
theorem V0_cg (r : V0 h t zn nr rel) (hh : hS h h' (fun q c => q = 108 ∨ c.2.2.1 = 0)) (h1 : T.1 1 = t.1 1) (h9 : T.1 9 = t.1 9) (h49 : T.1 49 = t.1 49) (h45 : T.1 45 = t.1 45) (e : T.2.2.1 64 = t.2.2.1 64) : V0 h' T zn nr rel := by
  obtain ⟨r1, r2, r3, r4, r5, r6⟩ := r
  unfold V0 at *
  rw [h1, h9, h49, h45, e]
  refine ⟨hh _ _ (Or.inl rfl) r1, r2, r3, r4, r5, fun z => ⟨(r6 z).1, ?_⟩⟩
  obtain ⟨f, z1, z2⟩ := (r6 z).2
  exact ⟨f, hh _ _ (Or.inr rfl) z1, z2⟩
theorem R4x_cg (r : R4x h t K zn nr nS nT nC nR nP nL a rel S C CS' CM CT E RS RM' RT P G D L F RW) (hh : ∀ q c, h q = some c → h' q = some c) (h1 : T.1 1 = t.1 1) (h2 : rt T 4 = rt t 4) (h3 : eqR t T [50, 51, 52, 64]) : R4x h' T K zn nr nS nT nC nR nP nL a rel S C CS' CM CT E RS RM' RT P G D L F RW := by
  have n1 : ∀ c, mI c = 4 → T.1 c = t.1 c := fun c hc => by rw [← rt_1 (t := T) hc, h2, rt_1 hc]
  have n3 : ∀ c, mR c = 4 → T.2.2.1 c = t.2.2.1 c := fun c hc => funext (fun k => by rw [← rt_3 (t := T) hc, h2, rt_3 hc])
  have H : ∀ X, hS h h' X := fun X q c _ => hh q c
  obtain ⟨v0, v1, v2t, v2c, v2r, v2d, v3, v4, v5, v6⟩ := r
  have hm : ∀ c, c < 44 → mR c = 4 := fun c hc => by unfold mR; rw [if_neg (by omega), if_pos hc]
  refine ⟨V0_cg v0 (H _) h1 (n1 9 rfl) (n1 49 rfl) (n1 45 rfl) (h3 64 (by simp)), V1_cg v1 (H _) (n1 27 rfl) (n1 9 rfl) (fun c hc => n3 c (hm c (by simp at hc; omega))), ?_, V2c_cg v2c (H _) (n1 36 rfl) (fun c hc => n3 c (hm c (by simp at hc; omega))), V2r_cg v2r (H _) (n1 39 rfl) (fun c hc => n3 c (hm c (by simp at hc; omega))), v2d, V3_cg v3 (H _) (n1 9 rfl) (n1 10 rfl) (n1 24 rfl) (fun c hc => ?_), V4_cg v4 (H _) (n1 49 rfl) (fun c hc => n3 c (hm c (by simp at hc; omega))), v5, by rw [h1]; exact v6⟩
  · unfold V2t at *
    rw [n1 45 rfl, n3 39 rfl]; exact v2t
  · by_cases z : c < 44
    · exact n3 c (hm c z)
    · exact h3 c (by simp at hc ⊢; omega)
end
theorem R4_raw {s : CS} {own : Nat → Nat} {t : TS} {K zn nr nS nT nC nR nP nL a : Nat} {rel : Int32} {S C CS' CM CT E RS RM' RT P G D L F : Nat → Nat} {RW : Nat → Nat → Nat} (r : R4x (rs s.1 own 4) t K zn nr nS nT nC nR nP nL a rel S C CS' CM CT E RS RM' RT P G D L F RW) : R4x s.1 t K zn nr nS nT nC nR nP nL a rel S C CS' CM CT E RS RM' RT P G D L F RW :=
  R4x_cg r (fun _ _ h => (rs_in h).1) rfl rfl (fun _ _ => rfl)
theorem R4_K {h : lHeap} {t : TS} {K K' : Nat} (r : R4 h t K) (hk : K ≤ K') : R4 h t K' := by
  obtain ⟨zn, nr, nS, nT, nC, nR, nP, nL, a, rel, S, C, CS', CM, CT, E, RS, RM', RT, P, G, D, L, F, RW, v0, v1, v2t, v2c, v2r, v2d, v3, v4, v5, v6⟩ := r
  exact ⟨zn, nr, nS, nT, nC, nR, nP, nL, a, rel, S, C, CS', CM, CT, E, RS, RM', RT, P, G, D, L, F, RW, v0, v1, v2t, v2c, v2r, v2d, v3, v4, ⟨by omega, by omega, by omega⟩, v6⟩
