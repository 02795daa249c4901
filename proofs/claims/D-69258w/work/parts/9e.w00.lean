/-! the warden -/
def stR (x : Int32) : Nat := if x = 2 then 33 else if x = 1 then 59 else 60
def txV (l : List Nat) : List Value := l.map (fun c => .int (Int32.ofNat c))
/-- constants: texts and states -/
def sTab7 : List (Nat × List Nat) := [(34, [122, 111, 110, 101, 32]), (35, [32, 110, 101, 101, 100, 115, 32]), (36, [32, 111, 102, 32]), (37, [59, 32]), (38, [97, 99, 116, 32]), (39, [32, 107, 105, 110, 100, 32]), (40, [32, 114, 97, 110, 107, 32]), (41, [32, 100, 101, 108, 97, 121, 32]), (42, [32, 59, 32]), (43, [119, 104, 101, 110, 32]), (44, [32, 100, 111, 101, 115, 32]), (45, [32, 38, 32]), (46, [104, 111, 108, 100, 32]), (47, [122, 111, 110, 101]), (48, [97, 99, 116]), (49, [119, 104, 101, 110]), (50, [104, 111, 108, 100]), (51, [59]), (52, [110, 101, 101, 100, 115]), (53, [111, 102]), (54, [107, 105, 110, 100]), (55, [114, 97, 110, 107]), (56, [100, 101, 108, 97, 121]), (57, [38]), (58, [100, 111, 101, 115])]
def K7 (h : lHeap) : Prop := h 33 = some (false, false, 132, [.int 2]) ∧ h 59 = some (false, false, 132, [.int 1]) ∧ h 60 = some (false, false, 132, [.int 0]) ∧ (∀ p ∈ sTab7, h p.1 = some (false, false, 1000, txV p.2)) ∧ ∃ w x, h 92 = some (w, false, 1000, x)
def ptC (t : TS) (k : Nat) : lCell := (true, false, 77, [.int (t.2.2.1 99 k), .int (t.2.2.1 100 k), .int (t.2.2.1 101 k)])
def actC (t : TS) (a : Nat) : lCell := (true, false, 91, [.int (Int32.ofNat a), .int (t.2.2.1 110 a), .int (t.2.2.1 111 a), .int (t.2.2.1 112 a), .int (t.2.2.1 113 a), .ref (stR (t.2.2.1 117 a)), .int (t.2.2.1 118 a), .int (t.2.2.1 119 a), .int (t.2.2.1 120 a)])
def zonC (t : TS) (ZP : Nat → Nat) (z : Nat) : lCell := (true, false, 90, [.int (Int32.ofNat z), .int (t.2.2.1 106 z), .ref (ZP z)])
def rowK (t : TS) (Z A : Nat → Nat) (r : Nat) : lCell := (true, false, 92, [.ref (Z (bN (t.2.2.1 114 r))), if t.2.2.1 115 r = -1 then .null else .ref (Z (bN (t.2.2.1 115 r))), .ref (A (bN (t.2.2.1 116 r)))])
/-- a number below a bound -/
def bel (x : Int32) (n : Nat) : Prop := ∃ v, v < n ∧ x = Int32.ofNat v
theorem bel_n {x : Int32} {n : Nat} (h : bel x n) (hn : n ≤ 2147483648) : x = Int32.ofNat (bN x) ∧ bN x < n := by
  obtain ⟨v, h1, rfl⟩ := h
  have : bN (Int32.ofNat v) = v := i_clamp (by omega)
  rw [this]; exact ⟨rfl, h1⟩
/-- the warden's own cell -/
def W0 (h : lHeap) (t : TS) (mx ec : Nat) : Prop := h 151 = some (true, false, 47, [.ref 152, .ref 153, .ref mx, .ref 158, .ref 159, .ref 160, .int (Int32.ofNat ec), .ref 161, .int (t.1 301), .int (t.1 1), .ref 115, .ref 120]) ∧ (∃ n, n ≤ 6000 ∧ t.1 301 = Int32.ofNat n) ∧ v01 (t.1 1) ∧ (t.1 1 = 0 → ec = 0 ∧ ∀ z, z < 20 → t.2.2.1 105 z = 0 ∧ t.2.2.1 109 z = 0)
/-- points -/
def W1 (h : lHeap) (t : TS) (np : Nat) (P : Nat → Nat) : Prop := (∃ mc : Int32, h 152 = some (true, false, 1013, .int mc :: rowC (fun k => .ref (P k)) np)) ∧ t.1 300 = Int32.ofNat np ∧ np ≤ 50 ∧ (t.1 1 = 0 ↔ np = 0) ∧ (∀ k, k < np → h (P k) = some (ptC t k) ∧ v01 (t.2.2.1 100 k) ∧ 179 ≤ P k) ∧ (∀ j k, j < np → k < np → P j = P k → j = k) ∧ ∀ k, np ≤ k → k < 50 → t.2.2.1 99 k = 0 ∧ t.2.2.1 100 k = 0 ∧ t.2.2.1 101 k = 0
/-- the text -/
def W2 (h : lHeap) (t : TS) (sz : Nat) : Prop := h 153 = some (true, false, 1035, rowC (fun i => .int (t.2.2.1 102 i)) sz) ∧ t.1 306 = Int32.ofNat sz ∧ sz ≤ 2000 ∧ (∀ i, i < sz → bel (t.2.2.1 102 i) 128) ∧ (t.1 1 = 0 → sz = 0)
/-- a zone -/
def W3z (h : lHeap) (t : TS) (np : Nat) (Z ZP : Nat → Nat) (z : Nat) : Prop := h (Z z) = some (zonC t ZP z) ∧ 179 ≤ Z z ∧ 179 ≤ ZP z ∧ bel (t.2.2.1 106 z) 13 ∧ ∃ n : Nat, n ≤ 12 ∧ t.2.2.1 107 z = Int32.ofNat n ∧ (∃ mc : Int32, h (ZP z) = some (true, false, 1013, .int mc :: rowC (fun i => .int (t.2.2.1 108 (12 * z + i))) n)) ∧ ∀ i, i < n → bel (t.2.2.1 108 (12 * z + i)) np
/-- how many come sooner -/
def soon (t : TS) (b a : Nat) : Bool := decide (t.2.2.1 111 a < t.2.2.1 111 b) || (decide (t.2.2.1 111 b = t.2.2.1 111 a) && decide (b < a))
def bef (t : TS) (a : Nat) : Nat := ((List.range 20).filter (fun b => decide (t.2.2.1 109 b = 1) && soon t b a)).length
/-- the matrix: zones, acts' cells, rows, the order -/
def W3 (h : lHeap) (t : TS) (np mx zm am rl nr na : Nat) (Z ZP A RW od : Nat → Nat) : Prop :=
  h mx = some (true, false, 48, [.ref zm, .ref am, .ref rl]) ∧ (154 ≤ mx ∧ 155 ≤ zm ∧ 156 ≤ am ∧ 157 ≤ rl) ∧
  (∃ (mc : Int32) (es : List (Value × Value)), h zm = some (true, false, 1042, .int mc :: fl es) ∧ Mp rkI es (fun z => if 0 ≤ z ∧ z < (20 : Nat) ∧ t.2.2.1 105 z.toNat = 1 then some (.ref (Z z.toNat)) else none) ∧ ∀ x ∈ es.map Prod.fst, ∃ i, x = .int i) ∧
  (∃ (mc : Int32) (es : List (Value × Value)), h am = some (true, false, 1042, .int mc :: fl es) ∧ Mp rkI es (fun z => if 0 ≤ z ∧ z < (20 : Nat) ∧ t.2.2.1 109 z.toNat = 1 then some (.ref (A z.toNat)) else none) ∧ ∀ x ∈ es.map Prod.fst, ∃ i, x = .int i) ∧
  (∃ mc : Int32, h rl = some (true, false, 1013, .int mc :: rowC (fun r => .ref (RW r)) nr)) ∧ t.1 321 = Int32.ofNat nr ∧ nr ≤ 50 ∧
  (∀ z, z < 20 → v01 (t.2.2.1 105 z) ∧ v01 (t.2.2.1 109 z) ∧ (t.2.2.1 105 z = 1 → W3z h t np Z ZP z)) ∧
  (∀ r, r < nr → h (RW r) = some (rowK t Z A r) ∧ 179 ≤ RW r ∧ (bel (t.2.2.1 114 r) 20 ∧ t.2.2.1 105 (bN (t.2.2.1 114 r)) = 1) ∧ (t.2.2.1 115 r = -1 ∨ (bel (t.2.2.1 115 r) 20 ∧ t.2.2.1 105 (bN (t.2.2.1 115 r)) = 1)) ∧ bel (t.2.2.1 116 r) 20 ∧ t.2.2.1 109 (bN (t.2.2.1 116 r)) = 1) ∧
  (∃ mc : Int32, h 161 = some (true, false, 1013, .int mc :: rowC (fun i => .ref (A (od i))) na)) ∧ na ≤ 20 ∧ (∀ i, i < na → od i < 20 ∧ t.2.2.1 109 (od i) = 1 ∧ bef t (od i) = i) ∧ (∀ a, a < 20 → t.2.2.1 109 a = 1 → bef t a < na)
/-- an act's own numbers -/
def okAct (t : TS) (a : Nat) : Prop := bel (t.2.2.1 110 a) 6 ∧ bel (t.2.2.1 111 a) 100 ∧ bel (t.2.2.1 112 a) 601 ∧ v01 (t.2.2.1 113 a) ∧ bel (t.2.2.1 117 a) 3 ∧ (t.2.2.1 118 a = -1 ∨ bel (t.2.2.1 118 a) 6001) ∧ v01 (t.2.2.1 119 a) ∧ v01 (t.2.2.1 120 a)
def W4 (h : lHeap) (t : TS) (A : Nat → Nat) : Prop := (∀ a, a < 20 → t.2.2.1 109 a = 1 → h (A a) = some (actC t a) ∧ 179 ≤ A a ∧ okAct t a) ∧ ∀ a b, a < 20 → b < 20 → t.2.2.1 109 a = 1 → t.2.2.1 109 b = 1 → A a = A b → a = b
def dnB (t : TS) (v : Int32) (a : Nat) : Bool := decide (t.2.2.1 117 a = 2) && (decide (v < 0) || decide (t.2.2.1 110 a = v))
def dnC (t : TS) (v : Int32) : Nat := ((List.range 20).filter (fun a => decide (t.2.2.1 109 a = 1) && dnB t v a)).length
/-- events -/
def W5b (h : lHeap) (t : TS) (ec B : Nat) : Prop := (∃ f : Nat → Int32, h 158 = some (true, true, 0, rowC (fun i => .int (f i)) 60) ∧ ∀ j, j < 60 → j < ec → f ((ec - 1 - j) % 60) = t.2.2.1 121 (min ec 60 - 1 - j)) ∧ (∃ f : Nat → Int32, h 159 = some (true, true, 0, rowC (fun i => .int (f i)) 60) ∧ ∀ j, j < 60 → j < ec → f ((ec - 1 - j) % 60) = t.2.2.1 122 (min ec 60 - 1 - j)) ∧ (∃ f : Nat → Int32, h 160 = some (true, true, 3, rowC (fun i => .int (f i)) 60) ∧ (∀ i, v01 (f i)) ∧ ∀ j, j < 60 → j < ec → f ((ec - 1 - j) % 60) = t.2.2.1 123 (min ec 60 - 1 - j)) ∧ t.1 330 = Int32.ofNat (min ec 60) ∧ ec + dnC t (-1) ≤ B
def W5 (h : lHeap) (t : TS) (ec : Nat) : Prop := W5b h t ec (40 * bN (t.1 301))
def R7b (h : lHeap) (t : TS) (np sz mx zm am rl nr na ec : Nat) (P Z ZP A RW od : Nat → Nat) (B : Nat) : Prop := W0 h t mx ec ∧ W1 h t np P ∧ W2 h t sz ∧ W3 h t np mx zm am rl nr na Z ZP A RW od ∧ W4 h t A ∧ W5b h t ec B
def R7x (h : lHeap) (t : TS) (np sz mx zm am rl nr na ec : Nat) (P Z ZP A RW od : Nat → Nat) : Prop := R7b h t np sz mx zm am rl nr na ec P Z ZP A RW od (40 * bN (t.1 301))
def R7 (h : lHeap) (t : TS) : Prop := ∃ np sz mx zm am rl nr na ec P Z ZP A RW od, R7x h t np sz mx zm am rl nr na ec P Z ZP A RW od
/-! stores that change at cells of other kinds -/
def hK (K : Nat → Prop) (h h' : lHeap) : Prop := ∀ q c, K c.2.2.1 → h q = some c → h' q = some c
theorem hK_upd {h : lHeap} {a : Nat} {c c' : lCell} (h1 : h a = some c) : hK (fun k => k ≠ c.2.2.1) h (lUpd h a c') := by
  intro q d hd e
  rw [lUpd_at, if_neg (fun z => hd (by rw [z, h1] at e; rw [Option.some.inj e]))]; exact e
theorem hK.mono {K L : Nat → Prop} {h h' : lHeap} (r : hK K h h') (k : ∀ x, L x → K x) : hK L h h' := fun q c hc e => r q c (k _ hc) e
/-- rows of numbers alike -/
def eqR (t T : TS) (l : List Nat) : Prop := ∀ c ∈ l, T.2.2.1 c = t.2.2.1 c
theorem W0_cg {h h' : lHeap} {t T : TS} {mx ec : Nat} (r : W0 h t mx ec) (k : hK (fun k => k = 47) h h') (h1 : T.1 301 = t.1 301) (h2 : T.1 1 = t.1 1) (h3 : eqR t T [105, 109]) : W0 h' T mx ec := by
  obtain ⟨r1, r2, r3, r4⟩ := r
  refine ⟨?_, by rw [h1]; exact r2, by rw [h2]; exact r3, by rw [h2, h3 105 (by simp), h3 109 (by simp)]; exact r4⟩
  rw [h1, h2]; exact k _ _ rfl r1
theorem W1_cg {h h' : lHeap} {t T : TS} {np : Nat} {P : Nat → Nat} (r : W1 h t np P) (k : hK (fun k => k = 1013 ∨ k = 77) h h') (h1 : T.1 300 = t.1 300) (h2 : T.1 1 = t.1 1) (h3 : eqR t T [99, 100, 101]) : W1 h' T np P := by
  obtain ⟨⟨mc, r1⟩, r2, r3, r4, r5, r6, r7⟩ := r
  have e99 := h3 99 (by simp)
  have e100 := h3 100 (by simp)
  have e101 := h3 101 (by simp)
  refine ⟨⟨mc, k _ _ (Or.inl rfl) r1⟩, by rw [h1]; exact r2, r3, by rw [h2]; exact r4, fun j hj => ?_, r6, by rw [e99, e100, e101]; exact r7⟩
  obtain ⟨a1, a2, a3⟩ := r5 j hj
  unfold ptC
  rw [e99, e100, e101]
  exact ⟨k _ _ (Or.inr rfl) a1, a2, a3⟩
theorem W2_cg {h h' : lHeap} {t T : TS} {sz : Nat} (r : W2 h t sz) (k : hK (fun k => k = 1035) h h') (h1 : T.1 306 = t.1 306) (h2 : T.1 1 = t.1 1) (h3 : T.2.2.1 102 = t.2.2.1 102) : W2 h' T sz := by
  obtain ⟨r1, r2, r3, r4, r5⟩ := r
  refine ⟨?_, by rw [h1]; exact r2, r3, by rw [h3]; exact r4, by rw [h2]; exact r5⟩
  rw [h3]; exact k _ _ rfl r1
theorem bef_cg {t T : TS} (h1 : T.2.2.1 109 = t.2.2.1 109) (h2 : T.2.2.1 111 = t.2.2.1 111) : bef T = bef t := by
  funext a
  unfold bef soon
  rw [h1, h2]
theorem W3_cg {h h' : lHeap} {t T : TS} {np mx zm am rl nr na : Nat} {Z ZP A RW od : Nat → Nat} (r : W3 h t np mx zm am rl nr na Z ZP A RW od) (k : hK (fun k => k = 48 ∨ k = 1042 ∨ k = 1013 ∨ k = 90 ∨ k = 92) h h') (h1 : T.1 321 = t.1 321) (h3 : eqR t T [105, 106, 107, 108, 109, 111, 114, 115, 116]) : W3 h' T np mx zm am rl nr na Z ZP A RW od := by
  obtain ⟨r1, r2, ⟨mz, ez, r3, r4, r5⟩, ⟨ma, ea, r6, r7, r8⟩, ⟨mr, r9⟩, r10, r11, r12, r13, ⟨mo, r14⟩, r15, r16, r17⟩ := r
  have e105 := h3 105 (by simp)
  have e106 := h3 106 (by simp)
  have e107 := h3 107 (by simp)
  have e108 := h3 108 (by simp)
  have e109 := h3 109 (by simp)
  have e111 := h3 111 (by simp)
  have e114 := h3 114 (by simp)
  have e115 := h3 115 (by simp)
  have e116 := h3 116 (by simp)
  refine ⟨k _ _ (Or.inl rfl) r1, r2, ⟨mz, ez, k _ _ (Or.inr (Or.inl rfl)) r3, by rw [e105]; exact r4, r5⟩, ⟨ma, ea, k _ _ (Or.inr (Or.inl rfl)) r6, by rw [e109]; exact r7, r8⟩, ⟨mr, k _ _ (Or.inr (Or.inr (Or.inl rfl))) r9⟩, by rw [h1]; exact r10, r11, fun z hz => ?_, fun q hq => ?_, ⟨mo, k _ _ (Or.inr (Or.inr (Or.inl rfl))) r14⟩, r15, by rw [e109, bef_cg e109 e111]; exact r16, by rw [e109, bef_cg e109 e111]; exact r17⟩
  · rw [e105, e109]
    obtain ⟨a1, a2, a3⟩ := r12 z hz
    refine ⟨a1, a2, fun hh => ?_⟩
    obtain ⟨b1, b2, b3, b4, n, b5, b6, ⟨mc, b7⟩, b8⟩ := a3 hh
    unfold W3z zonC
    rw [e106, e107, e108]
    exact ⟨k _ _ (Or.inr (Or.inr (Or.inr (Or.inl rfl)))) b1, b2, b3, b4, n, b5, b6, ⟨mc, k _ _ (Or.inr (Or.inr (Or.inl rfl))) b7⟩, b8⟩
  · unfold rowK
    rw [e105, e109, e114, e115, e116]
    obtain ⟨a1, a2⟩ := r13 q hq
    exact ⟨k _ _ (Or.inr (Or.inr (Or.inr (Or.inr rfl)))) a1, a2⟩
theorem W4_cg {h h' : lHeap} {t T : TS} {A : Nat → Nat} (r : W4 h t A) (k : hK (fun k => k = 91) h h') (h3 : eqR t T [109, 110, 111, 112, 113, 117, 118, 119, 120]) : W4 h' T A := by
  have e109 := h3 109 (by simp)
  have e110 := h3 110 (by simp)
  have e111 := h3 111 (by simp)
  have e112 := h3 112 (by simp)
  have e113 := h3 113 (by simp)
  have e117 := h3 117 (by simp)
  have e118 := h3 118 (by simp)
  have e119 := h3 119 (by simp)
  have e120 := h3 120 (by simp)
  refine ⟨fun a ha => ?_, by rw [e109]; exact r.2⟩
  unfold actC okAct
  rw [e109, e110, e111, e112, e113, e117, e118, e119, e120]
  intro hh
  obtain ⟨a1, a2, a3⟩ := r.1 a ha hh
  exact ⟨k _ _ rfl a1, a2, a3⟩
theorem dnC_cg {t T : TS} (h1 : T.2.2.1 109 = t.2.2.1 109) (h2 : T.2.2.1 110 = t.2.2.1 110) (h3 : T.2.2.1 117 = t.2.2.1 117) (v : Int32) : dnC T v = dnC t v := by
  unfold dnC dnB
  rw [h1, h2, h3]
theorem W5b_cg {h h' : lHeap} {t T : TS} {ec B : Nat} (r : W5b h t ec B) (k : hK (fun k => k = 0 ∨ k = 3) h h') (h1 : T.1 330 = t.1 330) (h3 : eqR t T [121, 122, 123, 109, 110, 117]) : W5b h' T ec B := by
  obtain ⟨⟨f1, r1, r2⟩, ⟨f2, r3, r4⟩, ⟨f3, r5, r6⟩, r7⟩ := r
  have e121 := h3 121 (by simp)
  have e122 := h3 122 (by simp)
  have e123 := h3 123 (by simp)
  unfold W5b
  rw [e121, e122, e123, h1, dnC_cg (h3 109 (by simp)) (h3 110 (by simp)) (h3 117 (by simp))]
  exact ⟨⟨f1, k _ _ (Or.inl rfl) r1, r2⟩, ⟨f2, k _ _ (Or.inl rfl) r3, r4⟩, ⟨f3, k _ _ (Or.inr rfl) r5, r6⟩, r7⟩
theorem W5_cg {h h' : lHeap} {t T : TS} {ec : Nat} (r : W5 h t ec) (k : hK (fun k => k = 0 ∨ k = 3) h h') (h1 : T.1 330 = t.1 330) (h2 : T.1 301 = t.1 301) (h3 : eqR t T [121, 122, 123, 109, 110, 117]) : W5 h' T ec := by
  unfold W5
  rw [h2]
  exact W5b_cg r k h1 h3
theorem now_le {h : lHeap} {t : TS} {mx ec : Nat} (r : W0 h t mx ec) : bN (t.1 301) ≤ 6000 := by
  obtain ⟨n, h1, h2⟩ := r.2.1
  have : bN (Int32.ofNat n) = n := i_clamp (by omega)
  rw [h2, this]; exact h1
theorem R7_pt {h : lHeap} {t : TS} {v : Int32} (r : R7 h t) : R7 h (ptI t 0 v) := r
