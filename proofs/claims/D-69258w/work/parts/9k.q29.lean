/-! permits: the relation -/
section
variable {t T : TS} {nf : Nat} {hq : lHeap}
/-- the permits' texts -/
def sTab3 : List (Nat × List Nat) := [(63, []), (64, [59]), (65, [43, 45, 42, 47, 40, 41, 60, 61, 62, 58, 59, 33, 64]), (66, [58]), (67, [33]), (68, [64]), (69, [60]), (70, [60, 61]), (71, [61]), (72, [62, 61]), (73, [62]), (74, [45]), (75, [43]), (76, [42]), (77, [47]), (78, [40]), (79, [41]), (81, []), (87, [60]), (88, [60, 61]), (89, [61]), (90, [62, 61]), (91, [])]
def K3 (h : lHeap) : Prop := (∀ p ∈ sTab3, h p.1 = some (false, false, 1000, txV p.2)) ∧ (∀ k, k ≤ 4 → h (sid k) = some (false, false, 131, [.int (Int32.ofNat k)])) ∧ ∃ w x, h 80 = some (w, false, 1000, x)
def MsR (h : lHeap) (ms : Value) (nm : Int64) : Prop := ∃ b, ms = .ref b ∧ (((b = 81 ∨ b = 91) ∧ nm = 0) ∨ ∃ (w : Bool) (xs : List Nat), h b = some (w, false, 1000, txV xs) ∧ xs.length < 1000 ∧ nmL xs = nm)
def AskedR (h : lHeap) (t : TS) (k : Nat) (sr lf rf : Value) (wy : Int32) (ms : Value) : Prop := ∃ sn, sn ≤ 4 ∧ sr = .ref (sid sn) ∧ t.2.2.1 89 k = Int32.ofNat sn ∧ FrK 0 ((h, 0, 0, 0) : CS) lf (t.2.2.2 90 k, t.2.2.2 91 k) ∧ FrK 0 ((h, 0, 0, 0) : CS) rf (t.2.2.2 92 k, t.2.2.2 93 k) ∧ wy = t.2.2.1 94 k ∧ MsR h ms (t.2.2.2 95 k)
/-- a rule: cell a; its clauses are q k .. q (k + 1) -/
def RuS (h : lHeap) (t : TS) (D : Nat → ClD) (q : Nat → Nat) (k a nm cc ex : Nat) (mc : Int32) (m : Nat) (CE : Nat → Nat) : Prop := h ex = some (true, false, 1013, .int mc :: rowC (fun j => .ref (CE j)) m) ∧ ClP (noK h) cc (D (q k)).1 (D (q k)).2.1 (D (q k)).2.2 ∧ (∀ j, j < m → ClP (noK h) (CE j) (D (q k + 1 + j)).1 (D (q k + 1 + j)).2.1 (D (q k + 1 + j)).2.2) ∧ t.2.2.1 80 k = Int32.ofNat (q k) ∧ t.2.2.1 81 k = Int32.ofNat m ∧ q (k + 1) = q k + 1 + m
def RuR (h : lHeap) (t : TS) (D : Nat → ClD) (q : Nat → Nat) (k a : Nat) : Prop := ∃ (nm cc ex : Nat) (sr lf rf : Value) (wy : Int32) (ms : Value) (mc : Int32) (m : Nat) (CE : Nat → Nat), h a = some (true, false, 70, [.ref nm, .ref cc, .ref ex, .int (t.2.2.1 82 k), sr, lf, rf, .int wy, ms]) ∧ RuS h t D q k a nm cc ex mc m CE ∧ ((t.1 218 = -1 ∧ sr = .null) ∨ (t.1 218 ≠ -1 ∧ AskedR h t k sr lf rf wy ms))
/-- the text -/
def R3t (h : lHeap) (t : TS) (n : Nat) : Prop := h 105 = some (true, false, 1035, rowC (fun j => .int (t.2.2.1 76 j)) n) ∧ t.1 201 = Int32.ofNat n ∧ n ≤ 800 ∧ ∀ j, j < n → ∃ x, 32 ≤ x ∧ x ≤ 126 ∧ t.2.2.1 76 j = Int32.ofNat x
/-- the rules -/
def R3q (h : lHeap) (t : TS) (nr rl : Nat) (mc : Int32) (ru q bb : Nat → Nat) (D : Nat → ClD) : Prop := h rl = some (true, false, 1013, .int mc :: rowC (fun k => .ref (ru k)) nr) ∧ t.1 205 = Int32.ofNat nr ∧ nr ≤ 12 ∧ q 0 = 0 ∧ q nr < 60 ∧ (∀ k, k < nr → RuR h t D q k (ru k)) ∧ (∀ j k, j < nr → k < nr → ru j = ru k → j = k) ∧ bb 0 = 0 ∧ bb (q nr) ≤ 250 ∧ ∀ c, c < q nr → RcS t c (D c) (bb c) ∧ bb (c + 1) = bb c + (D c).1.length + (D c).2.1.length
def R3x (h : lHeap) (t : TS) (nf n nr rl : Nat) (mc : Int32) (ru q bb : Nat → Nat) (D : Nat → ClD) : Prop := h 104 = some (true, false, 78, [.ref 105, .ref rl, .ref 107, .int (t.1 218)]) ∧ (t.1 218 = -1 ∨ ¬ t.1 218 < 0) ∧ R3t h t n ∧ R3f h t nf ∧ R3q h t nr rl mc ru q bb D
def R3 (h : lHeap) (t : TS) : Prop := ∃ nf n nr rl mc ru q bb D, R3x h t nf n nr rl mc ru q bb D
theorem q_mono {q : Nat → Nat} {nr : Nat} (h : ∀ k, k < nr → q k < q (k + 1)) {j k : Nat} (hj : j ≤ k) (hk : k ≤ nr) : q j ≤ q k := by
  induction k with
  | zero => rw [Nat.le_zero.mp hj]; exact Nat.le_refl _
  | succ k ih =>
    by_cases z : j = k + 1
    · rw [z]; exact Nat.le_refl _
    · have := ih (by omega) (by omega)
      have := h k (by omega)
      omega
theorem cst_bb {D : Nat → ClD} {bb : Nat → Nat} {c : Nat} : ∀ {k : Nat}, (∀ j, j < k → bb (c + j + 1) = bb (c + j) + (D (c + j)).1.length + (D (c + j)).2.1.length) → cstD D c k + 2 * bb c = 2 * bb (c + k) + k := by
  intro k
  induction k with
  | zero => intro _; simp [cstD]
  | succ k ih =>
    intro h
    have h1 := ih (fun j hj => h j (by omega))
    have h2 := h k (by omega)
    show cstD D c k + (2 * (D (c + k)).1.length + 2 * (D (c + k)).2.1.length + 1) + 2 * bb c = 2 * bb (c + (k + 1)) + (k + 1)
    rw [show c + (k + 1) = c + k + 1 by omega, h2]
    omega
theorem RuA_up {b0 : Nat} {S S' : CS} (e : ∀ p c, c.2.2.1 ≠ 70 → S.1 p = some c → S'.1 p = some c) {sr lf rf ms : Value} {wy : Int32} {Q : Nat × Int32 × Int64} {kl kr : Int64 × Int64} (h : RuA hq b0 S sr lf rf wy ms Q kl kr) : RuA hq b0 S' sr lf rf wy ms Q kl kr := by
  obtain ⟨h1, h2, h3, h4, h5, b, w, xs, h6, h7, h8⟩ := h
  exact ⟨h1, h2, FrK_up e h3, FrK_up e h4, h5, b, w, xs, h6, e _ _ (by show 1000 ≠ 70; decide) h7, h8⟩
theorem AnsR_up {S : TS} {k j : Nat} (h : AnsE S T k) (hj : j ≠ k) {Q : Nat × Int32 × Int64} {kl kr : Int64 × Int64} (a : AnsR S j Q kl kr) : AnsR T j Q kl kr := by
  obtain ⟨a1, a2, a3, a4, a5, a6, a7⟩ := a
  obtain ⟨h1, h2, h3, h4, h5, h6, h7⟩ := h j hj
  exact ⟨h1.trans a1, h2.trans a2, h3.trans a3, h4.trans a4, h5.trans a5, h6.trans a6, h7.trans a7⟩
theorem K3_sg {s : CS} {own : Nat → Nat} (k : K3 (rs s.1 own 11)) : SgK s ∧ s.1 81 = some (false, false, 1000, txV []) := by
  have e : ∀ p x, (p, x) ∈ sTab3 → s.1 p = some (false, false, 1000, txV x) := fun p x h => (rs_some.mp (k.1 (p, x) h)).2
  exact ⟨⟨⟨_, e 87 _ (by decide)⟩, ⟨_, e 88 _ (by decide)⟩, ⟨_, e 89 _ (by decide)⟩, ⟨_, e 90 _ (by decide)⟩, ⟨_, e 91 _ (by decide)⟩⟩, e 81 _ (by decide)⟩
theorem R3f_tf (f : TF t T) {h : lHeap} (r : R3f h t nf) : R3f h T nf := by
  obtain ⟨mc, es, r1, r2, r3, r4, r5, r6, r7⟩ := r
  have e77 := f.2.2.2 77 (by decide) (by decide) (by decide) (by decide) (by decide) (by decide) (by decide)
  have e78 := f.2.2.1 78 (by decide) (by decide)
  refine ⟨mc, es, r1, ?_, r3, r4, (f.1 202 (by decide) (by decide)).trans r5, r6, fun i j => by rw [e77]; exact r7 i j⟩
  rw [show fcM T nf = fcM t nf from ?_]
  · exact r2
  · funext z
    unfold fcM
    rw [fcI_cg e77, e78]
end
