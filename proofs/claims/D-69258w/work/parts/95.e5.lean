/-! numbers: literals with numbers that are natural ones -/
theorem i_mulL (a k : Nat) : (no_index (OfNat.ofNat a : Int32)) * Int32.ofNat k = Int32.ofNat ((OfNat.ofNat a : Nat) * k) := by
  show Int32.ofNat a * Int32.ofNat k = _
  rw [i_mul]; rfl
theorem i_addL (a k : Nat) : Int32.ofNat k + (no_index (OfNat.ofNat a : Int32)) = Int32.ofNat (k + (OfNat.ofNat a : Nat)) := by
  show Int32.ofNat k + Int32.ofNat a = _
  rw [i_add]; rfl
theorem i_Ladd (a k : Nat) : (no_index (OfNat.ofNat a : Int32)) + Int32.ofNat k = Int32.ofNat ((OfNat.ofNat a : Nat) + k) := by
  show Int32.ofNat a + Int32.ofNat k = _
  rw [i_add]; rfl
theorem i_subL {a k : Nat} (h : (OfNat.ofNat a : Nat) ≤ k) : Int32.ofNat k - (no_index (OfNat.ofNat a : Int32)) = Int32.ofNat (k - (OfNat.ofNat a : Nat)) := by
  exact i_sub h
theorem i_ltL {a k : Nat} (hk : k < 2147483648) (ha : (OfNat.ofNat a : Nat) < 2147483648) : Int32.ofNat k < (no_index (OfNat.ofNat a : Int32)) ↔ k < (OfNat.ofNat a : Nat) := i_lt hk ha
theorem i_Llt {a k : Nat} (hk : k < 2147483648) (ha : (OfNat.ofNat a : Nat) < 2147483648) : (no_index (OfNat.ofNat a : Int32)) < Int32.ofNat k ↔ (OfNat.ofNat a : Nat) < k := i_lt ha hk
theorem i_eqL {a k : Nat} (hk : k < 2147483648) (ha : (OfNat.ofNat a : Nat) < 2147483648) : Int32.ofNat k = (no_index (OfNat.ofNat a : Int32)) ↔ k = (OfNat.ofNat a : Nat) := i_inj hk ha
theorem i_m1 {k : Nat} (hk : k < 2147483648) : (Int32.ofNat k = -1) = False := eq_false (i_ne1 hk)
theorem i_lt0 {k : Nat} (hk : k < 2147483648) : (Int32.ofNat k < 0) = False := eq_false (i_nlt0 hk)
/-! rows of the reference -/
theorem rdI_n {s : TS} {c len n : Nat} (h : n < len) (hl : len < 2147483648) : rdI s c len (Int32.ofNat n) = some (s.2.2.1 c n) := by
  unfold rdI
  rw [if_pos ⟨i_nlt0 (by omega), by rw [i_clamp (by omega)]; exact h⟩, i_clamp (by omega)]
theorem rdL_n {s : TS} {c len n : Nat} (h : n < len) (hl : len < 2147483648) : rdL s c len (Int32.ofNat n) = some (s.2.2.2 c n) := by
  unfold rdL
  rw [if_pos ⟨i_nlt0 (by omega), by rw [i_clamp (by omega)]; exact h⟩, i_clamp (by omega)]
theorem stI_n {s : TS} {c len n : Nat} {v : Int32} (h : n < len) (hl : len < 2147483648) : stI s c len (Int32.ofNat n) v = some (wrI s c n v) := by
  unfold stI
  rw [if_pos ⟨i_nlt0 (by omega), by rw [i_clamp (by omega)]; exact h⟩, i_clamp (by omega)]
theorem stL_n {s : TS} {c len n : Nat} {v : Int64} (h : n < len) (hl : len < 2147483648) : stL s c len (Int32.ofNat n) v = some (wrL s c n v) := by
  unfold stL
  rw [if_pos ⟨i_nlt0 (by omega), by rw [i_clamp (by omega)]; exact h⟩, i_clamp (by omega)]
theorem rdI_0 {s : TS} {c len a : Nat} (h : a < len) (hl : len < 2147483648) : rdI s c len (no_index (OfNat.ofNat a)) = some (s.2.2.1 c a) := rdI_n h hl
theorem stI_0 {s : TS} {c len a : Nat} {v : Int32} (h : a < len) (hl : len < 2147483648) : stI s c len (no_index (OfNat.ofNat a)) v = some (wrI s c a v) := stI_n h hl
theorem wr_1 (s : TS) (c k : Nat) (v : Int32) : (wrI s c k v).1 = s.1 := rfl
theorem wr_2 (s : TS) (c k : Nat) (v : Int32) : (wrI s c k v).2.1 = s.2.1 := rfl
theorem wr_4 (s : TS) (c k : Nat) (v : Int32) : (wrI s c k v).2.2.2 = s.2.2.2 := rfl
theorem wr_at (s : TS) (c k : Nat) (v : Int32) (q j : Nat) : (wrI s c k v).2.2.1 q j = if q = c ∧ j = k then v else s.2.2.1 q j := rfl
theorem pt_1 (s : TS) (c : Nat) (v : Int32) (q : Nat) : (ptI s c v).1 q = if q = c then v else s.1 q := rfl
theorem pt_2 (s : TS) (c : Nat) (v : Int32) : (ptI s c v).2 = s.2 := rfl
/-! lists, queues and rows of the store -/
theorem alC_r {s : CS} {a n : Nat} {m : Int32} {f : Nat → Value} (h : s.1 a = some (true, false, 1013, .int m :: rowC f n)) : alC s a = some (m, rowC f n) := by
  unfold alC cc; rw [h]; rfl
theorem alSize_r {s : CS} {a n : Nat} {m : Int32} {f : Nat → Value} (h : s.1 a = some (true, false, 1013, .int m :: rowC f n)) : alSize s a = some (Int32.ofNat n) := by
  unfold alSize; rw [alC_r h]; simp only [Option.bind_some, rowC_len, i_32]
theorem alEmpty_r {s : CS} {a n : Nat} {m : Int32} {f : Nat → Value} (h : s.1 a = some (true, false, 1013, .int m :: rowC f n)) : alEmpty s a = some (if n = 0 then 1 else 0) := by
  unfold alEmpty; rw [alC_r h]; simp only [Option.bind_some, rowC_len]
theorem alGet_r {s : CS} {a n k : Nat} {m : Int32} {f : Nat → Value} (h : s.1 a = some (true, false, 1013, .int m :: rowC f n)) (hk : k < n) (hn : n < 2147483648) : alGet s a (Int32.ofNat k) = some (f k) := by
  unfold alGet; rw [alC_r h, Option.bind_some, if_pos (i_nlt0 (by omega)), i_clamp (by omega), rowC_get, if_pos hk]
theorem elO_o {s : CS} {a k : Nat} {w : Bool} {fs : List Value} (h : s.1 a = some (w, false, k, fs)) : elO s (.ref a) = true := by
  unfold elO kdo
  simp only [h]
  rfl
theorem elO_i {s : CS} {x : Int32} : elO s (.int x) = true := rfl
theorem alAdd_r {s : CS} {a n : Nat} {m : Int32} {f : Nat → Value} {v : Value} (h : s.1 a = some (true, false, 1013, .int m :: rowC f n)) (hn : n < 500000) (he : elO s v = true) : alAdd s a v = some (cput s 1013 a 1 16 (.int (m + 1) :: rowC (fun j => if j = n then v else f j) (n + 1))) := by
  unfold alAdd; rw [alC_r h, Option.bind_some]; simp only [rowC_len]; rw [if_pos ⟨hn, he⟩, rowC_app]
theorem alClear_r {s : CS} {a n : Nat} {m : Int32} {f : Nat → Value} (h : s.1 a = some (true, false, 1013, .int m :: rowC f n)) : alClear s a = some (cput s 1013 a 0 0 [.int (m + 1)]) := by
  unfold alClear; rw [alC_r h]; rfl
theorem rowC_0 (f : Nat → Value) : rowC f 0 = [] := rfl
theorem adC_r {s : CS} {a n : Nat} {f : Nat → Value} (h : s.1 a = some (true, false, 1004, rowC f n)) : adC s a = some (rowC f n) := by
  unfold adC cc; rw [h]; rfl
theorem adSize_r {s : CS} {a n : Nat} {f : Nat → Value} (h : s.1 a = some (true, false, 1004, rowC f n)) : adSize s a = some (Int32.ofNat n) := by
  unfold adSize; rw [adC_r h]; simp only [Option.bind_some, rowC_len, i_32]
theorem adEmpty_r {s : CS} {a n : Nat} {f : Nat → Value} (h : s.1 a = some (true, false, 1004, rowC f n)) : adEmpty s a = some (if n = 0 then 1 else 0) := by
  unfold adEmpty; rw [adC_r h]; simp only [Option.bind_some, rowC_len]
theorem rowC_hd (f : Nat → Value) (n : Nat) : (rowC f n).head? = if n = 0 then none else some (f 0) := by
  rw [List.head?_eq_getElem?, rowC_get]
  by_cases h : n = 0
  · simp [h]
  · rw [if_pos (by omega), if_neg h]
theorem adFirst_r {s : CS} {a n : Nat} {f : Nat → Value} (h : s.1 a = some (true, false, 1004, rowC f n)) (hn : 0 < n) : adFirst s a = some (f 0) := by
  unfold adFirst; rw [adC_r h, Option.bind_some, rowC_hd, if_neg (by omega)]
theorem rowC_cons (f : Nat → Value) (n : Nat) : rowC f (n + 1) = f 0 :: rowC (fun j => f (j + 1)) n := by
  symm
  apply rowC_ext
  · simp [rowC_len]
  · intro k hk
    cases k with
    | zero => rfl
    | succ k => rw [List.getElem?_cons_succ, rowC_get, if_pos (by omega)]
theorem adRem_r {s : CS} {a n : Nat} {f : Nat → Value} (h : s.1 a = some (true, false, 1004, rowC f (n + 1))) : adRem s a = some (f 0, cput s 1004 a 0 0 (rowC (fun j => f (j + 1)) n)) := by
  unfold adRem; rw [adC_r h, Option.bind_some, rowC_cons]
theorem adG_le (n : Nat) : adG n ≤ 1 ∧ adG n * (2 * n + 40) ≤ 2 * n + 40 := by
  unfold adG
  split
  · omega
  · omega
theorem adG_0 {n : Nat} (h : n < 16) : adG n = 0 := if_pos h
theorem adAdd_r {s : CS} {a n : Nat} {f : Nat → Value} {v : Value} (h : s.1 a = some (true, false, 1004, rowC f n)) (hn : n < 100000) (hv : v ≠ .null) (he : elO s v = true) : adAdd s a v = some (cput s 1004 a (adG n) (adG n * (2 * n + 40)) (rowC (fun j => if j = n then v else f j) (n + 1))) := by
  unfold adAdd; rw [adC_r h, Option.bind_some]; simp only [rowC_len]; rw [if_pos ⟨hn, hv, he⟩, rowC_app]
theorem aCell_r {s : CS} {a n t : Nat} {w : Bool} {f : Nat → Value} (h : s.1 a = some (w, true, t, rowC f n)) (ht : t < 1000) : aCell s a = some (w, t, rowC f n) := by
  unfold aCell; rw [h]; simp only; rw [if_pos ht]
theorem aLen_r {s : CS} {a n t : Nat} {w : Bool} {f : Nat → Value} (h : s.1 a = some (w, true, t, rowC f n)) (ht : t < 1000) : aLen s a = some (Int32.ofNat n) := by
  unfold aLen; rw [aCell_r h ht]; simp only [Option.bind_some, rowC_len, i_32]
theorem aI_r {s : CS} {a n t k : Nat} {w : Bool} {f : Nat → Value} {ts : List Nat} {x : Int32} (h : s.1 a = some (w, true, t, rowC f n)) (ht : t < 1000) (hts : ts.contains t = true) (hk : k < n) (hn : n < 2147483648) (hf : f k = .int x) : aI s ts a (Int32.ofNat k) = some x := by
  unfold aI aV; rw [aCell_r h ht]; simp only [Option.bind_some]
  rw [if_pos ⟨hts, i_nlt0 (by omega)⟩, i_clamp (by omega), rowC_get, if_pos hk, hf]; rfl
theorem aPut_r {s : CS} {a n t k : Nat} {f : Nat → Value} {v : Value} (h : s.1 a = some (true, true, t, rowC f n)) (hk : k < n) (hn : n < 2147483648) : aPut s t a (Int32.ofNat k) v = some (cup s a (true, true, t, rowC (fun j => if j = k then v else f j) n)) := by
  unfold aPut; rw [h]; simp only
  rw [if_pos ⟨trivial, i_nlt0 (by omega), by rw [i_clamp (by omega), rowC_len]; exact hk⟩, i_clamp (by omega), rowC_set]
/-! whether a number is from 0 up to a bound -/
def inB (x n : Int32) : Bool := decide (¬ x < 0 ∧ x < n)
theorem inB_nat {x : Int32} (n : Nat) (hn : n < 2147483648) (h : inB x (Int32.ofNat n) = true) : ∃ k, k < n ∧ x = Int32.ofNat k := by
  have h := of_decide_eq_true h
  exact i_nat hn h.1 h.2
theorem inB_of {k n : Nat} (hk : k < n) (hn : n < 2147483648) : inB (Int32.ofNat k) (Int32.ofNat n) = true := by
  unfold inB
  exact decide_eq_true ⟨i_nlt0 (by omega), (i_lt (by omega) hn).mpr hk⟩
theorem inB_not {k n : Nat} (hk : n ≤ k) (h2 : k < 2147483648) (hn : n < 2147483648) : inB (Int32.ofNat k) (Int32.ofNat n) = false := by
  unfold inB
  exact decide_eq_false (fun q => by have := (i_lt h2 hn).mp q.2; omega)
theorem isInB (x n : Int32) (s : TS) : t_560 x n s = some (if inB x n = true then 1 else 0) := by
  rw [isIn_eq]; unfold inB; simp only [decide_eq_true_eq]
theorem orB (v n : Int32) : (if v < 0 then some (0 : Int32) else if v < n then some 1 else some 0) = some (if inB v n = true then 1 else 0) := by
  rw [isIn_or]; unfold inB; simp only [decide_eq_true_eq]
/-- outcomes that are alike: both tell the same exception -/
theorem Res.arg {α : Type} {X : Nat → Prop} {Y : Nat} {RX : (Nat → lHeap) → TS → Prop} {own : Nat → Nat} {s : CS} {t : TS} {n m : Nat} {c : Option (Sum (α × CS) (Nat × CS))} {d : Option (α × TS)} {x : α} (hc : c = some (.inr (s.2.1, exs s 11))) (hd : d = some (x, ptI t 0 1)) : Res X Y RX own s t n m c d := Or.inr (Or.inl ⟨x, hc, hd⟩)
theorem Res.sta {α : Type} {X : Nat → Prop} {Y : Nat} {RX : (Nat → lHeap) → TS → Prop} {own : Nat → Nat} {s : CS} {t : TS} {n m : Nat} {c : Option (Sum (α × CS) (Nat × CS))} {d : Option (α × TS)} {x : α} (hc : c = some (.inr (s.2.1, exs s 12))) (hd : d = some (x, ptI t 0 2)) : Res X Y RX own s t n m c d := Or.inr (Or.inr ⟨x, hc, hd⟩)
/-- nothing changes -/
theorem Res.same {α : Type} {X : Nat → Prop} {Y : Nat} {RX : (Nat → lHeap) → TS → Prop} {own : Nat → Nat} {s : CS} {t : TS} {n m : Nat} {c : Option (Sum (α × CS) (Nat × CS))} {d : Option (α × TS)} {x : α} (hw : wfS s) (hc : c = some (.inl (x, s))) (hd : d = some (x, ptI t 0 0)) (hR : RX (rs s.1 own) (ptI t 0 0)) : Res X Y RX own s t n m c d :=
  Or.inl ⟨x, s, _, own, hc, hd, rfl, fun Z _ h => rt_ptI (by show 99 ≠ Z; exact fun e => h e.symm), Frm.refl hw, hR, Nat.le_add_right _ _, Nat.le_add_right _ _⟩
