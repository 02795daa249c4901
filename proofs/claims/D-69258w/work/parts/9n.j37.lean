/-! the library: BitSet, reading -/
theorem lg_eq0 {x z : Int64} : (lg_cmp x z = 0) ↔ x = z := by
  unfold lg_cmp
  by_cases h : x = z
  · subst h
    simp [Int64.lt_irrefl]
  · by_cases k : x > z
    · rw [if_pos k]
      exact ⟨fun w => absurd w (by decide), fun w => absurd w h⟩
    · rw [if_neg k, if_neg h]
      exact ⟨fun w => absurd w (by decide), fun w => absurd w h⟩
theorem i_lt31 {i : Int32} (h : ¬ i < 0) : i.toNatClampNeg < 2147483648 := by
  have h2 := Int32.toInt_lt i
  show i.toInt.toNat < _
  omega
theorem lGet_t1 {lv : lL} {n : Nat} {v : Value} : lGet (st2 n v lv) n = some v := by
  unfold st2
  rw [lGet_cons, if_pos rfl]
theorem lGet_tn {lv : lL} {n m : Nat} {v v' : Value} (h : lGet lv m = some v') (hm : n ≠ m) (hm1 : n + 1 ≠ m) (h2 : m + 1 ≠ n ∨ v'.category = 1) : lGet (st2 n v lv) m = some v' := by
  unfold st2
  rw [lGet_cons, if_neg hm]
  refine lGet_filter h ?_
  have e1 : (m == n) = false := by simpa using fun z => hm z.symm
  have e3 : (m == n + 1) = false := by simpa using fun z => hm1 z.symm
  rcases h2 with h2 | h2
  · have e2 : (m + 1 == n) = false := by simpa using h2
    simp [e1, e2, e3]
  · simp [e1, e3, h2]
theorem dm64 (k : Nat) : 64 * (k / 64) + k % 64 = k := Nat.div_add_mod k 64
theorem m64 (k : Nat) : k % 64 < 64 := Nat.mod_lt _ (by decide)
section
variable {E : lE} {G : lHeap}
theorem jp13 (hJE : jE E G) : JP_13 (lAb (lJd E G) G) E := by
  intro y s A0 a w i x hW hr hx M hM
  obtain ⟨own, cr, hA⟩ := hM
  obtain ⟨xs, hc, hx1⟩ := bindC hx
  rcases iteC hx1 with ⟨h0, hx2⟩ | ⟨_, hx2⟩
  case inr => cases hx2
  cases hx2
  obtain ⟨e, n, u, f, ⟨_, _, _, g, hne, _, ge⟩, h1, h2, h3, h4, h5, h6, h7, h8, h9⟩ := jp_B hW hA (cc_some hc)
  have hE0 := hJE.2.2.2.2.2.2.2
  obtain ⟨k, hk, hik⟩ : ∃ k, k < 2147483648 ∧ i = Int32.ofNat k := ⟨_, i_lt31 h0, i_ofc h0⟩
  subst hik
  rw [clampN hk, hr.1, h9]
  refine ⟨(.inl (some (.int _)), M), _, ?_, ⟨own, cr, hA⟩, trivial, rfl, rfl⟩
  refine lGo.sp (D := 1) pg_13 (Nat.le_of_ble_eq_true rfl) ?_
  refine lGo.step rfl (fun _ => rfl) ?_; dsimp only
  refine lGo.step rfl (fun _ => rfl) ?_; dsimp only
  refine lGo.brT (decide_eq_true (Int32.not_lt.mp h0)) ?_
  refine lGo.step rfl (fun _ => rfl) ?_; dsimp only
  refine lGo.callV rfl rfl g rfl ⟨Nat.le_of_ble_eq_true rfl, Nat.le_of_ble_eq_true rfl⟩ (sp_11 hE0) ?_
  refine lGo.step rfl (fun _ => rfl) ?_; dsimp only
  refine lGo.call (n := 1) rfl ⟨Nat.le_of_ble_eq_true rfl, Nat.le_of_ble_eq_true rfl⟩ (sp_7 hk) ?_
  refine lGo.step rfl (fun _ => rfl) ?_; dsimp only
  refine lGo.step rfl (fun _ => rfl) ?_; dsimp only
  refine lGo.step rfl (fun _ => rfl) ?_; dsimp only
  refine lGo.get rfl g rfl rfl ?_
  refine lGo.step rfl (fun _ => rfl) ?_; dsimp only
  by_cases z : u ≤ k / 64
  · refine lGo.brT (decide_eq_true ((i_le (by omega) (by omega)).mpr z)) ?_
    rw [h6 _ z, tb_0, if_neg (by decide)]
    refine lGo.step rfl (fun _ => rfl) ?_; dsimp only
    exact lGo.done rfl (fun _ => rfl)
  · refine lGo.brF (decide_eq_false (fun w => z ((i_le (by omega) (by omega)).mp w))) ?_
    refine lGo.step rfl (fun _ => rfl) ?_; dsimp only
    refine lGo.get rfl g rfl rfl ?_
    refine lGo.step rfl (fun _ => rfl) ?_; dsimp only
    refine lGo.ald rfl ge rfl (i_nlt0 (by omega)) (by rw [clampN (by omega)]; exact rowW_get (by omega)) ?_
    refine lGo.step rfl (fun _ => rfl) ?_; dsimp only
    refine lGo.step rfl (fun _ => rfl) ?_; dsimp only
    refine lGo.step rfl (fun _ => rfl) ?_; dsimp only
    rw [sh_ix hk]
    refine lGo.step rfl (fun _ => rfl) ?_; dsimp only
    refine lGo.step rfl (fun _ => rfl) ?_; dsimp only
    refine lGo.step rfl (fun _ => rfl) ?_; dsimp only
    refine lGo.step rfl (fun _ => rfl) ?_; dsimp only
    by_cases b : tbL (f (k / 64)) (k % 64) = true
    · rw [b, if_pos rfl]
      refine lGo.brF (decide_eq_false (fun w => ?_)) ?_
      · rw [(bit_tst (m64 k)).mp (lg_eq0.mp w)] at b
        cases b
      refine lGo.step rfl (fun _ => rfl) ?_; dsimp only
      refine lGo.step rfl (fun _ => rfl) ?_; dsimp only
      exact lGo.done rfl (fun _ => rfl)
    · have b0 : tbL (f (k / 64)) (k % 64) = false := by simpa using b
      rw [if_neg b]
      refine lGo.brT (decide_eq_true (lg_eq0.mpr ((bit_tst (m64 k)).mpr b0))) ?_
      refine lGo.step rfl (fun _ => rfl) ?_; dsimp only
      exact lGo.done rfl (fun _ => rfl)
/-- the first bit from k on -/
theorem nxtN {xs : List Value} : ∀ {m k : Nat}, (∀ q, k ≤ q → q < k + m → bit xs q = false) → nxt xs m k = none := by
  intro m
  induction m with
  | zero => intro k _; rfl
  | succ m ih =>
    intro k h
    unfold nxt
    rw [if_neg (by rw [h k (Nat.le_refl _) (by omega)]; decide)]
    exact ih (fun q h1 h2 => h q (by omega) (by omega))
theorem nxtS {xs : List Value} : ∀ {m k p : Nat}, k ≤ p → p < k + m → bit xs p = true → (∀ q, k ≤ q → q < p → bit xs q = false) → nxt xs m k = some p := by
  intro m
  induction m with
  | zero => intro k p h1 h2; omega
  | succ m ih =>
    intro k p h1 h2 h3 h4
    unfold nxt
    by_cases z : k = p
    · subst z
      rw [if_pos h3]
    · rw [if_neg (by rw [h4 k (Nat.le_refl _) (by omega)]; decide)]
      exact ih (by omega) (by omega) h3 (fun q k1 k2 => h4 q (by omega) k2)
theorem bit_lt {xs : List Value} {p : Nat} (h : bit xs p = true) : p < xs.length := by
  apply Classical.byContradiction
  intro w
  unfold bit at h
  rw [List.getElem?_eq_none (by omega)] at h
  cases h
theorem low_ex {x : Int64} (h : x ≠ 0) : ∃ t, t < 64 ∧ tbL x t = true ∧ ∀ j, j < t → tbL x j = false := by
  have : ∀ n, (∀ j, j < n → tbL x j = false) ∨ ∃ t, t < n ∧ tbL x t = true ∧ ∀ j, j < t → tbL x j = false := by
    intro n
    induction n with
    | zero => exact Or.inl (fun j hj => by omega)
    | succ n ih =>
      rcases ih with ih | ⟨t, h1, h2, h3⟩
      · cases hb : tbL x n with
        | true => exact Or.inr ⟨n, Nat.lt_succ_self _, hb, ih⟩
        | false =>
          refine Or.inl (fun j hj => ?_)
          by_cases z : j = n
          · rw [z, hb]
          · exact ih j (by omega)
      · exact Or.inr ⟨t, by omega, h2, h3⟩
  rcases this 64 with k | k
  · exact absurd (tb_z.mpr k) h
  · exact k
/-- the loop of nextSetBit: from its head (34) at word c with its bits from k on -/
theorem next_lp {M : lMem} {a e n u : Nat} {f : Nat → Int64} {xs : List Value} (g : M.1 a = some (true, false, 3, [.ref e, .int (Int32.ofNat u), .int 0])) (ge : M.1 e = some (true, true, 1, rowW f n)) (hu : u ≤ n) (hn : n ≤ 40000) (h6 : ∀ i, u ≤ i → f i = 0) (h9 : ∀ q, bit xs q = tbL (f (q / 64)) (q % 64)) {k m : Nat} (hm : xs.length ≤ k + m) : ∀ (d c : Nat) (lv : lL) (x : Int64), c + d = u → 0 < d → lGet lv 0 = some (.ref a) → lGet lv 2 = some (.int (Int32.ofNat c)) → lGet lv 3 = some (.long x) → (∀ j, j < 64 → tbL x j = (tbL (f c) j && decide (k ≤ 64 * c + j))) → (∀ q, k ≤ q → q < 64 * c → bit xs q = false) → k ≤ 64 * c + 63 → lGo E prog 2 cd_12 34 (lv, [], M) (.inl (some (.int (match nxt xs m k with | some p => p.toInt32 | none => -1))), M) := by
  intro d
  induction d with
  | zero => intro c lv x h1 h2; omega
  | succ d ih =>
    intro c lv x hcd _ l0 l2 l3 hb hz hkc
    refine lGo.loadL rfl l3 ?_
    refine lGo.step rfl (fun _ => rfl) ?_; dsimp only
    refine lGo.step rfl (fun _ => rfl) ?_; dsimp only
    refine lGo.step rfl (fun _ => rfl) ?_; dsimp only
    by_cases z : x = 0
    · refine lGo.brT (decide_eq_true (lg_eq0.mpr z)) ?_
      have hz2 : ∀ q, k ≤ q → q < 64 * (c + 1) → bit xs q = false := by
        intro q h1 h2
        by_cases w : q < 64 * c
        · exact hz q h1 w
        · have hq := hb (q % 64) (m64 q)
          have e1 : q / 64 = c := by omega
          have e2 := dm64 q
          rw [e1] at e2
          rw [z, tb_0, e2, decide_eq_true h1, Bool.and_true] at hq
          rw [h9, e1]
          exact hq.symm
      refine lGo.inc rfl l2 ?_
      rw [show Int32.ofNat c + 1 = Int32.ofNat (c + 1) from i_add c 1]
      refine lGo.loadI rfl (x := Int32.ofNat (c + 1)) (by repeat (first | assumption | exact lGet_s1 | refine lGet_sn ?_ (by decide) (by first | exact Or.inl (by decide) | exact Or.inr rfl))) ?_
      refine lGo.loadA rfl (x := a) (by repeat (first | assumption | exact lGet_s1 | refine lGet_sn ?_ (by decide) (by first | exact Or.inl (by decide) | exact Or.inr rfl))) ?_
      refine lGo.get rfl g rfl rfl ?_
      refine lGo.step rfl (fun _ => rfl) ?_; dsimp only
      by_cases y : c + 1 = u
      · refine lGo.brF (decide_eq_false (fun w => w (by rw [y]))) ?_
        refine lGo.step rfl (fun _ => rfl) ?_; dsimp only
        have e : nxt xs m k = none := nxtN (fun q h1 h2 => by
          by_cases w : q < 64 * (c + 1)
          · exact hz2 q h1 w
          · rw [h9, h6 _ (by omega), tb_0])
        rw [e]
        exact lGo.done rfl (fun _ => rfl)
      · refine lGo.brT (decide_eq_true (fun w => y ((i_inj (by omega) (by omega)).mp w))) ?_
        refine lGo.loadA rfl (x := a) (by repeat (first | assumption | exact lGet_s1 | refine lGet_sn ?_ (by decide) (by first | exact Or.inl (by decide) | exact Or.inr rfl))) ?_
        refine lGo.get rfl g rfl rfl ?_
        refine lGo.loadI rfl (x := Int32.ofNat (c + 1)) (by repeat (first | assumption | exact lGet_s1 | refine lGet_sn ?_ (by decide) (by first | exact Or.inl (by decide) | exact Or.inr rfl))) ?_
        refine lGo.ald rfl ge rfl (i_nlt0 (by omega)) (by rw [clampN (by omega)]; exact rowW_get (by omega)) ?_
        refine lGo.step rfl (fun _ => rfl) ?_; dsimp only
        refine lGo.step rfl (fun _ => rfl) ?_; dsimp only
        exact ih (c + 1) _ (f (c + 1)) (by omega) (by omega) (lGet_tn (by repeat (first | assumption | exact lGet_s1 | refine lGet_sn ?_ (by decide) (by first | exact Or.inl (by decide) | exact Or.inr rfl))) (by decide) (by decide) (Or.inl (by decide))) (lGet_tn lGet_s1 (by decide) (by decide) (Or.inr rfl)) lGet_t1 (fun j hj => by rw [decide_eq_true (show k ≤ 64 * (c + 1) + j by omega), Bool.and_true]) hz2 (by omega)
    · refine lGo.brF (decide_eq_false (fun w => z (lg_eq0.mp w))) ?_
      obtain ⟨t, ht, t1, t2⟩ := low_ex z
      have hp : 64 * c + t ≥ k ∧ bit xs (64 * c + t) = true := by
        have := hb t ht
        rw [t1] at this
        have h2 := Bool.and_eq_true_iff.mp this.symm
        refine ⟨of_decide_eq_true h2.2, ?_⟩
        rw [h9, show (64 * c + t) / 64 = c by omega, show (64 * c + t) % 64 = t by omega]
        exact h2.1
      have e : nxt xs m k = some (64 * c + t) := nxtS hp.1 (Nat.lt_of_lt_of_le (bit_lt hp.2) hm) hp.2 (fun q h1 h2 => by
        by_cases w : q < 64 * c
        · exact hz q h1 w
        · have hq := hb (q % 64) (m64 q)
          have e1 : q / 64 = c := by omega
          have e2 := dm64 q
          rw [e1] at e2
          rw [t2 _ (by omega), e2, decide_eq_true h1, Bool.and_true] at hq
          rw [h9, e1]
          exact hq.symm)
      rw [e]
      refine lGo.loadI rfl l2 ?_
      refine lGo.step rfl (fun _ => rfl) ?_; dsimp only
      refine lGo.step rfl (fun _ => rfl) ?_; dsimp only
      rw [show Int32.ofNat c * 64 = Int32.ofNat (64 * c) from by rw [show (64 : Int32) = Int32.ofNat 64 from rfl, i_mul, Nat.mul_comm]]
      refine lGo.loadL rfl l3 ?_
      refine lGo.call (n := 1) rfl ⟨Nat.le_of_ble_eq_true rfl, Nat.le_of_ble_eq_true rfl⟩ (sp_115 t1 t2) ?_
      refine lGo.step rfl (fun _ => rfl) ?_; dsimp only
      rw [i_add]
      exact lGo.done rfl (fun _ => rfl)
theorem jp12 (hJE : jE E G) : JP_12 (lAb (lJd E G) G) E := by
  intro y s A0 a w i x hW hr hx M hM
  obtain ⟨own, cr, hA⟩ := hM
  obtain ⟨xs, hc, hx1⟩ := bindC hx
  rcases iteC hx1 with ⟨h0, hx2⟩ | ⟨_, hx2⟩
  case inr => cases hx2
  cases hx2
  obtain ⟨e, n, u, f, ⟨_, _, _, g, hne, _, ge⟩, h1, h2, h3, h4, h5, h6, h7, h8, h9⟩ := jp_B hW hA (cc_some hc)
  have hE0 := hJE.2.2.2.2.2.2.2
  obtain ⟨k, hk, hik⟩ : ∃ k, k < 2147483648 ∧ i = Int32.ofNat k := ⟨_, i_lt31 h0, i_ofc h0⟩
  subst hik
  rw [clampN hk, hr.1]
  refine ⟨(.inl (some (.int _)), M), _, ?_, ⟨own, cr, hA⟩, trivial, rfl, rfl⟩
  refine lGo.sp (D := 2) pg_12 (Nat.le_of_ble_eq_true rfl) ?_
  refine lGo.step rfl (fun _ => rfl) ?_; dsimp only
  refine lGo.step rfl (fun _ => rfl) ?_; dsimp only
  refine lGo.brT (decide_eq_true (Int32.not_lt.mp h0)) ?_
  refine lGo.step rfl (fun _ => rfl) ?_; dsimp only
  refine lGo.callV rfl rfl g rfl ⟨Nat.le_of_ble_eq_true rfl, Nat.le_of_ble_eq_true rfl⟩ ((sp_11 hE0).mono (by decide)) ?_
  refine lGo.step rfl (fun _ => rfl) ?_; dsimp only
  refine lGo.call (n := 1) rfl ⟨Nat.le_of_ble_eq_true rfl, Nat.le_of_ble_eq_true rfl⟩ ((sp_7 hk).mono (by decide)) ?_
  refine lGo.step rfl (fun _ => rfl) ?_; dsimp only
  refine lGo.step rfl (fun _ => rfl) ?_; dsimp only
  refine lGo.step rfl (fun _ => rfl) ?_; dsimp only
  refine lGo.get rfl g rfl rfl ?_
  refine lGo.step rfl (fun _ => rfl) ?_; dsimp only
  by_cases z : k / 64 < u
  · refine lGo.brT (decide_eq_true ((i_lt (by omega) (by omega)).mpr z)) ?_
    refine lGo.step rfl (fun _ => rfl) ?_; dsimp only
    refine lGo.get rfl g rfl rfl ?_
    refine lGo.step rfl (fun _ => rfl) ?_; dsimp only
    refine lGo.ald rfl ge rfl (i_nlt0 (by omega)) (by rw [clampN (by omega)]; exact rowW_get (by omega)) ?_
    refine lGo.step rfl (fun _ => rfl) ?_; dsimp only
    refine lGo.step rfl (fun _ => rfl) ?_; dsimp only
    refine lGo.step rfl (fun _ => rfl) ?_; dsimp only
    rw [sh_ix hk]
    refine lGo.step rfl (fun _ => rfl) ?_; dsimp only
    refine lGo.step rfl (fun _ => rfl) ?_; dsimp only
    refine next_lp g ge h5 h2 h6 h9 (m := xs.length - k) (by omega) (u - k / 64) (k / 64) _ _ (by omega) (by omega) rfl rfl rfl (fun j hj => ?_) (fun q k1 k2 => by omega) (by omega)
    rw [bit_from (m64 k) hj]
    congr 1
    exact decide_eq_decide.mpr ⟨fun w => by omega, fun w => by omega⟩
  · refine lGo.brF (decide_eq_false (fun w => z ((i_lt (by omega) (by omega)).mp w))) ?_
    refine lGo.step rfl (fun _ => rfl) ?_; dsimp only
    have e : nxt xs (xs.length - k) k = none := nxtN (fun q k1 k2 => by rw [h9, h6 _ (by omega), tb_0])
    rw [e]
    exact lGo.done rfl (fun _ => rfl)
/-- how many bits are set -/
theorem cntL_c (f : Nat → Bool) (n : Nat) : cntL f (n + 1) = (if f 0 = true then 1 else 0) + cntL (fun j => f (j + 1)) n := by
  rw [Nat.add_comm n 1, cntL_add f 1 n]
  congr 1
  · show 0 + _ = _
    rw [Nat.zero_add]
  · exact cntL_cg (fun j _ => by rw [Nat.add_comm])
theorem flt_cnt : ∀ (xs : List Value), (xs.filter (fun v => v == .int 1)).length = cntL (fun q => bit xs q) xs.length := by
  intro xs
  induction xs with
  | nil => rfl
  | cons v xs ih =>
    rw [List.length_cons, cntL_c, List.filter_cons]
    have e0 : bit (v :: xs) 0 = (v == .int 1) := rfl
    have e1 : cntL (fun j => bit (v :: xs) (j + 1)) xs.length = cntL (fun q => bit xs q) xs.length := cntL_cg (fun j _ => rfl)
    rw [e0, e1, ← ih]
    cases (v == Value.int 1)
    · rw [if_neg (by decide), if_neg (by decide), Nat.zero_add]
    · rw [if_pos rfl, if_pos rfl, List.length_cons, Nat.add_comm]
theorem cnt_wd {f : Nat → Int64} : ∀ u, cntL (fun q => tbL (f (q / 64)) (q % 64)) (64 * u + 64) = cntL (fun q => tbL (f (q / 64)) (q % 64)) (64 * u) + cntL (tbL (f u)) 64 := by
  intro u
  rw [cntL_add]
  congr 1
  refine cntL_cg (fun j hj => ?_)
  rw [show (64 * u + j) / 64 = u by omega, show (64 * u + j) % 64 = j by omega]
theorem cntL_le (f : Nat → Bool) : ∀ n, cntL f n ≤ n := by
  intro n
  induction n with
  | zero => exact Nat.le_refl _
  | succ n ih =>
    unfold cntL
    split <;> omega
theorem card_lp {M : lMem} {a e n u : Nat} {f : Nat → Int64} (g : M.1 a = some (true, false, 3, [.ref e, .int (Int32.ofNat u), .int 0])) (ge : M.1 e = some (true, true, 1, rowW f n)) (hu : u ≤ n) (hn : n ≤ 40000) : ∀ (d c : Nat) (lv : lL), c + d = u → lGet lv 0 = some (.ref a) → lGet lv 1 = some (.int (Int32.ofNat (cntL (fun q => tbL (f (q / 64)) (q % 64)) (64 * c)))) → lGet lv 2 = some (.int (Int32.ofNat c)) → lGo E prog 1 cd_18 4 (lv, [], M) (.inl (some (.int (Int32.ofNat (cntL (fun q => tbL (f (q / 64)) (q % 64)) (64 * u))))), M) := by
  intro d
  induction d with
  | zero =>
    intro c lv hcd l0 l1 l2
    refine lGo.loadI rfl l2 ?_
    refine lGo.loadA rfl l0 ?_
    refine lGo.get rfl g rfl rfl ?_
    refine lGo.step rfl (fun _ => rfl) ?_; dsimp only
    refine lGo.brT (decide_eq_true ((i_le (by omega) (by omega)).mpr (by omega))) ?_
    refine lGo.loadI rfl l1 ?_
    rw [show c = u by omega]
    exact lGo.done rfl (fun _ => rfl)
  | succ d ih =>
    intro c lv hcd l0 l1 l2
    refine lGo.loadI rfl l2 ?_
    refine lGo.loadA rfl l0 ?_
    refine lGo.get rfl g rfl rfl ?_
    refine lGo.step rfl (fun _ => rfl) ?_; dsimp only
    refine lGo.brF (decide_eq_false (fun w => by have := (i_le (by omega) (by omega)).mp w; omega)) ?_
    refine lGo.loadI rfl l1 ?_
    refine lGo.loadA rfl l0 ?_
    refine lGo.get rfl g rfl rfl ?_
    refine lGo.loadI rfl l2 ?_
    refine lGo.ald rfl ge rfl (i_nlt0 (by omega)) (by rw [clampN (by omega)]; exact rowW_get (by omega)) ?_
    refine lGo.call (n := 1) rfl ⟨Nat.le_of_ble_eq_true rfl, Nat.le_of_ble_eq_true rfl⟩ sp_118 ?_
    refine lGo.step rfl (fun _ => rfl) ?_; dsimp only
    rw [i_add, ← cnt_wd, show 64 * c + 64 = 64 * (c + 1) by omega]
    refine lGo.step rfl (fun _ => rfl) ?_; dsimp only
    refine lGo.inc rfl (x := Int32.ofNat c) (by repeat (first | assumption | exact lGet_s1 | refine lGet_sn ?_ (by decide) (by first | exact Or.inl (by decide) | exact Or.inr rfl))) ?_
    rw [show Int32.ofNat c + 1 = Int32.ofNat (c + 1) from i_add c 1]
    refine lGo.step rfl (fun _ => rfl) ?_; dsimp only
    exact ih (c + 1) _ (by omega) (by repeat (first | assumption | exact lGet_s1 | refine lGet_sn ?_ (by decide) (by first | exact Or.inl (by decide) | exact Or.inr rfl))) (by repeat (first | assumption | exact lGet_s1 | refine lGet_sn ?_ (by decide) (by first | exact Or.inl (by decide) | exact Or.inr rfl))) (by repeat (first | assumption | exact lGet_s1 | refine lGet_sn ?_ (by decide) (by first | exact Or.inl (by decide) | exact Or.inr rfl)))
theorem jp18 : JP_18 (lAb (lJd E G) G) E := by
  intro y s A0 a w x hW hr hx M hM
  obtain ⟨own, cr, hA⟩ := hM
  obtain ⟨xs, hc, hx1⟩ := bindC hx
  cases hx1
  obtain ⟨e, n, u, f, ⟨_, _, _, g, hne, _, ge⟩, h1, h2, h3, h4, h5, h6, h7, h8, h9⟩ := jp_B hW hA (cc_some hc)
  rw [hr.1]
  refine ⟨(.inl (some (.int _)), M), _, ?_, ⟨own, cr, hA⟩, trivial, rfl, rfl⟩
  refine lGo.sp (D := 1) pg_18 (Nat.le_of_ble_eq_true rfl) ?_
  have e0 : (xs.filter (fun v => v == .int 1)).length = cntL (fun q => tbL (f (q / 64)) (q % 64)) (64 * u) := by
    rw [flt_cnt, cntL_cg (g := fun q => tbL (f (q / 64)) (q % 64)) (fun q _ => h9 q)]
    by_cases z : xs.length ≤ 64 * u
    · refine (cntL_no z (fun q k1 k2 => ?_)).symm
      rw [← h9]
      cases hb : bit xs q with
      | false => rfl
      | true =>
        have := bit_lt hb
        omega
    · refine cntL_no (by omega) (fun q k1 k2 => ?_)
      rw [h6 _ (by omega), tb_0]
  rw [i_32, e0]
  refine lGo.step rfl (fun _ => rfl) ?_; dsimp only
  refine lGo.step rfl (fun _ => rfl) ?_; dsimp only
  refine lGo.step rfl (fun _ => rfl) ?_; dsimp only
  refine lGo.step rfl (fun _ => rfl) ?_; dsimp only
  exact card_lp g ge h5 h2 u 0 _ (by omega) rfl rfl rfl
end
