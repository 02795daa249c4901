/-! the library: BitSet, writing -/
section
variable {E : lE} {G : lHeap} {own cr : Nat → Nat} {M0 M : lMem} {a e n u : Nat} {f : Nat → Int64}
/-- ensureCapacity -/
theorem bb_ens (h : BBs own M0 a e n u f M) (h6 : ∀ i, n ≤ i → f i = 0) (hn : n ≤ 40000) {q : Nat} (hq : q ≤ 20000) : ∃ M' e' n', lSp E prog 3 10 [.ref a, .int (Int32.ofNat q)] M (.inl none, M') ∧ BBs own M0 a e' n' u f M' ∧ q ≤ n' ∧ n ≤ n' ∧ ((n' = n ∧ M'.2.1 = M.2.1 ∧ M'.2.2 = M.2.2) ∨ (n < q ∧ n' = max (2 * n) q ∧ M'.2.1 = M.2.1 + 1 ∧ M'.2.2 = M.2.2 + n')) := by
  have h0 := h
  obtain ⟨k1, k2, k3, k4, k5, k6, k7⟩ := h
  by_cases z : q ≤ n
  · refine ⟨M, e, n, ?_, h0, z, Nat.le_refl _, Or.inl ⟨rfl, rfl, rfl⟩⟩
    refine lGo.sp (D := 2) pg_10 (Nat.le_of_ble_eq_true rfl) ?_
    refine lGo.step rfl (fun _ => rfl) ?_; dsimp only
    refine lGo.get rfl k4 rfl rfl ?_
    refine lGo.len rfl k7 ?_
    rw [rowW_len, i_32]
    refine lGo.step rfl (fun _ => rfl) ?_; dsimp only
    refine lGo.step rfl (fun _ => rfl) ?_; dsimp only
    refine lGo.brT (decide_eq_true ((i_le (by omega) (by omega)).mpr z)) ?_
    exact lGo.done rfl (fun _ => rfl)
  · have hf : M.1 M.2.1 = none := k1.2.1 _ (Nat.le_refl _)
    have ne : a ≠ M.2.1 := by have := k1.1; omega
    refine ⟨_, M.2.1, max (2 * n) q, ?_, (h0.nw f (max (2 * n) q) (M.2.2 + max (2 * n) q)), by omega, by omega, Or.inr ⟨by omega, rfl, rfl, rfl⟩⟩
    refine lGo.sp (D := 2) pg_10 (Nat.le_of_ble_eq_true rfl) ?_
    refine lGo.step rfl (fun _ => rfl) ?_; dsimp only
    refine lGo.get rfl k4 rfl rfl ?_
    refine lGo.len rfl k7 ?_
    rw [rowW_len, i_32]
    refine lGo.step rfl (fun _ => rfl) ?_; dsimp only
    refine lGo.step rfl (fun _ => rfl) ?_; dsimp only
    refine lGo.brF (decide_eq_false (fun w => z ((i_le (by omega) (by omega)).mp w))) ?_
    refine lGo.step rfl (fun _ => rfl) ?_; dsimp only
    refine lGo.step rfl (fun _ => rfl) ?_; dsimp only
    refine lGo.get rfl k4 rfl rfl ?_
    refine lGo.len rfl k7 ?_
    rw [rowW_len, i_32]
    refine lGo.step rfl (fun _ => rfl) ?_; dsimp only
    rw [show (2 : Int32) = Int32.ofNat 2 from rfl, i_mul]
    refine lGo.step rfl (fun _ => rfl) ?_; dsimp only
    refine lGo.call (n := 2) rfl ⟨Nat.le_of_ble_eq_true rfl, Nat.le_of_ble_eq_true rfl⟩ ((sp_47n (by omega) (by omega)).mono (by decide)) ?_
    refine lGo.step rfl (fun _ => rfl) ?_; dsimp only
    refine lGo.step rfl (fun _ => rfl) ?_; dsimp only
    refine lGo.step rfl (fun _ => rfl) ?_; dsimp only
    refine lGo.get rfl k4 rfl rfl ?_
    refine lGo.step rfl (fun _ => rfl) ?_; dsimp only
    refine lGo.call (n := 2) rfl ⟨Nat.le_of_ble_eq_true rfl, Nat.le_of_ble_eq_true rfl⟩ (sp_64 k7 hf (by omega) (by omega)) ?_
    refine lGo.put rfl ((lUpd_ne _ _ ne).trans k4) rfl (Nat.le_of_ble_eq_true rfl) rfl ?_
    refine lGo.step rfl (fun _ => rfl) ?_; dsimp only
    refine lGo.step rfl (fun _ => rfl) ?_; dsimp only
    refine lGo.put rfl (lUpd_eq ..) rfl (Nat.le_of_ble_eq_true rfl) rfl ?_
    rw [lUpdU, rowW_cg (g := f) (fun i _ => by
      by_cases w : i < n
      · rw [if_pos w]
      · rw [if_neg w, h6 i (by omega)])]
    exact lGo.done rfl (fun _ => rfl)
/-- expandTo -/
theorem bb_exp (h : BBs own M0 a e n u f M) (h6 : ∀ i, n ≤ i → f i = 0) (hn : n ≤ 40000) (hu : u ≤ n) {c : Nat} (hc : c < 20000) : ∃ M' e' n', lSp E prog 4 9 [.ref a, .int (Int32.ofNat c)] M (.inl none, M') ∧ BBs own M0 a e' n' (max u (c + 1)) f M' ∧ c < n' ∧ n ≤ n' ∧ ((n' = n ∧ M'.2.1 = M.2.1 ∧ M'.2.2 = M.2.2) ∨ (n ≤ c ∧ n' = max (2 * n) (c + 1) ∧ M'.2.1 = M.2.1 + 1 ∧ M'.2.2 = M.2.2 + n')) := by
  have h0 := h
  obtain ⟨k1, k2, k3, k4, k5, k6, k7⟩ := h
  have e1 : Int32.ofNat c + 1 = Int32.ofNat (c + 1) := i_add c 1
  by_cases z : c + 1 ≤ u
  · refine ⟨M, e, n, ?_, by rw [Nat.max_eq_left z]; exact h0, by omega, Nat.le_refl _, Or.inl ⟨rfl, rfl, rfl⟩⟩
    refine lGo.sp (D := 3) pg_9 (Nat.le_of_ble_eq_true rfl) ?_
    refine lGo.step rfl (fun _ => rfl) ?_; dsimp only
    refine lGo.step rfl (fun _ => rfl) ?_; dsimp only
    refine lGo.step rfl (fun _ => rfl) ?_; dsimp only
    rw [e1]
    refine lGo.step rfl (fun _ => rfl) ?_; dsimp only
    refine lGo.step rfl (fun _ => rfl) ?_; dsimp only
    refine lGo.get rfl k4 rfl rfl ?_
    refine lGo.step rfl (fun _ => rfl) ?_; dsimp only
    refine lGo.step rfl (fun _ => rfl) ?_; dsimp only
    refine lGo.brT (decide_eq_true ((i_le (by omega) (by omega)).mpr z)) ?_
    exact lGo.done rfl (fun _ => rfl)
  · obtain ⟨M', e', n', q1, q2, q3, q4, q5⟩ := bb_ens (E := E) h0 h6 hn (q := c + 1) (by omega)
    refine ⟨_, e', n', ?_, q2.wA (max u (c + 1)), by omega, q4, ?_⟩
    · refine lGo.sp (D := 3) pg_9 (Nat.le_of_ble_eq_true rfl) ?_
      refine lGo.step rfl (fun _ => rfl) ?_; dsimp only
      refine lGo.step rfl (fun _ => rfl) ?_; dsimp only
      refine lGo.step rfl (fun _ => rfl) ?_; dsimp only
      rw [e1]
      refine lGo.step rfl (fun _ => rfl) ?_; dsimp only
      refine lGo.step rfl (fun _ => rfl) ?_; dsimp only
      refine lGo.get rfl k4 rfl rfl ?_
      refine lGo.step rfl (fun _ => rfl) ?_; dsimp only
      refine lGo.step rfl (fun _ => rfl) ?_; dsimp only
      refine lGo.brF (decide_eq_false (fun w => z ((i_le (by omega) (by omega)).mp w))) ?_
      refine lGo.step rfl (fun _ => rfl) ?_; dsimp only
      refine lGo.step rfl (fun _ => rfl) ?_; dsimp only
      refine lGo.callV rfl rfl k4 rfl ⟨Nat.le_of_ble_eq_true rfl, Nat.le_of_ble_eq_true rfl⟩ q1 ?_
      refine lGo.step rfl (fun _ => rfl) ?_; dsimp only
      refine lGo.step rfl (fun _ => rfl) ?_; dsimp only
      refine lGo.put rfl q2.2.2.2.1 rfl (Nat.le_of_ble_eq_true rfl) rfl ?_
      rw [Nat.max_eq_right (by omega)]
      exact lGo.done rfl (fun _ => rfl)
    · rcases q5 with ⟨w1, w2, w3⟩ | ⟨w1, w2, w3, w4⟩
      · exact Or.inl ⟨w1, w2, w3⟩
      · exact Or.inr ⟨by omega, w2, w3, w4⟩
theorem setBL_len (xs : List Value) (k : Nat) : (setB xs k).length = max xs.length (k + 1) := by
  unfold setB
  split
  · rw [List.length_set]
    omega
  · rw [List.length_append, List.length_append, List.length_replicate, List.length_singleton]
    omega
theorem setB_bit (xs : List Value) (k q : Nat) : bit (setB xs k) q = (bit xs q || decide (q = k)) := by
  unfold setB bit
  split
  · rename_i h
    by_cases z : q = k
    · subst z
      rw [List.getElem?_set_self h, decide_eq_true rfl, Bool.or_true]
      rfl
    · rw [List.getElem?_set_ne (fun w => z w.symm), decide_eq_false z, Bool.or_false]
  · rename_i h
    by_cases z : q < xs.length
    · rw [List.append_assoc, List.getElem?_append_left z, decide_eq_false (by omega), Bool.or_false]
    · rw [List.getElem?_eq_none (l := xs) (by omega)]
      by_cases z2 : q < k
      · rw [List.getElem?_append_left (by rw [List.length_append, List.length_replicate]; omega), List.getElem?_append_right (by omega), List.getElem?_replicate, if_pos (by omega), decide_eq_false (by omega)]
        rfl
      · rw [List.getElem?_append_right (by rw [List.length_append, List.length_replicate]; omega), List.length_append, List.length_replicate]
        by_cases z3 : q = k
        · subst z3
          rw [show q - (xs.length + (q - xs.length)) = 0 by omega, decide_eq_true rfl]
          rfl
        · rw [List.getElem?_eq_none (by rw [List.length_singleton]; omega), decide_eq_false z3]
          rfl
theorem setB_mem {xs : List Value} {k : Nat} (h : ∀ v ∈ xs, v = .int 0 ∨ v = .int 1) : ∀ v ∈ setB xs k, v = .int 0 ∨ v = .int 1 := by
  intro v hv
  unfold setB at hv
  split at hv
  · rcases List.mem_or_eq_of_mem_set hv with z | z
    · exact h v z
    · exact Or.inr z
  · rcases List.mem_append.mp hv with z | z
    · rcases List.mem_append.mp z with z | z
      · exact h v z
      · exact Or.inl (List.mem_replicate.mp z).2
    · exact Or.inr (List.mem_singleton.mp z)
theorem or_ne {x z : Int64} (h : x ≠ 0) : x ||| z ≠ 0 := by
  obtain ⟨t, ht, h1, _⟩ := low_ex h
  intro w
  have := tb_z.mp w t ht
  rw [tb_or, h1] at this
  cases this
theorem or_ne2 {x z : Int64} (h : z ≠ 0) : x ||| z ≠ 0 := by
  obtain ⟨t, ht, h1, _⟩ := low_ex h
  intro w
  have := tb_z.mp w t ht
  rw [tb_or, h1, Bool.or_true] at this
  cases this
theorem bit_ne {k : Nat} (hk : k < 64) : (1 : Int64) <<< Int64.ofNat k ≠ 0 := by
  intro w
  have := tb_z.mp w k hk
  rw [tb_sh1 hk hk, decide_eq_true rfl] at this
  cases this
theorem bb_set {y : lY} {s : CS} {A0 M : lMem} {own cr : Nat → Nat} {a k : Nat} {xs : List Value} (hJE : jE E G) (hW : cW E y s A0) (hA : lAbo (lJd E G) G own cr M (cp y s A0)) (hc : s.1 a = some (true, false, 1003, xs)) (hk : k < 1000000) : ∃ (fin : lF) (A' : lMem), lSp E prog 5 8 [.ref (adr y.1 a), .int (Int32.ofNat k)] M fin ∧ lAb (lJd E G) G fin.2 A' ∧ lXk A' fin.1 ∧ (fin.1 = .inl none ∧ qP E y s A0 (lUpd s.1 a (true, false, 1003, setB xs k), s.2.1, s.2.2.1 + bsG xs k, s.2.2.2 + bsG xs k * (2 * (k / 64) + 2)) A') := by
  obtain ⟨e, n, u, f, S, h1, h2, h3, h4, h5, h6, h7, h8, h9⟩ := jp_B hW hA hc
  have hE0 := hJE.2.2.2.2.2.2.2
  have g := S.2.2.2.1
  obtain ⟨M1, e1, n1, p1, p2, p3, p4, p5⟩ := bb_exp (E := E) S (fun i hi => h6 i (by omega)) h2 h5 (c := k / 64) (by omega)
  have g1 := p2.2.2.2.1
  have ge1 := p2.2.2.2.2.2.2
  obtain ⟨f', hf'⟩ : ∃ f' : Nat → Int64, f' = fun j => if j = k / 64 then f (k / 64) ||| 1 <<< Int64.ofNat (k % 64) else f j := ⟨_, rfl⟩
  have n40 : n1 ≤ 40000 := by
    rcases p5 with ⟨w, _, _⟩ | ⟨w1, w2, _⟩ <;> omega
  have hu1 : max u (k / 64 + 1) ≤ n1 := by omega
  have f6 : ∀ i, max u (k / 64 + 1) ≤ i → f' i = 0 := fun i hi => by
    rw [hf']
    dsimp only
    rw [if_neg (by omega)]
    exact h6 i (by omega)
  have f7 : f' (max u (k / 64 + 1) - 1) ≠ 0 := by
    rw [hf']
    dsimp only
    by_cases z : max u (k / 64 + 1) - 1 = k / 64
    · rw [if_pos z]
      exact or_ne2 (bit_ne (m64 k))
    · rw [if_neg z]
      rcases h7 with w | w
      · omega
      · rw [show max u (k / 64 + 1) - 1 = u - 1 by omega]
        exact w
  have f9 : ∀ q, bit (setB xs k) q = tbL (f' (q / 64)) (q % 64) := fun q => by
    rw [setB_bit, h9, hf']
    dsimp only
    by_cases z : q / 64 = k / 64
    · rw [if_pos z, bit_setL (m64 k) (m64 q), z]
      congr 1
      have d1 := dm64 q
      have d2 := dm64 k
      exact decide_eq_decide.mpr ⟨fun w => by rw [w], fun w => by omega⟩
    · rw [if_neg z, decide_eq_false (fun w => z (by rw [w])), Bool.or_false]
  have hg : (n1 = n ∧ M1.2.1 = M.2.1 ∧ M1.2.2 = M.2.2) ∨ (bsG xs k = 1 ∧ n1 ≤ 2 * (k / 64) + 1 ∧ M1.2.1 = M.2.1 + 1 ∧ M1.2.2 = M.2.2 + n1) := by
    rcases p5 with w | ⟨w1, w2, w3, w4⟩
    · exact Or.inl w
    · refine Or.inr ⟨?_, by omega, w3, w4⟩
      unfold bsG
      rw [if_neg (by omega)]
  refine bb_done (nn := bsG xs k) (m := bsG xs k * (2 * (k / 64) + 2)) (xs := setB xs k) hW hA hc (by decide) ?_ (p2.wE f') (by omega) n40 (by rw [setBL_len]; omega) (by rw [setBL_len]; omega) hu1 f6 (Or.inr f7) (setB_mem h8) f9 ?_ ?_
  · refine lGo.sp (D := 4) pg_8 (Nat.le_of_ble_eq_true rfl) ?_
    refine lGo.step rfl (fun _ => rfl) ?_; dsimp only
    refine lGo.step rfl (fun _ => rfl) ?_; dsimp only
    refine lGo.brT (decide_eq_true (Int32.not_lt.mp (i_nlt0 (by omega)))) ?_
    refine lGo.step rfl (fun _ => rfl) ?_; dsimp only
    refine lGo.call (n := 1) rfl ⟨Nat.le_of_ble_eq_true rfl, Nat.le_of_ble_eq_true rfl⟩ ((sp_7 (k := k) (by omega)).mono (by decide)) ?_
    refine lGo.step rfl (fun _ => rfl) ?_; dsimp only
    refine lGo.step rfl (fun _ => rfl) ?_; dsimp only
    refine lGo.step rfl (fun _ => rfl) ?_; dsimp only
    refine lGo.callV rfl rfl g rfl ⟨Nat.le_of_ble_eq_true rfl, Nat.le_of_ble_eq_true rfl⟩ p1 ?_
    refine lGo.step rfl (fun _ => rfl) ?_; dsimp only
    refine lGo.get rfl g1 rfl rfl ?_
    refine lGo.step rfl (fun _ => rfl) ?_; dsimp only
    refine lGo.step rfl (fun _ => rfl) ?_; dsimp only
    refine lGo.ald rfl ge1 rfl (i_nlt0 (by omega)) (by rw [clampN (by omega)]; exact rowW_get p3) ?_
    refine lGo.step rfl (fun _ => rfl) ?_; dsimp only
    refine lGo.step rfl (fun _ => rfl) ?_; dsimp only
    refine lGo.step rfl (fun _ => rfl) ?_; dsimp only
    rw [sh_ix (by omega)]
    refine lGo.step rfl (fun _ => rfl) ?_; dsimp only
    refine lGo.lst rfl ge1 (i_nlt0 (by omega)) (by rw [clampN (by omega), rowW_len]; exact p3) ?_
    rw [clampN (by omega), rowW_set, ← hf']
    refine lGo.step rfl (fun _ => rfl) ?_; dsimp only
    refine lGo.callV rfl rfl (p2.wE f').2.2.2.1 rfl ⟨Nat.le_of_ble_eq_true rfl, Nat.le_of_ble_eq_true rfl⟩ ((sp_11 hE0).mono (by decide)) ?_
    exact lGo.done rfl (fun _ => rfl)
  · show M1.2.1 ≤ _
    rcases hg with ⟨_, w, _⟩ | ⟨w1, _, w, _⟩ <;> omega
  · show M1.2.2 ≤ _
    rcases hg with ⟨_, _, w⟩ | ⟨w1, w2, _, w⟩
    · omega
    · rw [w1, Nat.one_mul]
      omega
theorem jp8 (hJE : jE E G) : JP_8 (lAb (lJd E G) G) E := by
  intro y s A0 a w i x hW hr hx M hM
  obtain ⟨own, cr, hA⟩ := hM
  obtain ⟨xs, hc, hx1⟩ := bindC hx
  rcases iteC hx1 with ⟨⟨h0, h1⟩, hx2⟩ | ⟨_, hx2⟩
  case inr => cases hx2
  cases hx2
  have hc := cc_some hc
  have e := i_ofc h0
  have b := bb_set hJE hW hA hc h1
  rw [← e] at b
  rw [hr.1]
  exact b
end
