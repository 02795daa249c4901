/-! the library: byte arrays; StringBuilder's array -/
section
variable {E : lE} {M : lMem} {D : Nat} {cd : List lI} {i j : Nat} {fin : lF} {lv : lL} {r : List Value}
theorem fit_by : ∀ c : Fin 128, fits .byte (.int (Int32.ofNat c.val)) = true := by decide +kernel
theorem jchr_fit {xs : List Value} (h : jchr xs) : ∀ v ∈ xs, fits .byte v = true := by
  intro v hv
  obtain ⟨c, hc, rfl⟩ := h v hv
  exact fit_by ⟨c, hc⟩
theorem jchr_sub {xs ys : List Value} (h : jchr ys) (hs : ∀ v ∈ xs, v ∈ ys) : jchr xs := fun v hv => h v (hs v hv)
theorem jchr_app {xs ys : List Value} (h : jchr xs) (k : jchr ys) : jchr (xs ++ ys) := by
  intro v hv
  rcases List.mem_append.mp hv with z | z
  · exact h v z
  · exact k v z
theorem jchr_rep {n : Nat} : jchr (List.replicate n (.int 0)) := by
  intro v hv
  rw [(List.mem_replicate.mp hv).2]
  exact ⟨0, by decide, rfl⟩
theorem lGo.copyB {a0 a : Nat} {w : Bool} {xs ys : List Value} {sp dp n : Nat} (hi : cd[i]? = some (aM (fCopy lPrims raTab j))) (h0 : M.1 a0 = some (w, true, 2, xs)) (h1 : M.1 a = some (true, true, 2, ys)) (hs : sp + n ≤ xs.length) (hd : dp + n ≤ ys.length) (hb : xs.length < 2147483648) (hb2 : ys.length < 2147483648) (hr : (r.map (fun v => v.category)).sum ≤ 8) (hv : jchr xs)
    (h : lGo E prog D cd j (lv, r, lUpd M.1 a (true, true, 2, ys.take dp ++ (xs.drop sp).take n ++ ys.drop (dp + n)), M.2.1, M.2.2) fin) : lGo E prog D cd i (lv, .int (Int32.ofNat n) :: .int (Int32.ofNat dp) :: .ref a :: .int (Int32.ofNat sp) :: .ref a0 :: r, M) fin := by
  have l1 : ((xs.drop sp).take n).length = n := by rw [List.length_take, List.length_drop]; omega
  have e := lSt_eq ((xs.drop sp).take n) ys dp (by rw [l1]; omega)
  rw [l1] at e
  rw [← e] at h
  refine lGo.step hi (fun _ => ?_) h
  show lMemI (fCopy lPrims raTab j) E _ _ = _
  unfold lMemI fCopy
  dsimp only
  rw [h0]
  dsimp only
  rw [h1]
  dsimp only
  have hp : lPrm lPrims 2 ((xs.drop sp).take n) = true := by
    show List.all _ _ = true
    exact List.all_eq_true.mpr (fun v hv' => jchr_fit hv v (List.mem_of_mem_drop (List.mem_of_mem_take hv')))
  rw [i_clamp (by omega), i_clamp (by omega), i_clamp (by omega), if_pos ⟨i_nlt0 (by omega), i_nlt0 (by omega), i_nlt0 (by omega), hs, hd, hr, Or.inl ⟨rfl, hp⟩⟩]
theorem lGo.cloneB {a : Nat} {w : Bool} {xs : List Value} (hi : cd[i]? = some (aM (fClone 2 .byte j))) (h0 : M.1 a = some (w, true, 2, xs)) (hv : jchr xs) (hr : (r.map (fun v => v.category)).sum ≤ 8) (h : lGo E prog D cd j (lv, .ref M.2.1 :: r, lUpd M.1 M.2.1 (true, true, 2, xs), M.2.1 + 1, M.2.2 + xs.length) fin) : lGo E prog D cd i (lv, .ref a :: r, M) fin := by
  refine lGo.step hi (fun _ => ?_) h
  show lMemI (fClone 2 .byte j) E _ _ = _
  unfold lMemI fClone
  dsimp only
  rw [h0]
  dsimp only
  rw [if_pos ⟨rfl, List.all_eq_true.mpr (jchr_fit hv), hr⟩]
theorem chr_o8 : ∀ c : Fin 128, (Int32.ofNat c.val).toInt8.toInt32 = Int32.ofNat c.val := by decide +kernel
theorem lGo.bst {a c n : Nat} {xs : List Value} (hi : cd[i]? = some (aM (fBst 2 3 j))) (hM : M.1 a = some (true, true, 2, xs)) (hl : n < xs.length) (hx : xs.length < 2147483648) (hc : c < 128) (h : lGo E prog D cd j (lv, r, lUpd M.1 a (true, true, 2, xs.set n (.int (Int32.ofNat c))), M.2.1, M.2.2) fin) : lGo E prog D cd i (lv, .int (Int32.ofNat c) :: .int (Int32.ofNat n) :: .ref a :: r, M) fin := by
  refine lGo.step hi (fun rec => ?_) h
  show lMemI (fBst 2 3 j) E rec _ = _
  unfold lMemI fBst
  dsimp only
  rw [hM]
  dsimp only
  rw [if_pos rfl]
  unfold fAst
  dsimp only
  rw [hM]
  dsimp only
  rw [clampN (by omega), if_pos ⟨rfl, i_nlt0 (by omega), hl⟩, chr_o8 ⟨c, hc⟩]
theorem i_shl0 {n : Nat} : Int32.ofNat n <<< ((0 : Int32) &&& 31) = Int32.ofNat n := by
  rw [show ((0 : Int32) &&& 31) = Int32.ofNat 0 from by decide, i_shl (by decide), Nat.pow_zero, Nat.mul_one]
/-- Arrays.copyOf of bytes, longer -/
theorem sp_61 {e N : Nat} {w : Bool} {xs : List Value} (he : M.1 e = some (w, true, 2, xs)) (hf : M.1 M.2.1 = none) (hv : jchr xs) (hN : xs.length < N) (hN2 : N ≤ 1000000) : lSp E prog 2 61 [.ref e, .int (Int32.ofNat N)] M (.inl (some (.ref M.2.1)), (lUpd M.1 M.2.1 (true, true, 2, xs ++ List.replicate (N - xs.length) (.int 0)), M.2.1 + 1, M.2.2 + N)) := by
  refine lGo.sp (D := 1) pg_61 (Nat.le_of_ble_eq_true rfl) ?_
  repeat (refine lGo.step rfl (fun _ => rfl) ?_; try dsimp only)
  refine lGo.len rfl he ?_
  refine lGo.step rfl (fun _ => rfl) ?_
  refine lGo.brT (decide_eq_true (fun z => ?_)) ?_
  · have : N = xs.length := (i_inj (by omega) (by omega)).mp z
    omega
  refine lGo.step rfl (fun _ => rfl) ?_; dsimp only
  refine lGo.newa rfl (i_nlt0 (by omega)) (by rw [clampN (by omega)]; exact hN2) ?_
  rw [clampN (by omega)]
  have he' : lUpd M.1 M.2.1 (true, true, 2, List.replicate N (.int 0)) e = some (w, true, 2, xs) := (lUpd_ne _ _ (fun z => by rw [z, hf] at he; cases he)).trans he
  repeat (refine lGo.step rfl (fun _ => rfl) ?_; try dsimp only)
  refine lGo.len rfl he' ?_
  repeat (refine lGo.step rfl (fun _ => rfl) ?_; try dsimp only)
  rw [i_32]
  refine lGo.call (n := 2) rfl ⟨Nat.le_of_ble_eq_true rfl, Nat.le_of_ble_eq_true rfl⟩ (sp_48n (by omega) (by omega)) ?_
  refine lGo.copyB (sp := 0) (dp := 0) (n := min xs.length N) rfl he' (lUpd_eq ..) (by omega) (by rw [List.length_replicate]; omega) (by omega) (by rw [List.length_replicate]; omega) (cat8 (Nat.le_of_ble_eq_true rfl)) hv ?_
  repeat (refine lGo.step rfl (fun _ => rfl) ?_; try dsimp only)
  have e2 : (List.replicate N (Value.int 0)).take 0 ++ (xs.drop 0).take (min xs.length N) ++ (List.replicate N (Value.int 0)).drop (0 + min xs.length N) = xs ++ List.replicate (N - xs.length) (.int 0) := by
    rw [List.take_zero, List.nil_append, List.drop_zero, take_min, List.drop_replicate, List.take_of_length_le (by omega), Nat.min_eq_left (by omega), Nat.zero_add]
  rw [e2, lUpdU]
  exact lGo.done rfl (fun _ => rfl)
end
section
variable {E : lE} {G : lHeap} {own cr : Nat → Nat} {M0 M : lMem} {a e n : Nat} {x : Value} {arr fs : List Value}
/-- a builder amid a call that began at M0 -/
def SBs (own : Nat → Nat) (M0 : lMem) (a e : Nat) (x : Value) (n : Nat) (arr : List Value) (M : lMem) : Prop := Jw own a M0 M ∧ own a = a ∧ a < M0.2.1 ∧ M.1 a = some (true, false, 35, [.ref e, .int 0, x, .int (Int32.ofNat n)]) ∧ e ≠ a ∧ (e < M0.2.1 → own e = a) ∧ M.1 e = some (true, true, 2, arr) ∧ jchr arr ∧ 16 ≤ arr.length ∧ arr.length ≤ 300000
theorem SBs.wE (h : SBs own M0 a e x n arr M) {arr' : List Value} (hj : jchr arr') (hl : arr'.length = arr.length) : SBs own M0 a e x n arr' (lUpd M.1 e (true, true, 2, arr'), M.2.1, M.2.2) := by
  obtain ⟨h1, h2, h3, h4, h5, h6, h7, h8, h9, h10⟩ := h
  exact ⟨h1.upd h7 h6, h2, h3, (lUpd_ne _ _ (fun z => h5 z.symm)).trans h4, h5, h6, lUpd_eq .., hj, by rw [hl]; exact h9, by rw [hl]; exact h10⟩
theorem SBs.wA (h : SBs own M0 a e x n arr M) (x' : Value) (n' : Nat) : SBs own M0 a e x' n' arr (lUpd M.1 a (true, false, 35, [.ref e, .int 0, x', .int (Int32.ofNat n')]), M.2.1, M.2.2) := by
  obtain ⟨h1, h2, h3, h4, h5, h6, h7, h8, h9, h10⟩ := h
  exact ⟨h1.upd h4 (fun _ => h2), h2, h3, lUpd_eq .., h5, h6, (lUpd_ne _ _ h5).trans h7, h8, h9, h10⟩
theorem SBs.nw (h : SBs own M0 a e x n arr M) {arr' : List Value} (hj : jchr arr') (hl : 16 ≤ arr'.length) (hl2 : arr'.length ≤ 300000) (k : Nat) : SBs own M0 a M.2.1 x n arr' (lUpd (lUpd M.1 M.2.1 (true, true, 2, arr')) a (true, false, 35, [.ref M.2.1, .int 0, x, .int (Int32.ofNat n)]), M.2.1 + 1, k) := by
  obtain ⟨h1, h2, h3, h4, h5, h6, h7, h8, h9, h10⟩ := h
  have hle := h1.1
  have ne : a ≠ M.2.1 := by omega
  refine ⟨(h1.new (c := (true, true, 2, arr')) ⟨(show 2 < 1000 by decide), fun w => by cases w⟩ k).upd ((lUpd_ne _ _ ne).trans h4) (fun _ => h2), h2, h3, lUpd_eq .., ne.symm, fun z => by omega, (lUpd_ne _ _ ne.symm).trans (lUpd_eq ..), hj, hl, hl2⟩
theorem SBs.fin (h : SBs own M0 a e x n arr M) {rest : List Value} {k : Nat} (hr : arr = fs ++ rest) (hn : n = fs.length) (hl : fs.length ≤ 100000) (hk : 8 * fs.length ≤ k + 2 * arr.length) : JS fs a (lHp (ownN own M0.2.1 a) M a) k := by
  obtain ⟨h1, h2, h3, h4, h5, h6, h7, h8, h9, h10⟩ := h
  refine ⟨e, arr.length, x, rest, ?_, h5, ?_, ?_, h9, h10, hl, by rw [← hr]; exact h8, hk⟩
  · rw [hp_old h2 h3, ← hn]
    exact h4
  · rw [← hr]
    by_cases z : e < M0.2.1
    · rw [hp_old (h6 z) z]
      exact h7
    · rw [hp_new (by omega)]
      exact h7
  · rw [hr, List.length_append]
theorem sp_156 {w : Bool} {y1 y2 y3 : Value} (hE : E 27 = .int 1) (g : M.1 a = some (w, false, 35, [y1, .int 0, y2, y3])) : lSp E prog 1 156 [.ref a] M (.inl (some (.int 1)), M) := by
  refine lGo.sp (D := 0) pg_156 (Nat.le_of_ble_eq_true rfl) ?_
  refine lGo.env rfl hE ?_
  refine lGo.step rfl (fun _ => rfl) ?_
  refine lGo.brF (by rfl) ?_
  repeat (refine lGo.step rfl (fun _ => rfl) ?_; try dsimp only)
  refine lGo.get rfl g rfl rfl ?_
  refine lGo.step rfl (fun _ => rfl) ?_
  refine lGo.brF (by rfl) ?_
  repeat (refine lGo.step rfl (fun _ => rfl) ?_; try dsimp only)
  exact lGo.done rfl (fun _ => rfl)
theorem sp_159 {w w2 : Bool} {m : Nat} {y2 y3 : Value} (g : M.1 a = some (w, false, 35, [.ref e, .int 0, y2, y3])) (ge : M.1 e = some (w2, true, 2, arr)) (hm : arr.length < m) (hm2 : m ≤ 150000) : lSp E prog 4 159 [.ref a, .int (Int32.ofNat m)] M (.inl (some (.int (Int32.ofNat (arr.length + max (m - arr.length) (arr.length + 2))))), M) := by
  refine lGo.sp (D := 3) pg_159 (Nat.le_of_ble_eq_true rfl) ?_
  repeat (refine lGo.step rfl (fun _ => rfl) ?_; try dsimp only)
  refine lGo.get rfl g rfl rfl ?_
  refine lGo.len rfl ge ?_
  repeat (refine lGo.step rfl (fun _ => rfl) ?_; try dsimp only)
  refine lGo.get rfl g rfl rfl ?_
  repeat (refine lGo.step rfl (fun _ => rfl) ?_; try dsimp only)
  rw [i_shl0, i_32, show Int32.ofNat m - Int32.ofNat arr.length = Int32.ofNat (m - arr.length) from i_sub (by omega)]
  refine lGo.get rfl g rfl rfl ?_
  refine lGo.step rfl (fun _ => rfl) ?_; dsimp only
  rw [show (2 : Int32) = Int32.ofNat 2 from rfl, i_shl0]
  refine lGo.step rfl (fun _ => rfl) ?_; dsimp only
  rw [show Int32.ofNat arr.length + Int32.ofNat 2 = Int32.ofNat (arr.length + 2) from i_add _ _]
  refine lGo.call (n := 3) rfl ⟨Nat.le_of_ble_eq_true rfl, Nat.le_of_ble_eq_true rfl⟩ ((sp_36 (n := arr.length) (a := m - arr.length) (b := arr.length + 2) (by omega) (by omega)).mono (by decide)) ?_
  repeat (refine lGo.step rfl (fun _ => rfl) ?_; try dsimp only)
  refine lGo.brT (decide_eq_true (fun z => ?_)) ?_
  · have := (i_inj (j := arr.length + max (m - arr.length) (arr.length + 2)) (k := 2147483647) (by omega) (by omega)).mp z
    omega
  repeat (refine lGo.step rfl (fun _ => rfl) ?_; try dsimp only)
  refine lGo.get rfl g rfl rfl ?_
  repeat (refine lGo.step rfl (fun _ => rfl) ?_; try dsimp only)
  rw [i_shr0 (by omega)]
  exact lGo.done rfl (fun _ => rfl)
theorem sb_ens (h : SBs own M0 a e x n arr M) {m : Nat} (hm : m ≤ 149000) : ∃ M' e' arr', lSp E prog 6 158 [.ref a, .int (Int32.ofNat m)] M (.inl none, M') ∧ SBs own M0 a e' x n arr' M' ∧ (∃ z, arr' = arr ++ z) ∧ m ≤ arr'.length ∧ ((arr' = arr ∧ M'.2.1 = M.2.1 ∧ M'.2.2 = M.2.2) ∨ (arr.length < m ∧ arr'.length = arr.length + max (m - arr.length) (arr.length + 2) ∧ M'.2.1 = M.2.1 + 1 ∧ M'.2.2 = M.2.2 + arr'.length)) := by
  have h0 := h
  obtain ⟨h1, h2, h3, h4, h5, h6, h7, h8, h9, h10⟩ := h
  by_cases z : m ≤ arr.length
  · refine ⟨M, e, arr, ?_, h0, ⟨[], (List.append_nil _).symm⟩, z, Or.inl ⟨rfl, rfl, rfl⟩⟩
    refine lGo.sp (D := 5) pg_158 (Nat.le_of_ble_eq_true rfl) ?_
    repeat (refine lGo.step rfl (fun _ => rfl) ?_; try dsimp only)
    refine lGo.get rfl h4 rfl rfl ?_
    refine lGo.len rfl h7 ?_
    repeat (refine lGo.step rfl (fun _ => rfl) ?_; try dsimp only)
    refine lGo.get rfl h4 rfl rfl ?_
    repeat (refine lGo.step rfl (fun _ => rfl) ?_; try dsimp only)
    rw [i_32, i_shr0 (by omega)]
    refine lGo.brT (decide_eq_true ?_) ?_
    · have : Int32.ofNat m - Int32.ofNat arr.length ≤ 0 := by
        rw [Int32.le_iff_toInt_le, Int32.toInt_sub, i_toInt (by omega), i_toInt (by omega), Int32.toInt_zero]
        rw [Int.bmod_eq_of_le (by omega) (by omega)]
        omega
      exact this
    repeat (refine lGo.step rfl (fun _ => rfl) ?_; try dsimp only)
    exact lGo.done rfl (fun _ => rfl)
  · have hf : M.1 M.2.1 = none := h1.2.1 _ (Nat.le_refl _)
    obtain ⟨N, hN⟩ : ∃ N, N = arr.length + max (m - arr.length) (arr.length + 2) := ⟨_, rfl⟩
    have hN2 : N ≤ 298002 := by omega
    have hl : (arr ++ List.replicate (N - arr.length) (Value.int 0)).length = N := by rw [List.length_append, List.length_replicate]; omega
    refine ⟨_, _, _, ?_, h0.nw (arr' := arr ++ List.replicate (N - arr.length) (.int 0)) (jchr_app h8 jchr_rep) (by rw [hl]; omega) (by rw [hl]; omega) (M.2.2 + N), ⟨_, rfl⟩, by rw [hl]; omega, Or.inr ⟨by omega, by rw [hl]; exact hN, rfl, by rw [hl]⟩⟩
    refine lGo.sp (D := 5) pg_158 (Nat.le_of_ble_eq_true rfl) ?_
    repeat (refine lGo.step rfl (fun _ => rfl) ?_; try dsimp only)
    refine lGo.get rfl h4 rfl rfl ?_
    refine lGo.len rfl h7 ?_
    repeat (refine lGo.step rfl (fun _ => rfl) ?_; try dsimp only)
    refine lGo.get rfl h4 rfl rfl ?_
    repeat (refine lGo.step rfl (fun _ => rfl) ?_; try dsimp only)
    rw [i_32, i_shr0 (by omega)]
    refine lGo.brF (decide_eq_false ?_) ?_
    · have : ¬ Int32.ofNat m - Int32.ofNat arr.length ≤ 0 := by
        rw [i_sub (by omega)]
        intro w
        have := (i_le (j := m - arr.length) (k := 0) (by omega) (by omega)).mp w
        omega
      exact this
    repeat (refine lGo.step rfl (fun _ => rfl) ?_; try dsimp only)
    refine lGo.get rfl h4 rfl rfl ?_
    repeat (refine lGo.step rfl (fun _ => rfl) ?_; try dsimp only)
    refine lGo.callV rfl rfl h4 rfl ⟨Nat.le_of_ble_eq_true rfl, Nat.le_of_ble_eq_true rfl⟩ ((sp_159 h4 h7 (by omega) (by omega)).mono (by decide)) ?_
    repeat (refine lGo.step rfl (fun _ => rfl) ?_; try dsimp only)
    refine lGo.get rfl h4 rfl rfl ?_
    refine lGo.step rfl (fun _ => rfl) ?_; dsimp only
    rw [i_shl0, ← hN]
    refine lGo.call (n := 2) rfl ⟨Nat.le_of_ble_eq_true rfl, Nat.le_of_ble_eq_true rfl⟩ ((sp_61 h7 hf h8 (by omega) (by omega)).mono (by decide)) ?_
    repeat (refine lGo.step rfl (fun _ => rfl) ?_; try dsimp only)
    have ne : a ≠ M.2.1 := by have := h1.1; omega
    refine lGo.put rfl ((lUpd_ne _ _ ne).trans h4) rfl (Nat.le_of_ble_eq_true rfl) rfl ?_
    exact lGo.done rfl (fun _ => rfl)
end
