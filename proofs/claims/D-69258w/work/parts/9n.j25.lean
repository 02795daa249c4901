/-! the library: StringBuilder's short calls -/
section
variable {E : lE} {G : lHeap}
/-- a builder found by its number -/
theorem jp_S {y : lY} {s : CS} {A0 M : lMem} {own cr : Nat → Nat} {a : Nat} {xs : List Value} (hW : cW E y s A0) (hA : lAbo (lJd E G) G own cr M (cp y s A0)) (hc : s.1 a = some (true, false, 1035, xs)) : ∃ (e : Nat) (x : Value) (rest : List Value), SBs own M (adr y.1 a) e x xs.length (xs ++ rest) M ∧ xs.length ≤ 100000 ∧ 8 * xs.length ≤ cr (adr y.1 a) + 2 * (xs ++ rest).length := by
  obtain ⟨h1, h2, q1, q2, q3, q4, q5, q6⟩ := jp_at hW hA hc (by omega)
  have e2 := relC_W (Or.inr (Or.inr rfl)) h2
  obtain ⟨r1, r2⟩ := q5 (by dsimp only; omega)
  rw [e2] at r2
  obtain ⟨e, cap, x, rest, g1, g2, g3, g4, g5, g6, g7, g8, g9⟩ := lJd_S r2
  have hl : (xs ++ rest).length = cap := by rw [List.length_append]; exact g4
  exact ⟨e, x, rest, ⟨Jw.rf hA, q1, q2, (hp_some g1).2, g2, fun _ => (hp_some g3).1, (hp_some g3).2, g8, by omega, by omega⟩, g7, by rw [hl]; exact g9⟩
theorem jchr_nr {xs : List Value} (h : jchr xs) {q n : Nat} : .ref q ∈ xs → q < n := by
  intro z
  obtain ⟨c, _, e⟩ := h _ z
  cases e
/-- the end of a call that changes a builder -/
theorem sb_done {y : lY} {s : CS} {A0 M M' : lMem} {own cr : Nat → Nat} {a D mi e n k m nn : Nat} {x : Value} {args fs xs rest : List Value} {arr : List Value} {v : Option Value} (hW : cW E y s A0) (hA : lAbo (lJd E G) G own cr M (cp y s A0)) (hc : s.1 a = some (true, false, k, fs)) (h42 : k ≠ 1042) (hsp : lSp E prog D mi args M (.inl v, M')) (S : SBs own M (adr y.1 a) e x n arr M') (hr : arr = xs ++ rest) (hn : n = xs.length) (hl : xs.length ≤ 100000) (hz1 : M'.2.1 ≤ nn + M.2.1) (hz2 : M'.2.2 + (8 * xs.length - 2 * arr.length) ≤ m + M.2.2 + cr (adr y.1 a)) :
    ∃ (fin : lF) (A' : lMem), lSp E prog D mi args M fin ∧ lAb (lJd E G) G fin.2 A' ∧ lXk A' fin.1 ∧ (fin.1 = .inl v ∧ qP E y s A0 (lUpd s.1 a (true, false, 1035, xs), s.2.1, s.2.2.1 + nn, s.2.2.2 + m) A') := by
  have hj : jchr xs := by
    obtain ⟨_, _, _, _, _, _, _, h8, _⟩ := S
    rw [hr] at h8
    exact fun v hv => h8 v (List.mem_append_left _ hv)
  refine jp_done (kc := 8 * xs.length - 2 * arr.length) (n := s.2.2.1 + nn) (m := s.2.2.2 + m) (f := xs) hW hA hc h42 (by decide) (relC_W' (Or.inr (Or.inr rfl))) (fun q hq => jchr_nr hj hq) (by omega) hsp S.1 (Or.inr (Or.inr (Or.inr (Or.inr (Or.inl ⟨rfl, S.fin hr hn hl (by omega)⟩))))) (fun z => by omega) (by omega) (by omega)
theorem sb_doneE {y : lY} {s : CS} {A0 M M' : lMem} {own cr : Nat → Nat} {a D mi e n k m nn : Nat} {x : Value} {args fs xs rest : List Value} {arr : List Value} (hlt : a < y.1.length) (hW : cW E y s A0) (hA : lAbo (lJd E G) G own cr M (cp y s A0)) (hc : s.1 a = some (true, false, k, fs)) (h42 : k ≠ 1042) (hsp : lSp E prog D mi args M (.inl (some (.ref (adr y.1 a))), M')) (S : SBs own M (adr y.1 a) e x n arr M') (hr : arr = xs ++ rest) (hn : n = xs.length) (hl : xs.length ≤ 100000) (hz1 : M'.2.1 ≤ nn + M.2.1) (hz2 : M'.2.2 + (8 * xs.length - 2 * arr.length) ≤ m + M.2.2 + cr (adr y.1 a)) :
    ∃ (fin : lF) (A' : lMem), lSp E prog D mi args M fin ∧ lAb (lJd E G) G fin.2 A' ∧ lXk A' fin.1 ∧ oE E y s A0 (.ref a) (lUpd s.1 a (true, false, 1035, xs), s.2.1, s.2.2.1 + nn, s.2.2.2 + m) fin.1 A' := by
  obtain ⟨fin, A', k1, k2, k3, k4, y', A'', k5, k6, k7⟩ := sb_done hW hA hc h42 hsp S hr hn hl hz1 hz2
  exact ⟨fin, A', k1, k2, k3, some (adr y.1 a), k4, y', A'', k5, k6, k6.1 (.ref a) (.ref (adr y.1 a)) ⟨rfl, hlt⟩, k7⟩
theorem jp196 : JP_196 (lAb (lJd E G) G) E := by
  intro y s A0 a w x hW hr hx M hM
  obtain ⟨own, cr, hA⟩ := hM
  obtain ⟨xs, hc, hx⟩ := bindC hx
  cases hx
  obtain ⟨e, z, rest, S, _⟩ := jp_S hW hA (cc_some hc)
  have g := S.2.2.2.1
  rw [hr.1]
  refine ⟨(.inl (some (.int _)), M), _, ?_, ⟨own, cr, hA⟩, trivial, rfl, rfl⟩
  refine lGo.sp (D := 1) pg_196 (Nat.le_of_ble_eq_true rfl) ?_
  repeat (refine lGo.step rfl (fun _ => rfl) ?_; try dsimp only)
  refine lGo.callV rfl rfl g rfl ⟨Nat.le_of_ble_eq_true rfl, Nat.le_of_ble_eq_true rfl⟩ (M' := M) (v := some (.int (Int32.ofNat xs.length))) ?_ ?_
  · refine lGo.sp (D := 0) pg_153 (Nat.le_of_ble_eq_true rfl) ?_
    repeat (refine lGo.step rfl (fun _ => rfl) ?_; try dsimp only)
    refine lGo.get rfl g rfl rfl ?_
    exact lGo.done rfl (fun _ => rfl)
  · exact lGo.done rfl (fun _ => rfl)
theorem jp197 (hJE : jE E G) : JP_197 (lAb (lJd E G) G) E := by
  intro y s A0 a w i x hW hr hx M hM
  obtain ⟨own, cr, hA⟩ := hM
  obtain ⟨xs, hc, hx1⟩ := bindC hx
  rcases iteC hx1 with ⟨h0, hx2⟩ | ⟨_, hx2⟩
  case inr => cases hx2
  clear hx hx1
  obtain ⟨v, hv, hx⟩ := bindC hx2
  have hv2 := toI_some hx
  subst hv2
  obtain ⟨e, z, rest, ⟨_, _, _, g, _, _, ge, hj, hl16, hl3⟩, _⟩ := jp_S hW hA (cc_some hc)
  obtain ⟨_, _, _, hE27, ⟨z28, hE28⟩, _⟩ := hJE
  have hlt : i.toNatClampNeg < xs.length := (List.getElem?_eq_some_iff.mp hv).1
  obtain ⟨c, hc1, hc2⟩ := hj _ (List.mem_append_left _ (List.mem_of_getElem? hv))
  have hc2 := Value.int.inj hc2
  subst hc2
  have hla : (xs ++ rest).length = xs.length + rest.length := List.length_append
  have hi : i < Int32.ofNat xs.length := by
    rw [i_ofc h0]
    exact (i_lt (by omega) (by omega)).mpr hlt
  rw [hr.1]
  refine ⟨(.inl (some (.int _)), M), _, ?_, ⟨own, cr, hA⟩, trivial, rfl, rfl⟩
  refine lGo.sp (D := 3) pg_197 (Nat.le_of_ble_eq_true rfl) ?_
  repeat (refine lGo.step rfl (fun _ => rfl) ?_; try dsimp only)
  refine lGo.callV rfl rfl g rfl ⟨Nat.le_of_ble_eq_true rfl, Nat.le_of_ble_eq_true rfl⟩ (M' := M) (v := some (.int (Int32.ofNat c))) ?_ ?_
  · refine lGo.sp (D := 2) pg_154 (Nat.le_of_ble_eq_true rfl) ?_
    repeat (refine lGo.step rfl (fun _ => rfl) ?_; try dsimp only)
    refine lGo.get rfl g rfl rfl ?_
    repeat (refine lGo.step rfl (fun _ => rfl) ?_; try dsimp only)
    refine lGo.get rfl g rfl rfl ?_
    repeat (refine lGo.step rfl (fun _ => rfl) ?_; try dsimp only)
    refine lGo.get rfl g rfl rfl ?_
    repeat (refine lGo.step rfl (fun _ => rfl) ?_; try dsimp only)
    refine lGo.len rfl ge ?_
    repeat (refine lGo.step rfl (fun _ => rfl) ?_; try dsimp only)
    rw [i_32, i_shr0 (by omega)]
    refine lGo.call (n := 2) rfl ⟨Nat.le_of_ble_eq_true rfl, Nat.le_of_ble_eq_true rfl⟩ ((sp_48n (by omega) (by omega)).mono (by decide)) ?_
    rw [Nat.min_eq_left (by omega)]
    repeat (refine lGo.step rfl (fun _ => rfl) ?_; try dsimp only)
    refine lGo.call (n := 2) rfl ⟨Nat.le_of_ble_eq_true rfl, Nat.le_of_ble_eq_true rfl⟩ ((sp_225 hE28 h0 hi).mono (by decide)) ?_
    repeat (refine lGo.step rfl (fun _ => rfl) ?_; try dsimp only)
    refine lGo.ald rfl ge rfl h0 (by rw [List.getElem?_append_left hlt]; exact hv) ?_
    repeat (refine lGo.step rfl (fun _ => rfl) ?_; try dsimp only)
    rw [(chr_ok ⟨c, hc1⟩).1]
    refine lGo.done rfl (fun _ => ?_)
    have hf : fits .char (.int (Int32.ofNat c)) = true := fit_ch ⟨c, hc1⟩
    simp only [fRetI]
    exact if_pos hf
  · refine lGo.done rfl (fun _ => ?_)
    have hf : fits .char (.int (Int32.ofNat c)) = true := fit_ch ⟨c, hc1⟩
    simp only [fRetI]
    exact if_pos hf
theorem SBs.ini {own : Nat → Nat} {M : lMem} {a : Nat} {fs0 : List Value} (hw : Jw own a M M) (h2 : own a = a) (h3 : a < M.2.1) (h4 : M.1 a = some (true, false, 35, fs0)) {arr : List Value} (hj : jchr arr) (hl : 16 ≤ arr.length) (hl2 : arr.length ≤ 300000) (x : Value) (k : Nat) : SBs own M a M.2.1 x 0 arr (lUpd (lUpd M.1 M.2.1 (true, true, 2, arr)) a (true, false, 35, [.ref M.2.1, .int 0, x, .int 0]), M.2.1 + 1, k) := by
  have ne : a ≠ M.2.1 := by omega
  exact ⟨(hw.new (c := (true, true, 2, arr)) ⟨(show 2 < 1000 by decide), fun w => by cases w⟩ k).upd ((lUpd_ne _ _ ne).trans h4) (fun _ => h2), h2, h3, lUpd_eq .., ne.symm, fun z => by omega, (lUpd_ne _ _ ne.symm).trans (lUpd_eq ..), hj, hl, hl2⟩
theorem sp_152 {M : lMem} {a N : Nat} {x0 x1 x2 x3 : Value} (hE27 : E 27 = .int 1) (g : M.1 a = some (true, false, 35, [x0, x1, x2, x3])) (ne : a ≠ M.2.1) (hN : N ≤ 1000000) : lSp E prog 1 152 [.ref a, .int (Int32.ofNat N)] M (.inl none, (lUpd (lUpd M.1 M.2.1 (true, true, 2, List.replicate N (.int 0))) a (true, false, 35, [.ref M.2.1, .int 0, x2, x3]), M.2.1 + 1, M.2.2 + N)) := by
  refine lGo.sp (D := 0) pg_152 (Nat.le_of_ble_eq_true rfl) ?_
  refine lGo.step rfl (fun _ => rfl) ?_
  refine lGo.step rfl (fun _ => rfl) ?_
  refine lGo.env rfl hE27 ?_
  refine lGo.step rfl (fun _ => rfl) ?_
  refine lGo.brF (by rfl) ?_
  refine lGo.step rfl (fun _ => rfl) ?_; dsimp only
  refine lGo.step rfl (fun _ => rfl) ?_; dsimp only
  refine lGo.newa rfl (i_nlt0 (by omega)) (by rw [clampN (by omega)]; exact hN) ?_
  rw [clampN (by omega)]
  refine lGo.put rfl ((lUpd_ne _ _ ne).trans g) rfl (Nat.le_of_ble_eq_true rfl) rfl ?_
  repeat (refine lGo.step rfl (fun _ => rfl) ?_; try dsimp only)
  refine lGo.put rfl (lUpd_eq ..) rfl (Nat.le_of_ble_eq_true rfl) rfl ?_
  rw [lUpdU]
  repeat (refine lGo.step rfl (fun _ => rfl) ?_; try dsimp only)
  exact lGo.done rfl (fun _ => rfl)
theorem jp195 (hJE : jE E G) : JP_195 (lAb (lJd E G) G) E := by
  intro y s A0 a w x hW hr hx M hM
  obtain ⟨own, cr, hA⟩ := hM
  obtain ⟨s1, hc0, hx1⟩ := bindC hx
  obtain ⟨hc, hs1⟩ := ccI_some hc0
  subst hs1
  cases hx1
  obtain ⟨_, _, _, hE27, _⟩ := hJE
  rw [hr.1]
  obtain ⟨h0, w', h1, h2⟩ := jp_pl hW hA hc (by decide)
  have h2 := h2 rfl
  subst h2
  obtain ⟨q1, q2, q3, _⟩ := hA.2.2.2.2.2 _ _ h0
  have h1 : M.1 (adr y.1 a) = some (true, false, 35, [.null, .int 0, .int 0, .int 0]) := h1
  have ne : adr y.1 a ≠ M.2.1 := by omega
  refine sb_done (nn := 1) (m := 16) (xs := []) (rest := List.replicate 16 (.int 0)) hW hA hc (by decide) ?_ (SBs.ini (Jw.rf hA) q1 q2 h1 (jchr_rep (n := 16)) (by decide) (by decide) (.int 0) (M.2.2 + 16)) rfl rfl (by decide) (by show M.2.1 + 1 ≤ _; omega) (by show M.2.2 + 16 + _ ≤ _; simp only [List.length_replicate, List.length_nil]; omega)
  refine lGo.sp (D := 3) pg_195 (Nat.le_of_ble_eq_true rfl) ?_
  repeat (refine lGo.step rfl (fun _ => rfl) ?_; try dsimp only)
  refine lGo.callV rfl rfl h1 rfl ⟨Nat.le_of_ble_eq_true rfl, Nat.le_of_ble_eq_true rfl⟩ ((sp_152 (N := 16) hE27 h1 ne (by decide)).mono (by decide)) ?_
  exact lGo.done rfl (fun _ => rfl)
theorem jp202 : JP_202 (lAb (lJd E G) G) E := by
  intro y s A0 a w i x hW hr hx M hM
  obtain ⟨own, cr, hA⟩ := hM
  obtain ⟨xs, hc, hx1⟩ := bindC hx
  rcases iteC hx1 with ⟨⟨h0, hi⟩, hx2⟩ | ⟨_, hx2⟩
  case inr => cases hx2
  cases hx2
  have hc := cc_some hc
  obtain ⟨e, z, rest, S, hl, hk⟩ := jp_S hW hA hc
  obtain ⟨k, hk2, rfl⟩ := i_of h0
  rw [clampN hk2] at hi ⊢
  rw [hr.1]
  obtain ⟨_, _, _, g, gea, _, ge, hj, hl16, hl3⟩ := id S
  have hla : (xs ++ rest).length = xs.length + rest.length := List.length_append
  have hlt : (xs.take k).length = k := by rw [List.length_take]; omega
  obtain ⟨M1, e1, arr1, s1, S1, ⟨z1, hz1⟩, hm1, hcost⟩ := sb_ens (E := E) S (m := k) (by omega)
  have hcost : arr1 = xs ++ rest ∧ M1.2.1 = M.2.1 ∧ M1.2.2 = M.2.2 := by
    rcases hcost with h | ⟨h, _⟩
    · exact h
    · omega
  obtain ⟨c1, c2, c3⟩ := hcost
  subst c1
  have S2 := S1.wA (if xs.length = k then z else .int 1) k
  have walk : lSp E prog 404 166 [.ref (adr y.1 a), .int (Int32.ofNat k)] M (.inl none, (lUpd M1.1 (adr y.1 a) (true, false, 35, [.ref e1, .int 0, if xs.length = k then z else .int 1, .int (Int32.ofNat k)]), M1.2.1, M1.2.2)) := by
    have g1 := S1.2.2.2.1
    refine lGo.sp (D := 403) pg_166 (Nat.le_of_ble_eq_true rfl) ?_
    repeat (refine lGo.step rfl (fun _ => rfl) ?_; try dsimp only)
    refine lGo.brT (decide_eq_true ?_) ?_
    · exact Int32.not_lt.mp (i_nlt0 hk2)
    repeat (refine lGo.step rfl (fun _ => rfl) ?_; try dsimp only)
    refine lGo.callV rfl rfl g rfl ⟨Nat.le_of_ble_eq_true rfl, Nat.le_of_ble_eq_true rfl⟩ (s1.mono (by decide)) ?_
    repeat (refine lGo.step rfl (fun _ => rfl) ?_; try dsimp only)
    refine lGo.get rfl g1 rfl rfl ?_
    repeat (refine lGo.step rfl (fun _ => rfl) ?_; try dsimp only)
    refine lGo.brT (decide_eq_true ((i_le (by omega) (by omega)).mpr hi)) ?_
    repeat (refine lGo.step rfl (fun _ => rfl) ?_; try dsimp only)
    refine lGo.get rfl g1 rfl rfl ?_
    repeat (refine lGo.step rfl (fun _ => rfl) ?_; try dsimp only)
    by_cases zk : xs.length = k
    · rw [if_pos zk]
      refine lGo.brT (decide_eq_true ((i_le (by omega) (by omega)).mpr (by omega))) ?_
      repeat (refine lGo.step rfl (fun _ => rfl) ?_; try dsimp only)
      refine lGo.put rfl g1 rfl (Nat.le_of_ble_eq_true rfl) rfl ?_
      exact lGo.done rfl (fun _ => rfl)
    · rw [if_neg zk]
      refine lGo.brF (decide_eq_false (fun w => ?_)) ?_
      · have := (i_le (j := xs.length) (k := k) (by omega) (by omega)).mp w
        omega
      repeat (refine lGo.step rfl (fun _ => rfl) ?_; try dsimp only)
      refine lGo.put rfl g1 rfl (Nat.le_of_ble_eq_true rfl) rfl ?_
      repeat (refine lGo.step rfl (fun _ => rfl) ?_; try dsimp only)
      refine lGo.put rfl (lUpd_eq ..) rfl (Nat.le_of_ble_eq_true rfl) rfl ?_
      rw [lUpdU]
      exact lGo.done rfl (fun _ => rfl)
  refine sb_done (nn := 0) (m := 0) (xs := xs.take k) (rest := xs.drop k ++ rest) hW hA hc (by decide) ?_ S2 (by rw [← List.append_assoc, List.take_append_drop]) hlt.symm (by omega) (by show M1.2.1 ≤ _; omega) (by show M1.2.2 + _ ≤ _; omega)
  refine lGo.sp (D := 404) pg_202 (Nat.le_of_ble_eq_true rfl) ?_
  repeat (refine lGo.step rfl (fun _ => rfl) ?_; try dsimp only)
  refine lGo.callV rfl rfl g rfl ⟨Nat.le_of_ble_eq_true rfl, Nat.le_of_ble_eq_true rfl⟩ walk ?_
  exact lGo.done rfl (fun _ => rfl)
end
