/-! the library: BitSet.or -/
section
variable {E : lE} {G : lHeap}
theorem rng_bit (g : Nat → Bool) (m q : Nat) : bit ((List.range m).map (fun k => Value.int (if g k then 1 else 0))) q = (decide (q < m) && g q) := by
  have h := rowC_get (fun k => Value.int (if g k then 1 else 0)) m q
  unfold rowC at h
  unfold bit
  rw [h]
  by_cases z : q < m
  · rw [if_pos z, decide_eq_true z, Bool.true_and]
    cases g q <;> rfl
  · rw [if_neg z, decide_eq_false z, Bool.false_and]
    rfl
theorem or_0 (x : Int64) : x ||| 0 = x := tb_ext (fun j _ => by rw [tb_or, tb_0, Bool.or_false])
theorem or_0' (x : Int64) : 0 ||| x = x := tb_ext (fun j _ => by rw [tb_or, tb_0, Bool.false_or])
/-- words in use follow from the last bit -/
theorem bb_last {xs : List Value} {f : Nat → Int64} {u : Nat} (h6 : ∀ i, u ≤ i → f i = 0) (h9 : ∀ q, bit xs q = tbL (f (q / 64)) (q % 64)) (h : xs.length = 0 ∨ bit xs (xs.length - 1) = true) : xs.length ≤ 64 * u := by
  rcases h with h | h
  · omega
  · rw [h9] at h
    by_cases z : (xs.length - 1) / 64 < u
    · omega
    · rw [h6 _ (by omega), tb_0] at h
      cases h
theorem bb_use {xs : List Value} {f : Nat → Int64} {u : Nat} (h7 : u = 0 ∨ f (u - 1) ≠ 0) (h9 : ∀ q, bit xs q = tbL (f (q / 64)) (q % 64)) (h0 : 0 < u) : 64 * (u - 1) < xs.length := by
  rcases h7 with h | h
  · omega
  · obtain ⟨t, ht, h1, _⟩ := low_ex h
    have : bit xs (64 * (u - 1) + t) = true := by
      rw [h9, show (64 * (u - 1) + t) / 64 = u - 1 by omega, show (64 * (u - 1) + t) % 64 = t by omega]
      exact h1
    have := bit_lt this
    omega
theorem jp17 (hJE : jE E G) : JP_17 (lAb (lJd E G) G) E := by
  intro y s A0 a w b w0 x hW hr hr0 hx M hM
  obtain ⟨own, cr, hA⟩ := hM
  obtain ⟨xs, hc, hx1⟩ := bindC hx
  obtain ⟨ys, hcb, hx2⟩ := bindC hx1
  rcases iteC hx2 with ⟨⟨hab, hlast⟩, hx3⟩ | ⟨_, hx3⟩
  case inr => cases hx3
  cases hx3
  have hc := cc_some hc
  have hcb := cc_some hcb
  have hne : adr y.1 a ≠ adr y.1 b := jp_ne hW hc hcb rfl rfl hab
  obtain ⟨e, n, u, f, S, h1, h2, h3, h4, h5, h6, h7, h8, h9⟩ := jp_B hW hA hc
  obtain ⟨e2, n2, u2, f2, S2, k1, k2, k3, k4, k5, k6, k7, k8, k9⟩ := jp_B hW hA hcb
  have hE0 := hJE.2.2.2.2.2.2.2
  obtain ⟨_, ob, lb, gb, _, oe2, ge2⟩ := S2
  have le2 : e2 < M.2.1 := hA.lt ge2
  have oe2 := oe2 le2
  have yl := bb_last k6 k9 hlast
  have yu : u2 ≤ ys.length / 64 + 1 := by
    rcases Nat.eq_zero_or_pos u2 with z | z
    · omega
    · have := bb_use k7 k9 z
      omega
  -- the memory after the growth
  have hgrow : ∃ M1 e1 n1 u1, BBs own M (adr y.1 a) e1 n1 u1 f M1 ∧ n ≤ n1 ∧ u1 = max u u2 ∧ u1 ≤ n1 ∧ n1 ≤ 40000 ∧ M1.2.1 ≤ 1 + M.2.1 ∧ M1.2.2 ≤ (2 * (ys.length / 64) + 2) + M.2.2 ∧ ((u2 ≤ u ∧ M1 = M ∧ e1 = e) ∨ (u < u2 ∧ ∃ M', lSp E prog 3 10 [.ref (adr y.1 a), .int (Int32.ofNat u2)] M (.inl none, M') ∧ BBs own M (adr y.1 a) e1 n1 u f M' ∧ M1 = (lUpd M'.1 (adr y.1 a) (true, false, 3, [.ref e1, .int (Int32.ofNat u2), .int 0]), M'.2.1, M'.2.2))) := by
    by_cases z : u2 ≤ u
    · exact ⟨M, e, n, u, S, Nat.le_refl _, by omega, h5, h2, by omega, by omega, Or.inl ⟨z, rfl, rfl⟩⟩
    · obtain ⟨M', e', n', q1, q2, q3, q4, q5⟩ := bb_ens (E := E) S (fun i hi => h6 i (by omega)) h2 (q := u2) (by omega)
      refine ⟨_, e', n', u2, q2.wA u2, q4, by omega, q3, ?_, ?_, ?_, Or.inr ⟨by omega, M', q1, q2, rfl⟩⟩
      · rcases q5 with ⟨w, _, _⟩ | ⟨w1, w2, _⟩ <;> omega
      · show M'.2.1 ≤ _
        rcases q5 with ⟨_, w, _⟩ | ⟨_, _, w, _⟩ <;> omega
      · show M'.2.2 ≤ _
        rcases q5 with ⟨_, _, w⟩ | ⟨w1, w2, _, w⟩ <;> omega
  obtain ⟨M1, e1, n1, u1, S1, hn1, hu1, hun, hn40, hz1, hz2, hcase⟩ := hgrow
  obtain ⟨J1, oa, la, ga1, ea1, eo1, ge1⟩ := id S1
  have gb1 : M1.1 (adr y.1 b) = some (true, false, 3, [.ref e2, .int (Int32.ofNat u2), .int 0]) := (J1.2.2.2.2 _ lb (by rw [ob]; exact fun z => hne z.symm)).trans gb
  have ge21 : M1.1 e2 = some (true, true, 1, rowW f2 n2) := (J1.2.2.2.2 _ le2 (by rw [oe2]; exact fun z => hne z.symm)).trans ge2
  have he12 : e1 ≠ e2 := fun z => by
    have := eo1 (by rw [z]; exact le2)
    rw [z, oe2] at this
    exact hne this.symm
  have hbe1 : adr y.1 b ≠ e1 := fun z => by
    rw [← z, gb1] at ge1
    cases ge1
  -- contents at the end
  obtain ⟨F, hF⟩ : ∃ F : Nat → Int64, F = fun i => f i ||| f2 i := ⟨_, rfl⟩
  have F6 : ∀ i, u1 ≤ i → F i = 0 := fun i hi => by
    rw [hF]
    dsimp only
    rw [h6 i (by omega), k6 i (by omega), or_0]
  have F7 : u1 = 0 ∨ F (u1 - 1) ≠ 0 := by
    rw [hF]
    dsimp only
    by_cases z : u1 = 0
    · exact Or.inl z
    · right
      by_cases w : u2 ≤ u
      · rw [show u1 = u by omega]
        exact or_ne (h7.resolve_left (by omega))
      · rw [show u1 = u2 by omega]
        exact or_ne2 (k7.resolve_left (by omega))
  have F9 : ∀ q, bit ((List.range (max xs.length ys.length)).map (fun k => Value.int (if bit xs k || bit ys k then 1 else 0))) q = tbL (F (q / 64)) (q % 64) := fun q => by
    rw [rng_bit, hF]
    dsimp only
    rw [tb_or, ← h9, ← k9]
    by_cases z : q < max xs.length ys.length
    · rw [decide_eq_true z, Bool.true_and]
    · rw [decide_eq_false z, Bool.false_and]
      cases hb : bit xs q with
      | true => have := bit_lt hb; omega
      | false =>
        cases hb2 : bit ys q with
        | true => have := bit_lt hb2; omega
        | false => rfl
  have F8 : ∀ v ∈ (List.range (max xs.length ys.length)).map (fun k => Value.int (if bit xs k || bit ys k then 1 else 0)), v = .int 0 ∨ v = .int 1 := fun v hv => by
    obtain ⟨q, _, rfl⟩ := List.mem_map.mp hv
    split
    · exact Or.inr rfl
    · exact Or.inl rfl
  have SF := S1.wE F
  rw [hr.1, hr0.1]
  refine bb_done (nn := 1) (m := 2 * (ys.length / 64) + 2) (xs := (List.range (max xs.length ys.length)).map (fun k => Value.int (if bit xs k || bit ys k then 1 else 0))) hW hA hc (by decide) ?_ SF (by omega) hn40 (by rw [List.length_map, List.length_range]; omega) (by rw [List.length_map, List.length_range]; omega) hun F6 F7 F8 F9 hz1 hz2
  -- from the loop on
  have tail : ∀ lv, lGet lv 0 = some (.ref (adr y.1 a)) → lGet lv 1 = some (.ref (adr y.1 b)) → lGet lv 2 = some (.int (Int32.ofNat (min u u2))) → lGet lv 3 = some (.int (Int32.ofNat 0)) → lGo E prog 3 cd_17 25 (lv, [], M1) (.inl none, (lUpd M1.1 e1 (true, true, 1, rowW F n1), M1.2.1, M1.2.2)) := by
    intro lv l0 l1 l2 l3
    refine or_lp hne (by omega) (by omega) hn40 k2 he12 hbe1 (min u u2) 0 M1 f lv (by omega) S1 gb1 ge21 l0 l1 l2 l3 3 _ (fun lv' l0' l1' l2' => ?_)
    have S1f := S1.wE (fun i => if 0 ≤ i ∧ i < min u u2 then f i ||| f2 i else f i)
    have gbf : lUpd M1.1 e1 (true, true, 1, rowW (fun i => if 0 ≤ i ∧ i < min u u2 then f i ||| f2 i else f i) n1) (adr y.1 b) = some (true, false, 3, [.ref e2, .int (Int32.ofNat u2), .int 0]) := (lUpd_ne _ _ hbe1).trans gb1
    have gef : lUpd M1.1 e1 (true, true, 1, rowW (fun i => if 0 ≤ i ∧ i < min u u2 then f i ||| f2 i else f i) n1) e2 = some (true, true, 1, rowW f2 n2) := (lUpd_ne _ _ (fun w => he12 w.symm)).trans ge21
    have gaf := S1f.2.2.2.1
    have geaf := S1f.2.2.2.2.2.2
    refine lGo.loadI rfl l2' ?_
    refine lGo.loadA rfl l1' ?_
    refine lGo.get rfl gbf rfl rfl ?_
    refine lGo.step rfl (fun _ => rfl) ?_; dsimp only
    by_cases z : u2 ≤ u
    · refine lGo.brT (decide_eq_true ((i_le (by omega) (by omega)).mpr (by omega))) ?_
      refine lGo.loadA rfl l0' ?_
      refine lGo.callV rfl rfl gaf rfl ⟨Nat.le_of_ble_eq_true rfl, Nat.le_of_ble_eq_true rfl⟩ ((sp_11 hE0).mono (by decide)) ?_
      rw [rowW_cg (g := F) (fun i _ => by
        rw [hF]
        dsimp only
        by_cases w : i < u2
        · rw [if_pos ⟨Nat.zero_le _, by omega⟩]
        · rw [if_neg (by omega), k6 i (by omega), or_0])]
      exact lGo.done rfl (fun _ => rfl)
    · refine lGo.brF (decide_eq_false (fun w => by have := (i_le (by omega) (by omega)).mp w; omega)) ?_
      refine lGo.loadA rfl l1' ?_
      refine lGo.get rfl gbf rfl rfl ?_
      refine lGo.loadI rfl l2' ?_
      refine lGo.loadA rfl l0' ?_
      refine lGo.get rfl gaf rfl rfl ?_
      refine lGo.loadI rfl l2' ?_
      refine lGo.loadA rfl l0' ?_
      refine lGo.get rfl gaf rfl rfl ?_
      refine lGo.loadI rfl l2' ?_
      refine lGo.step rfl (fun _ => rfl) ?_; dsimp only
      rw [i_sub (by omega), Nat.min_eq_left (by omega)]
      rw [show min u u2 = u by omega] at gbf gef gaf geaf
      refine lGo.copyL (sp := u) (dp := u) (k := u1 - u) rfl gef geaf (by omega) (by omega) (by omega) (by omega) (cat8 (Nat.le_of_ble_eq_true rfl)) ?_
      refine lGo.loadA rfl l0' ?_
      refine lGo.callV rfl rfl ((lUpd_ne _ _ (fun w => ea1 w.symm)).trans gaf) rfl ⟨Nat.le_of_ble_eq_true rfl, Nat.le_of_ble_eq_true rfl⟩ ((sp_11 hE0).mono (by decide)) ?_
      rw [lUpdU, rowW_cg (g := F) (fun i _ => by
        rw [hF]
        dsimp only
        by_cases w : u ≤ i ∧ i < u + (u1 - u)
        · rw [if_pos w, h6 i w.1, or_0', show u + (i - u) = i by omega]
        · rw [if_neg w]
          by_cases w2 : i < u
          · rw [if_pos ⟨Nat.zero_le _, w2⟩]
          · rw [if_neg (by omega), k6 i (by omega), or_0])]
      exact lGo.done rfl (fun _ => rfl)
  have g := S.2.2.2.1
  refine lGo.sp (D := 3) pg_17 (Nat.le_of_ble_eq_true rfl) ?_
  refine lGo.step rfl (fun _ => rfl) ?_; dsimp only
  refine lGo.step rfl (fun _ => rfl) ?_; dsimp only
  refine lGo.step rfl (fun _ => rfl) ?_; dsimp only
  refine lGo.brF (decide_eq_false hne) ?_
  refine lGo.step rfl (fun _ => rfl) ?_; dsimp only
  refine lGo.get rfl g rfl rfl ?_
  refine lGo.step rfl (fun _ => rfl) ?_; dsimp only
  refine lGo.get rfl gb rfl rfl ?_
  refine lGo.call (n := 2) rfl ⟨Nat.le_of_ble_eq_true rfl, Nat.le_of_ble_eq_true rfl⟩ ((sp_48n (by omega) (by omega)).mono (by decide)) ?_
  refine lGo.step rfl (fun _ => rfl) ?_; dsimp only
  refine lGo.step rfl (fun _ => rfl) ?_; dsimp only
  refine lGo.get rfl g rfl rfl ?_
  refine lGo.step rfl (fun _ => rfl) ?_; dsimp only
  refine lGo.get rfl gb rfl rfl ?_
  refine lGo.step rfl (fun _ => rfl) ?_; dsimp only
  rcases hcase with ⟨z, rfl, rfl⟩ | ⟨z, M', q1, q2, rfl⟩
  · refine lGo.brT (decide_eq_true ((i_le (by omega) (by omega)).mpr z)) ?_
    refine lGo.step rfl (fun _ => rfl) ?_; dsimp only
    refine lGo.step rfl (fun _ => rfl) ?_; dsimp only
    exact tail _ rfl rfl rfl rfl
  · refine lGo.brF (decide_eq_false (fun w => by have := (i_le (by omega) (by omega)).mp w; omega)) ?_
    refine lGo.step rfl (fun _ => rfl) ?_; dsimp only
    refine lGo.step rfl (fun _ => rfl) ?_; dsimp only
    refine lGo.get rfl gb rfl rfl ?_
    refine lGo.callV rfl rfl g rfl ⟨Nat.le_of_ble_eq_true rfl, Nat.le_of_ble_eq_true rfl⟩ q1 ?_
    refine lGo.step rfl (fun _ => rfl) ?_; dsimp only
    refine lGo.step rfl (fun _ => rfl) ?_; dsimp only
    refine lGo.get rfl ((q2.1.2.2.2.2 _ lb (by rw [ob]; exact fun z => hne z.symm)).trans gb) rfl rfl ?_
    refine lGo.put rfl q2.2.2.2.1 rfl (Nat.le_of_ble_eq_true rfl) rfl ?_
    refine lGo.step rfl (fun _ => rfl) ?_; dsimp only
    refine lGo.step rfl (fun _ => rfl) ?_; dsimp only
    exact tail _ rfl rfl rfl rfl
end
