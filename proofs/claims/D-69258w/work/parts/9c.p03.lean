/-! the program: rows, wires -/
theorem R5_row {h : lHeap} {t : TS} {n k i : Nat} {B : Nat → Nat → Nat} {o : Value} {od nw v : Int32} (hk : k < n) (hi : i < 8) (r : R5x h t n B o od nw) : R5x (lUpd h (B k 2) (true, true, 0, rowC (fun j => .int ((wrI t 130 (8 * k + i) v).2.2.1 130 (8 * k + j))) 8)) (wrI t 130 (8 * k + i) v) n B o od nw := by
  obtain ⟨⟨p1, p2, ⟨mc, p3⟩, p4, p5, p6, p7, p8, p9⟩, f, ij, b, q⟩ := r
  have ne : ∀ a c, a ≠ B k 2 → lUpd h (B k 2) c a = h a := fun a c ha => by rw [lUpd_at, if_neg ha]
  have g := ij.2 k 2 hk (by omega)
  have e129 : ∀ j, (wrI t 130 (8 * k + i) v).2.2.1 129 j = t.2.2.1 129 j := wr_ne (by omega)
  have e125 : ∀ j, (wrI t 130 (8 * k + i) v).2.2.1 125 j = t.2.2.1 125 j := wr_ne (by omega)
  refine ⟨⟨by rw [ne _ _ (by omega)]; exact p1, by rw [ne _ _ (by omega)]; exact p2, ⟨mc, by rw [ne _ _ (by omega)]; exact p3⟩, by rw [ne _ _ (by omega)]; exact p4, p5, p6, p7, p8, p9⟩, ?_, ij, ?_, ?_⟩
  · intro j h1 h2
    refine ⟨fun c hc => ?_, fun i' hi' => ?_⟩
    · rw [wr_ne (by unfold bRow at hc; omega)]; exact (f j h1 h2).1 c hc
    · rw [wr_nk (by omega)]; exact (f j h1 h2).2 i' hi'
  · intro j hj
    by_cases e : j = k
    · subst e
      obtain ⟨r1, r2, r3, r4, r5, r6⟩ := b j hj
      refine ⟨?_, ?_, by rw [lUpd_at, if_pos rfl], r4, r5, r6⟩
      · rw [ne _ _ (fun z => by have := (ij.1 _ _ _ _ hj (by omega) hj (by omega) z).2; omega), r1]; rfl
      · rw [ne _ _ (fun z => by have := (ij.1 _ _ _ _ hj (by omega) hj (by omega) z).2; omega), r2]; rfl
    · refine R5b_cg (b j hj) (fun i' hi' => ne _ _ (fun z => e (ij.1 _ _ _ _ hj hi' hk (by omega) z).1)) (fun c hc => wr_ne (by unfold bRow at hc; omega) _) e129 (fun i' hi' => wr_nk (by omega))
  · unfold R5o at q ⊢
    rw [(ord_cg (t := t) (n := n) e125 e129).1, (ord_cg (t := t) (n := n) e125 e129).2]
    rcases q with rfl | ⟨oid, mc, rfl, q1, q2, q3, q4⟩
    · exact Or.inl rfl
    · exact Or.inr ⟨oid, mc, rfl, q1, q2, by rw [ne _ _ (fun z => q2 k 2 hk (by omega) z.symm)]; exact q3, q4⟩
theorem pr_row {own : Nat → Nat} {s : CS} {t : TS} (hw : wfS s) (hK : RK s.1) (r : R5 (rs s.1 own 5) t) (v1 v2 v3 : Int32) : Res (fun X => X = 5) 5 (fun H t => R5 (H 5) t) own s t 0 0 (c_1091 115 v1 v2 v3 s) (t_635 v1 v2 v3 t) := by
  obtain ⟨n, B, o, od, nw, r⟩ := r
  have r2 := r
  obtain ⟨⟨p1, p2, ⟨mc, p3⟩, p4, p5, p6, p7, p8, p9⟩, f, i, b, q⟩ := r2
  have h1 := (rs_in p1).1
  unfold c_1091 t_635
  rw [blOf r, isInB, isInB, p5, if_pos (isK_t h1 rfl), orB]
  cases hr : inB v1 (Int32.ofNat n) with
  | true =>
    obtain ⟨k, hk, rfl⟩ := inB_nat n (by omega) hr
    have h3 := (rs_in (b k hk).1).1
    have h4 := rs_in (b k hk).2.2.1
    have hb : ¬ t.1 1 = 0 := p9 (by omega)
    obtain ⟨K, hK1, hK2⟩ := (b k hk).2.2.2.1
    cases hr2 : inB v2 8 with
    | true =>
      obtain ⟨j, hj, rfl⟩ := inB_nat 8 (by omega) hr2
      have hx : ∀ x : Int32, (if t.2.2.1 125 k = 15 then some (1 : Int32) else some 0) = some (if K = 15 then 1 else 0) := by
        intro x
        rw [hK2]
        by_cases e : K = 15
        · subst e; rfl
        · rw [if_neg (by rw [i_eqL (by omega) (by omega)]; exact e), if_neg e]
      have hy : (if (some (kid K) : Option Nat) = some 96 then some (1 : Int32) else if nst s (vR (some (kid K))) = true then some 0 else none) = some (if K = 15 then 1 else 0) := by
        have hn : nst s (vR (some (kid K))) = true := by
          unfold nst vR
          simp only [hK.1 K hK1]
          have : ∀ K : Fin 26, (kci K.val != 1000) = true := by decide
          exact this ⟨K, hK1⟩
        have he : kid K = 96 ↔ K = 15 := by
          have : ∀ K : Fin 26, kid K.val = 96 ↔ K.val = 15 := by decide
          exact this ⟨K, hK1⟩
        by_cases e : K = 15
        · rw [if_pos (by rw [he.mpr e]), if_pos e]
        · rw [if_neg (fun z => e (he.mp (Option.some.inj z))), if_pos hn, if_neg e]
      have h5 : xR s [(94, 1)] (B k 0) = some (some (kid K)) := by
        refine xR_o h3 rfl ?_
        simp [bC, hK2, bN, i_clamp (show K < 2147483648 by omega)]
      by_cases e : K = 15
      · refine Or.inl ⟨t.2.2.1 130 (8 * k + j), cup s (B k 2) (true, true, 0, rowC (fun q => if q = j then .int v3 else .int (t.2.2.1 130 (8 * k + q))) 8), wrI (ptI t 0 0) 130 (8 * k + j) v3, own, ?_, ?_, rfl, ?_, frm_cup hw (wf_lt hw h4.1) h4.2, ?_, Nat.le_add_right _ _, Nat.le_add_right _ _⟩
        · simp only [if_true, Option.bind_some, Sum.elim_inl, bN, i_clamp (show k < 2147483648 by omega), need_eq, may_eq, show ¬ (1 : Int32) = 0 by decide, if_false, h5, hy, show (if K = 15 then (1 : Int32) else 0) = 1 from if_pos e, xN_o h3 (tab := [(94, 6)]) rfl rfl]
          rw [aI_r (ts := [0, 12]) h4.1 (by omega) rfl hj (by omega) rfl, Option.bind_some, aPut_r h4.1 hj (by omega), Option.bind_some]
        · simp only [if_true, Option.bind_some, show ¬ (1 : Int32) = 0 by decide, if_false, hb, rdI_n (show k < 40 by omega) (show 40 < 2147483648 by omega), hx 0, show (if K = 15 then (1 : Int32) else 0) = 1 from if_pos e, goes_eq, or_self, i_mulL, i_add, rdI_n (show 8 * k + j < 320 by omega) (show 320 < 2147483648 by omega), stI_n (show 8 * k + j < 320 by omega) (show 320 < 2147483648 by omega), pt_2]
        · intro Z h5 h99
          rw [rt_5 rfl h5, ptI_rt h99]
        · show R5 (rs (lUpd s.1 _ _) own 5) _
          rw [rs_upd h4.2]
          have h6 := R5_row (v := v3) hk hj r
          have h7 : R5 _ (ptI (wrI t 130 (8 * k + j) v3) 0 0) := R5_pt ⟨n, B, o, od, nw, h6⟩
          have e1 : rowC (fun j_1 => if j_1 = j then Value.int v3 else Value.int (t.2.2.1 130 (8 * k + j_1))) 8 = rowC (fun j_1 => .int ((wrI t 130 (8 * k + j) v3).2.2.1 130 (8 * k + j_1))) 8 := by
            refine rowC_congr (fun q hq => ?_)
            rw [wr_at]
            by_cases e : q = j
            · rw [if_pos e, if_pos ⟨rfl, by omega⟩]
            · rw [if_neg e, if_neg (fun z => e (by omega))]
          rw [e1]
          exact h7
      · refine Res.sta (x := 0) ?_ ?_
        · simp only [if_true, Option.bind_some, Sum.elim_inl, bN, i_clamp (show k < 2147483648 by omega), need_eq, may_eq, show ¬ (1 : Int32) = 0 by decide, if_false, h5, hy, show (if K = 15 then (1 : Int32) else 0) = 0 from if_neg e, Sum.elim_inr]
        · simp [goes_eq, hb, rdI_n (show k < 40 by omega), hx 0, e, ptI]
    | false => exact Res.arg (x := 0) (by simp [need_eq]) (by simp [goes_eq, ptI, hb])
  | false => exact Res.arg (x := 0) (by simp) (by by_cases hb : t.1 1 = 0 <;> simp [goes_eq, ptI, hb])
theorem R5_wire {h : lHeap} {t : TS} {n k i : Nat} {B : Nat → Nat → Nat} {o : Value} {od nw v : Int32} (hk : k < n) (hi : i < 3) (hv : v = -1 ∨ ∃ w, w < n ∧ v = Int32.ofNat w) (r : R5x h t n B o od nw) : R5x (lUpd (lUpd h (B k 1) (true, true, 8, rowC (fun j => wv B (wire (wrI t 129 (3 * k + i) v) k j)) 3)) 115 (true, false, 100, [.ref 116, .ref 117, .null, .int od, .ref 118, .ref 119, .int nw, .int (t.1 1)])) (wrI t 129 (3 * k + i) v) n B .null od nw := by
  obtain ⟨⟨p1, p2, ⟨mc, p3⟩, p4, p5, p6, p7, p8, p9⟩, f, ij, b, q⟩ := r
  have g : ∀ k j, k < n → j < 3 → B k j ≠ 115 := fun k j hk hj => by have := ij.2 k j hk hj; omega
  have ne : ∀ a c d, a ≠ B k 1 → a ≠ 115 → lUpd (lUpd h (B k 1) c) 115 d a = h a := fun a c d ha hb => by rw [lUpd_at, if_neg hb, lUpd_at, if_neg ha]
  have g1 := ij.2 k 1 hk (by omega)
  refine ⟨⟨by rw [lUpd_at, if_pos rfl]; rfl, by rw [ne _ _ _ (by omega) (by omega)]; exact p2, ⟨mc, by rw [ne _ _ _ (by omega) (by omega)]; exact p3⟩, by rw [ne _ _ _ (by omega) (by omega)]; exact p4, p5, p6, p7, p8, p9⟩, ?_, ij, ?_, Or.inl rfl⟩
  · intro j h1 h2
    refine ⟨fun c hc => ?_, fun i' hi' => (f j h1 h2).2 i' hi'⟩
    rw [wr_ne (by unfold bRow at hc; omega)]; exact (f j h1 h2).1 c hc
  · intro j hj
    obtain ⟨r1, r2, r3, r4, r5, r6⟩ := b j hj
    have hw : ∀ i', i' < 3 → wire (wrI t 129 (3 * k + i) v) j i' = if j = k ∧ i' = i then v else wire t j i' := by
      intro i' hi'
      unfold wire
      rw [wr_at]
      by_cases e : j = k ∧ i' = i
      · rw [if_pos e, if_pos ⟨rfl, by omega⟩]
      · rw [if_neg e, if_neg (fun z => e (by omega))]
    refine ⟨?_, ?_, ?_, r4, ?_, r6⟩
    · rw [ne _ _ _ (fun z => by have := (ij.1 _ _ _ _ hj (by omega) hk (by omega) z).2; omega) (g _ _ hj (by omega)), r1]; rfl
    · rw [lUpd_at, if_neg (g _ _ hj (by omega)), lUpd_at]
      by_cases e : j = k
      · rw [if_pos (by rw [e]), e]
      · rw [if_neg (fun z => e (ij.1 _ _ _ _ hj (by omega) hk (by omega) z).1), r2]
        congr 4
        exact rowC_congr (fun i' hi' => by rw [hw i' hi', if_neg (fun z => e z.1)])
    · rw [ne _ _ _ (fun z => by have := (ij.1 _ _ _ _ hj (by omega) hk (by omega) z).2; omega) (g _ _ hj (by omega)), r3]; rfl
    · intro i' hi'
      rw [hw i' hi']
      by_cases e : j = k ∧ i' = i
      · rw [if_pos e]; exact hv
      · rw [if_neg e]; exact r5 i' hi'
