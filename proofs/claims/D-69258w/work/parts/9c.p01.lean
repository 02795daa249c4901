/-! the program: a block's own numbers change -/
theorem R5_st {h : lHeap} {t t' : TS} {n k : Nat} {B : Nat → Nat → Nat} {o : Value} {od nw : Int32} (hk : k < n) (r : R5x h t n B o od nw) (hr : ∀ c j, mR c = 5 → ¬ (bRow c ∧ j = k) → t'.2.2.1 c j = t.2.2.1 c j) (hn : ∀ c, c ≠ 0 → (mI c = 5 ∨ c = 1) → t'.1 c = t.1 c) (hv : v01 (t'.2.2.1 134 k)) : R5x (lUpd h (B k 0) (bC t' B k)) t' n B o od nw := by
  obtain ⟨⟨p1, p2, ⟨mc, p3⟩, p4, p5, p6, p7, p8, p9⟩, f, i, b, q⟩ := r
  have ne : ∀ a, a ≠ B k 0 → lUpd h (B k 0) (bC t' B k) a = h a := fun a ha => by rw [lUpd_at, if_neg ha]
  have g := i.2 k 0 hk (by omega)
  have hN : ∀ c, ¬ bRow c → mR c = 5 → ∀ j, t'.2.2.1 c j = t.2.2.1 c j := fun c hc h5 j => hr c j h5 (fun z => hc z.1)
  have e140 := hN 140 (by unfold bRow; omega) rfl
  have e125 := hN 125 (by unfold bRow; omega) rfl
  have e129 := hN 129 (by unfold bRow; omega) rfl
  have e130 := hN 130 (by unfold bRow; omega) rfl
  refine ⟨⟨by rw [ne _ (by omega), hn 1 (by omega) (Or.inr rfl)]; exact p1, by rw [ne _ (by omega)]; exact p2, ⟨mc, by rw [ne _ (by omega)]; exact p3⟩, by rw [ne _ (by omega)]; simp only [e140]; exact p4, by rw [hn 400 (by omega) (Or.inl rfl)]; exact p5, p6, by rw [hn 418 (by omega) (Or.inl rfl), e140]; exact p7, by rw [hn 1 (by omega) (Or.inr rfl)]; exact p8, by rw [hn 1 (by omega) (Or.inr rfl)]; exact p9⟩, ?_, i, ?_, ?_⟩
  · intro j h1 h2
    refine ⟨fun c hc => ?_, fun i hi => by rw [e130]; exact (f j h1 h2).2 i hi⟩
    rw [hr c j (by unfold bRow at hc; rcases hc with rfl | rfl | rfl | rfl | rfl | rfl | rfl | rfl | rfl <;> rfl) (fun z => by omega)]
    exact (f j h1 h2).1 c hc
  · intro j hj
    by_cases e : j = k
    · subst e
      obtain ⟨r1, r2, r3, r4, r5, r6⟩ := b j hj
      refine ⟨by rw [lUpd_at, if_pos rfl], ?_, ?_, by rw [e125]; exact r4, fun i hi => by unfold wire; rw [e129]; exact r5 i hi, hv⟩
      · rw [ne _ (fun z => by have := (i.1 _ _ _ _ hj (by omega) hj (by omega) z).2; omega), r2]; unfold wire; simp only [e129]
      · rw [ne _ (fun z => by have := (i.1 _ _ _ _ hj (by omega) hj (by omega) z).2; omega), r3]; simp only [e130]
    · refine R5b_cg (b j hj) (fun i' hi => ne _ (fun z => e (i.1 _ _ _ _ hj hi hk (by omega) z).1)) (fun c hc => ?_) e129 (fun _ _ => e130 _)
      rcases hc with hc | rfl
      · exact hr c j (by unfold bRow at hc; rcases hc with rfl | rfl | rfl | rfl | rfl | rfl | rfl | rfl | rfl <;> rfl) (fun z => e z.2)
      · exact e125 _
  · unfold R5o at q ⊢
    rw [(ord_cg (t := t) (t' := t') (n := n) e125 e129).1, (ord_cg (t := t) (t' := t') (n := n) e125 e129).2]
    rcases q with rfl | ⟨oid, mc, rfl, q1, q2, q3, q4⟩
    · exact Or.inl rfl
    · exact Or.inr ⟨oid, mc, rfl, q1, q2, by rw [ne _ (fun z => q2 k 0 hk (by omega) z.symm)]; exact q3, q4⟩
theorem R5_pt {h : lHeap} {t : TS} {v : Int32} (r : R5 h t) : R5 h (ptI t 0 v) := R5_cg r (fun _ _ _ => rfl) (fun c h _ => by rw [pt_1, if_neg h])
/-- whose block it is -/
theorem blOf {s : CS} {t : TS} {own : Nat → Nat} {n : Nat} {B : Nat → Nat → Nat} {o : Value} {od nw : Int32} (r : R5x (rs s.1 own 5) t n B o od nw) (v : Int32) : c_1089 115 v s = if inB v (Int32.ofNat n) = true then some (.inl (B (bN v) 0, s)) else some (.inr (s.2.1, exs s 11)) := by
  obtain ⟨⟨p1, p2, ⟨mc, p3⟩, p4, p5, p6, p7, p8, p9⟩, f, i, b, q⟩ := r
  have h1 := (rs_in p1).1
  have h2 := (rs_in p3).1
  unfold c_1089
  rw [xN_o h1 rfl rfl]
  simp only [Option.bind_some, isK_t (tab := [13]) h2 rfl, alSize_r h2, if_true]
  rw [orB]
  cases hr : inB v (Int32.ofNat n) with
  | true =>
    obtain ⟨k, hk, rfl⟩ := inB_nat n (by omega) hr
    have h3 := (rs_in (b k hk).1).1
    simp [need_eq, xN_o (tab := [(100, 1)]) h1 rfl rfl, isK_t (tab := [13]) h2 rfl, alGet_r h2 hk (by omega), toN_o (tab := [94]) h3 rfl, bN, i_clamp (show k < 2147483648 by omega)]
  | false => simp [need_eq]
/-- a block's own cell is changed -/
theorem bl_res {α : Type} {own : Nat → Nat} {s : CS} {t t' : TS} {k n : Nat} {B : Nat → Nat → Nat} {o : Value} {od nw : Int32} {x : α} {a b : Nat} (hw : wfS s) (hk : k < n) (r : R5x (rs s.1 own 5) t n B o od nw) (hr : ∀ c j, mR c = 5 → ¬ (bRow c ∧ j = k) → t'.2.2.1 c j = t.2.2.1 c j) (hn : ∀ c, c ≠ 0 → (mI c = 5 ∨ c = 1) → t'.1 c = t.1 c) (hv : v01 (t'.2.2.1 134 k)) (h0 : t'.1 0 = 0) (hz : ∀ Z, Z ≠ 5 → Z ≠ 99 → rt t' Z = rt t Z)
    {c : Option (Sum (α × CS) (Nat × CS))} {d : Option (α × TS)} (hc : c = some (.inl (x, cup s (B k 0) (bC t' B k)))) (hd : d = some (x, t')) : Res (fun X => X = 5) 5 (fun H t => R5 (H 5) t) own s t a b c d := by
  have h3 := rs_in (r.2.2.2.1 k hk).1
  refine Or.inl ⟨x, _, t', own, hc, hd, h0, hz, frm_cup hw (wf_lt hw h3.1) h3.2, ?_, Nat.le_add_right _ _, Nat.le_add_right _ _⟩
  show R5 (rs (lUpd s.1 _ _) own 5) t'
  rw [rs_upd h3.2]
  exact ⟨n, B, o, od, nw, R5_st hk r hr hn hv⟩
theorem rt_5 {t : TS} {c k Z : Nat} {v : Int32} (hc : mR c = 5) (h5 : Z ≠ 5) : rt (wrI t c k v) Z = rt t Z := rt_wrI (by rw [hc]; exact fun e => h5 e.symm)
theorem pr_safe {own : Nat → Nat} {s : CS} {t : TS} (hw : wfS s) (r : R5 (rs s.1 own 5) t) (v1 v2 : Int32) : Res (fun X => X = 5) 5 (fun H t => R5 (H 5) t) own s t 0 0 (c_1092 115 v1 v2 s) (t_636 v1 v2 t) := by
  obtain ⟨n, B, o, od, nw, r⟩ := r
  have r2 := r
  obtain ⟨⟨p1, p2, ⟨mc, p3⟩, p4, p5, p6, p7, p8, p9⟩, f, i, b, q⟩ := r2
  have h1 := (rs_in p1).1
  unfold c_1092 t_636
  rw [blOf r, isInB, p5, if_pos (isK_t h1 rfl)]
  cases hr : inB v1 (Int32.ofNat n) with
  | true =>
    obtain ⟨k, hk, rfl⟩ := inB_nat n (by omega) hr
    have h3 := (rs_in (b k hk).1).1
    have hb : ¬ t.1 1 = 0 := p9 (by omega)
    refine bl_res (k := k) (x := t.2.2.1 128 k) (t' := wrI (ptI t 0 0) 128 k v2) hw hk r ?_ ?_ ?_ ?_ ?_ ?_ ?_
    · intro c j _ hq
      rw [wr_at, if_neg (fun q => hq ⟨by unfold bRow; omega, q.2⟩)]; rfl
    · intro c h0 _
      rw [wr_1, pt_1, if_neg h0]
    · exact (b k hk).2.2.2.2.2
    · rfl
    · intro Z h5 h99
      rw [rt_5 rfl h5, ptI_rt h99]
    · simp [bN, i_clamp (show k < 2147483648 by omega), xI, xV, h3, bC, toI, lLook, xP, wr_at, pt_2]
    · simp [goes_eq, hb, rdI_n (show k < 40 by omega), stI_n (show k < 40 by omega), pt_2]
  | false => exact Res.arg (x := 0) (by simp) (by simp [goes_eq, ptI])
