/-! the program: the order, a block's numbers -/
/-- a state is all that is asked of -/
def Res1 {α : Type} (X : Nat → Prop) (Y : Nat) (RX : (Nat → lHeap) → TS → Prop) (own : Nat → Nat) (s : CS) (t : TS) (n m : Nat) (c : Option (Sum (α × CS) (Nat × CS))) (d : Option (α × TS)) : Prop :=
  (∃ x s' t' own', c = some (.inl (x, s')) ∧ d = some (x, t') ∧ t'.1 0 = 0 ∧ (∀ Z, Z ≠ Y → Z ≠ 99 → rt t' Z = rt t Z) ∧ Frm X own own' s s' ∧ RX (rs s'.1 own') t' ∧ s'.2.2.1 ≤ s.2.2.1 + n ∧ s'.2.2.2 ≤ s.2.2.2 + m)
  ∨ (∃ x, c = some (.inr (s.2.1, exs s 12)) ∧ d = some (x, ptI t 0 1))
theorem stays_eq {x : Int32} (s : TS) (hx : v01 x) : t_563 x s = some (x, ptI s 0 (if x = 0 then 1 else 0)) := by
  unfold t_563
  rcases hx with rfl | rfl
  · simp [ptI]
  · simp [ptI]
theorem R5x_cg {h : lHeap} {t t' : TS} {n : Nat} {B : Nat → Nat → Nat} {o : Value} {od nw : Int32} (r : R5x h t n B o od nw) (hr : ∀ c j, mR c = 5 → c ≠ 138 → c ≠ 139 → t'.2.2.1 c j = t.2.2.1 c j) (hn : ∀ c, c ≠ 0 → c ≠ 414 → (mI c = 5 ∨ c = 1) → t'.1 c = t.1 c) : R5x h t' n B o od nw := by
  obtain ⟨⟨p1, p2, p3, p4, p5, p6, p7, p8, p9⟩, f, i, b, q⟩ := r
  have m5 : ∀ c, bRow c → mR c = 5 ∧ c ≠ 138 ∧ c ≠ 139 := by
    intro c hc
    unfold bRow at hc; rcases hc with rfl | rfl | rfl | rfl | rfl | rfl | rfl | rfl | rfl <;> exact ⟨rfl, by omega, by omega⟩
  have e1 := hn 1 (by omega) (by omega) (Or.inr rfl)
  have e140 := fun j => hr 140 j rfl (by omega) (by omega)
  have e125 := fun j => hr 125 j rfl (by omega) (by omega)
  have e129 := fun j => hr 129 j rfl (by omega) (by omega)
  have e130 := fun j => hr 130 j rfl (by omega) (by omega)
  refine ⟨⟨by rw [e1]; exact p1, p2, p3, by simp only [e140]; exact p4, by rw [hn 400 (by omega) (by omega) (Or.inl rfl)]; exact p5, p6, by rw [hn 418 (by omega) (by omega) (Or.inl rfl), e140]; exact p7, by rw [e1]; exact p8, by rw [e1]; exact p9⟩, ?_, i, ?_, ?_⟩
  · intro k h1 h2
    exact ⟨fun c hc => by rw [hr c k (m5 c hc).1 (m5 c hc).2.1 (m5 c hc).2.2]; exact (f k h1 h2).1 c hc, fun i hi => by rw [e130]; exact (f k h1 h2).2 i hi⟩
  · intro k hk
    refine R5b_cg (b k hk) (fun _ _ => rfl) (fun c hc => ?_) e129 (fun _ _ => e130 _)
    rcases hc with hc | rfl
    · exact hr c k (m5 c hc).1 (m5 c hc).2.1 (m5 c hc).2.2
    · exact e125 _
  · unfold R5o
    rw [(ord_cg (t := t) (t' := t') (n := n) e125 e129).1, (ord_cg (t := t) (t' := t') (n := n) e125 e129).2]
    exact q
theorem R5x_alk {h : lHeap} {t t' : TS} {n : Nat} {B : Nat → Nat → Nat} {o : Value} {od nw : Int32} (r : R5x h t n B o od nw) (a : Alk t t') : R5x h t' n B o od nw := R5x_cg r (fun c j _ h1 h2 => a.2.2.2 c j h1 h2) (fun c _ _ _ => by rw [a.1])
theorem Alk.rtt {t t' : TS} (a : Alk t t') {Z : Nat} (hZ : Z ≠ 5) : rt t' Z = rt t Z := by
  unfold rt
  rw [a.1, a.2.1, a.2.2.1]
  refine Prod.ext rfl (Prod.ext rfl (Prod.ext ?_ rfl))
  funext c k
  dsimp only
  by_cases e : mR c = Z
  · rw [if_pos e, if_pos e, a.2.2.2 c k (fun z => hZ (by rw [← e, z]; rfl)) (fun z => hZ (by rw [← e, z]; rfl))]
  · rw [if_neg e, if_neg e]
theorem R5x_ok {h : lHeap} {t : TS} {n : Nat} {B : Nat → Nat → Nat} {o : Value} {od nw : Int32} (r : R5x h t n B o od nw) : okW t n := ⟨r.1.2.2.2.2.2.1, r.1.2.2.2.2.1, fun k hk => ⟨(r.2.2.2.1 k hk).2.2.2.1, (r.2.2.2.1 k hk).2.2.2.2.1⟩⟩
theorem R5x_pt {h : lHeap} {t : TS} {n : Nat} {B : Nat → Nat → Nat} {o : Value} {od nw v : Int32} (r : R5x h t n B o od nw) : R5x h (ptI t 0 v) n B o od nw := R5x_cg r (fun _ _ _ _ _ => rfl) (fun c h _ _ => by rw [pt_1, if_neg h])
theorem ord_pt (t : TS) (v : Int32) (n : Nat) : ordL (ptI t 0 v) n = ordL t n ∧ ordC (ptI t 0 v) n = ordC t n := ord_cg (fun _ => rfl) (fun _ => rfl)
theorem pr_order {own : Nat → Nat} {s : CS} {t : TS} (hw : wfS s) (hK : RK s.1) (hs : 179 ≤ s.2.1) (r : R5 (rs s.1 own 5) t) : Res1 (fun X => X = 5) 5 (fun H t => R5 (H 5) t) own s t 500 30000 (c_1097 115 s) (t_641 t) := by
  obtain ⟨n, B, o, od, nw, r⟩ := r
  have h1 := (rs_in r.1.1).1
  unfold c_1097 t_641
  rw [xI_o h1 rfl rfl, Option.bind_some, may_eq, stays_eq _ r.1.2.2.2.2.2.2.2.1, Option.bind_some]
  by_cases hb : t.1 1 = 0
  · refine Or.inr ⟨0, ?_, ?_⟩
    · rw [if_pos hb]; rfl
    · simp [hb]
  · rw [if_neg hb, Option.bind_some, Sum.elim_inl, if_pos (isK_t h1 rfl)]
    obtain ⟨s', e1, own', oid, e2, e3, e4, e5⟩ := c_sort hw hK r hs
    obtain ⟨⟨x, t'⟩, f1, f2, f3, f4⟩ := t_sort (R5x_ok (R5x_pt (v := 0) r))
    dsimp only at f2 f3 f4
    have h2 := (rs_in e2.1.1).1
    refine Or.inl ⟨Int32.ofNat (ordC t n), s', t', own', ?_, ?_, by rw [f3.1]; rfl, fun Z h5 h99 => by rw [f3.rtt h5, ptI_rt h99], e3, ⟨n, B, _, _, nw, R5x_alk (R5x_pt e2) f3⟩, e4, e5⟩
    · rw [e1, Option.bind_some, xI_o h2 rfl rfl]; rfl
    · simp only [hb, if_false]
      rw [f1, Option.bind_some]
      dsimp only
      rw [f2, (ord_pt t 0 n).2]
theorem ord_idx {t : TS} {n b : Nat} (hb : b < n) : ∃ j, j < n ∧ (ordL t n).getD j 0 = b ∧ ∀ i, i < n → (ordL t n).getD i 0 = b → i = j := by
  obtain ⟨h1, h2, h3⟩ := ordL_len t n
  have hm := nd_all h2 h3 (by omega) b hb
  obtain ⟨j, hj, e⟩ := List.getElem_of_mem hm
  refine ⟨j, by omega, by rw [List.getD_eq_getElem?_getD, List.getElem?_eq_getElem hj]; exact e, fun i hi e' => ?_⟩
  rw [List.getD_eq_getElem?_getD, List.getElem?_eq_getElem (by omega)] at e'
  exact (List.getElem_inj h2).mp (by rw [e]; exact e')
theorem t_place {t : TS} {n b j : Nat} (ho : okW t n) (hb : b < n) (hj : j < n) (he : (ordL t n).getD j 0 = b) (hu : ∀ i, i < n → (ordL t n).getD i 0 = b → i = j) : Tr (t_810 (Int32.ofNat b) t) (fun z => z.1 = Int32.ofNat j ∧ Alk t z.2) := by
  have hn := ho.1
  obtain ⟨⟨x, t'⟩, f1, f2, f3, f4⟩ := t_sort ho
  dsimp only at f2 f3 f4
  unfold t_810
  rw [f1, Option.bind_some]
  dsimp only
  refine Tr.bd (P := fun v => v = Int32.ofNat j) (wh_cnt j (fun k a => a = Int32.ofNat k) ?_ ?_ rfl) ?_
  · rintro k _ hk rfl
    refine Or.inr ⟨_, ?_, rfl⟩
    have hlt : (ordL t n).getD k 0 < n := by
      obtain ⟨h1, h2, h3⟩ := ordL_len t n
      refine h3 _ ?_
      rw [List.getD_eq_getElem?_getD, List.getElem?_eq_getElem (by omega)]
      exact List.getElem_mem _
    rw [rdI_n (by omega) (by omega), Option.bind_some, f4 k (by omega), if_neg, i_suc]
    intro z
    have := hu k (by omega) ((i_inj (by omega) (by omega)).mp z)
    omega
  · rintro _ rfl
    refine ⟨_, ?_, rfl⟩
    rw [rdI_n (by omega) (by omega), Option.bind_some, f4 j hj, he, if_pos rfl]
  · rintro _ rfl
    exact ⟨_, rfl, rfl, f3⟩
theorem c_place {s : CS} {t : TS} {own : Nat → Nat} {n b j oid : Nat} {B : Nat → Nat → Nat} {od nw : Int32} (r : R5x (rs s.1 own 5) t n B (.ref oid) od nw) (hb : b < n) (hj : j < n) (he : (ordL t n).getD j 0 = b) (hu : ∀ i, i < n → (ordL t n).getD i 0 = b → i = j) : c_1100 115 (B b 0) s = some (Int32.ofNat j) := by
  obtain ⟨⟨p1, p2, ⟨mc, p3⟩, p4, p5, p6, p7, p8, p9⟩, f, ij, bl, q⟩ := r
  have h1 := (rs_in p1).1
  rcases q with q | ⟨oid', mco, q0, q1, q2, q3, q4⟩
  · cases q
  cases q0
  have h2 := (rs_in q3).1
  obtain ⟨l1, l2, l3⟩ := ordL_len t n
  have hget : ∀ k, k < n → ((ordL t n).map (fun b => (.ref (B b 0) : Value)))[k]? = some (.ref (B ((ordL t n).getD k 0) 0)) ∧ (ordL t n).getD k 0 < n := by
    intro k hk
    rw [List.getElem?_map, List.getD_eq_getElem?_getD, List.getElem?_eq_getElem (by omega)]
    exact ⟨rfl, l3 _ (List.getElem_mem _)⟩
  suffices h : Tr (c_1100 115 (B b 0) s) (fun v => v = Int32.ofNat j) by
    obtain ⟨x, h1, h2⟩ := h
    rw [h1, h2]
  unfold c_1100
  simp only [xN_o (tab := [(100, 2)]) h1 rfl rfl, Option.bind_some, isK_t (tab := [13]) h2 rfl, if_true]
  rw [alSize_l h2, Option.bind_some, List.length_map, l1, i_subL (by omega)]
  refine Tr.bd (P := fun v => v = Int32.ofNat j) (wh_cnt (n - 1 - j) (fun k a => a = Int32.ofNat (n - 1 - k)) ?_ ?_ rfl) ?_
  · rintro k _ hk rfl
    refine Or.inr ⟨_, ?_, rfl⟩
    obtain ⟨g1, g2⟩ := hget (n - 1 - k) (by omega)
    have h3 := (rs_in (bl _ g2).1).1
    rw [if_neg (i_nlt0 (by omega)), alGet_l h2 g1 (by omega), Option.bind_some, if_neg, if_pos, i_subL (by omega)]
    · congr 3
    · unfold nst; simp only [h3]; rfl
    · intro z
      have z1 : B ((ordL t n).getD (n - 1 - k) 0) 0 = B b 0 := by injection z
      have z2 := (ij.1 _ _ _ _ g2 (by omega) hb (by omega) z1).1
      have := hu _ (by omega) z2
      omega
  · rintro _ rfl
    refine ⟨_, ?_, rfl⟩
    rw [show n - 1 - (n - 1 - j) = j by omega]
    obtain ⟨g1, g2⟩ := hget j hj
    rw [if_neg (i_nlt0 (by omega)), alGet_l h2 g1 (by omega), Option.bind_some, if_pos (by rw [he])]
  · rintro _ rfl
    exact ⟨_, rfl, rfl⟩
theorem pr_out {own : Nat → Nat} {s : CS} {t : TS} (hw : wfS s) (hK : RK s.1) (hs : 179 ≤ s.2.1) (r : R5 (rs s.1 own 5) t) (v1 v2 : Int32) : Res (fun X => X = 5) 5 (fun H t => R5 (H 5) t) own s t 500 30000 (c_1099 115 v1 v2 s) (t_642 v1 v2 t) := by
  obtain ⟨n, B, o, od, nw, r⟩ := r
  have r2 := r
  obtain ⟨⟨p1, p2, ⟨mc, p3⟩, p4, p5, p6, p7, p8, p9⟩, f, i, b, q⟩ := r2
  have h1 := (rs_in p1).1
  unfold c_1099 t_642
  rw [blOf r, isInB, isInB, p5, if_pos (isK_t h1 rfl)]
  have e3 : (if v2 < 0 then some (0 : Int32) else if 3 < v2 then some 0 else some 1) = some (if inB v2 4 = true then 1 else 0) := by
    unfold inB
    by_cases h1 : v2 < 0
    · simp [h1]
    · by_cases h2 : 3 < v2
      · have : ¬ v2 < 4 := fun z => by
          rw [Int32.lt_iff_toInt_lt] at h2 z
          have : (3 : Int32).toInt = 3 := rfl
          have : (4 : Int32).toInt = 4 := rfl
          omega
        simp [h1, h2, this]
      · have : v2 < 4 := by
          rw [Int32.lt_iff_toInt_lt] at h2 ⊢
          have : (3 : Int32).toInt = 3 := rfl
          have : (4 : Int32).toInt = 4 := rfl
          omega
        simp [h1, h2, this]
  rw [e3]
  cases hr : inB v1 (Int32.ofNat n) with
  | true =>
    obtain ⟨k, hk, rfl⟩ := inB_nat n (by omega) hr
    have hb : ¬ t.1 1 = 0 := p9 (by omega)
    cases hr2 : inB v2 4 with
    | true =>
      obtain ⟨w, hw2, rfl⟩ := inB_nat 4 (by omega) hr2
      obtain ⟨s', e1, own', oid, e2, e3, e4, e5⟩ := c_sort hw hK r hs
      have h2 := (rs_in e2.1.1).1
      have h3 := (rs_in (e2.2.2.2.1 k hk).1).1
      have hbk : bN (Int32.ofNat k) = k := i_clamp (by omega)
      obtain ⟨j, hj, hj1, hj2⟩ := ord_idx (t := t) hk
      have hw4 : w = 0 ∨ w = 1 ∨ w = 2 ∨ w = 3 := by omega
      have cc : ∀ x, (if Int32.ofNat w = 0 then Option.bind (α := Int32) (xI s' [(94, 7)] (B k 0)) (fun x9 => some (Sum.inl (β := Nat × CS) (x9, s'))) else (if Int32.ofNat w = 1 then Option.bind (α := Int32) (xI s' [(94, 8)] (B k 0)) (fun x8 => some (.inl (x8, s'))) else (if Int32.ofNat w = 2 then Option.bind (α := Int32) (xI s' [(94, 9)] (B k 0)) (fun x7 => some (.inl (x7, s'))) else (if isK s' [100] 115 = true then Option.bind (α := Int32) (c_1100 115 (B k 0) s') (fun x6 => some (.inl (x6, s'))) else none)))) = some (.inl (x, s')) → (if isK s [100] 115 = true then Option.bind (α := CS) (c_1098 115 s) (fun x5 => (if Int32.ofNat w = 0 then Option.bind (α := Int32) (xI x5 [(94, 7)] (B k 0)) (fun x9 => some (Sum.inl (β := Nat × CS) (x9, x5))) else (if Int32.ofNat w = 1 then Option.bind (α := Int32) (xI x5 [(94, 8)] (B k 0)) (fun x8 => some (.inl (x8, x5))) else (if Int32.ofNat w = 2 then Option.bind (α := Int32) (xI x5 [(94, 9)] (B k 0)) (fun x7 => some (.inl (x7, x5))) else (if isK x5 [100] 115 = true then Option.bind (α := Int32) (c_1100 115 (B k 0) x5) (fun x6 => some (.inl (x6, x5))) else none))))) else none) = some (.inl (x, s')) := by
        intro x hx
        rw [if_pos (isK_t h1 rfl), e1, Option.bind_some, hx]
      have fin : ∀ x t', (∀ Z, Z ≠ 5 → Z ≠ 99 → rt t' Z = rt t Z) → Alk (ptI t 0 0) t' → (if Int32.ofNat w = 0 then Option.bind (α := Int32) (xI s' [(94, 7)] (B k 0)) (fun x9 => some (Sum.inl (β := Nat × CS) (x9, s'))) else (if Int32.ofNat w = 1 then Option.bind (α := Int32) (xI s' [(94, 8)] (B k 0)) (fun x8 => some (.inl (x8, s'))) else (if Int32.ofNat w = 2 then Option.bind (α := Int32) (xI s' [(94, 9)] (B k 0)) (fun x7 => some (.inl (x7, s'))) else (if isK s' [100] 115 = true then Option.bind (α := Int32) (c_1100 115 (B k 0) s') (fun x6 => some (.inl (x6, s'))) else none)))) = some (.inl (x, s')) → (if Int32.ofNat w = 0 then Option.bind (α := Int32) (rdI (ptI t 0 0) 131 40 (Int32.ofNat k)) (fun x7 => some (x7, ptI t 0 0)) else (if Int32.ofNat w = 1 then Option.bind (α := Int32) (rdI (ptI t 0 0) 132 40 (Int32.ofNat k)) (fun x6 => some (x6, ptI t 0 0)) else (if Int32.ofNat w = 2 then Option.bind (α := Int32) (rdI (ptI t 0 0) 133 40 (Int32.ofNat k)) (fun x5 => some (x5, ptI t 0 0)) else Option.bind (α := Int32 × TS) (t_810 (Int32.ofNat k) (ptI t 0 0)) (fun x4 => some (x4.1, x4.2))))) = some (x, t') → Res (fun X => X = 5) 5 (fun H t => R5 (H 5) t) own s t 500 30000 _ _ := fun x t' hz ha hc hd => Or.inl ⟨x, s', t', own', cc x hc, hd, by rw [ha.1]; rfl, hz, e3, ⟨n, B, _, _, nw, R5x_alk (R5x_pt e2) ha⟩, e4, e5⟩
      have hz : ∀ Z, Z ≠ 5 → Z ≠ 99 → rt (ptI t 0 0) Z = rt t Z := fun Z _ h => ptI_rt h
      simp only [if_true, Option.bind_some, Sum.elim_inl, need_eq, show ¬ (1 : Int32) = 0 by decide, if_false, hbk, goes_eq, hb, or_self]
      rcases hw4 with rfl | rfl | rfl | rfl
      · exact fin (t.2.2.1 131 k) _ hz (Alk.rf _) (by rw [if_pos (by decide), xI_o h3 rfl rfl]; rfl) (by rw [if_pos (by decide), rdI_n (by omega) (by omega)]; rfl)
      · exact fin (t.2.2.1 132 k) _ hz (Alk.rf _) (by rw [if_neg (by decide), if_pos (by decide), xI_o h3 rfl rfl]; rfl) (by rw [if_neg (by decide), if_pos (by decide), rdI_n (by omega) (by omega)]; rfl)
      · exact fin (t.2.2.1 133 k) _ hz (Alk.rf _) (by rw [if_neg (by decide), if_neg (by decide), if_pos (by decide), xI_o h3 rfl rfl]; rfl) (by rw [if_neg (by decide), if_neg (by decide), if_pos (by decide), rdI_n (by omega) (by omega)]; rfl)
      · obtain ⟨⟨x, t'⟩, f1, f2, f3⟩ := t_place (R5x_ok (R5x_pt (v := 0) r)) hk hj (by rw [(ord_pt t 0 n).1]; exact hj1) (by rw [(ord_pt t 0 n).1]; exact hj2)
        dsimp only at f2 f3
        exact fin (Int32.ofNat j) t' (fun Z h5 h99 => by rw [f3.rtt h5, ptI_rt h99]) f3 (by rw [if_neg (by decide), if_neg (by decide), if_neg (by decide), if_pos (isK_t h2 rfl), c_place e2 hk hj hj1 hj2]; rfl) (by rw [if_neg (by decide), if_neg (by decide), if_neg (by decide), f1, ← f2]; rfl)
    | false => exact Res.arg (x := 0) (by simp [need_eq]) (by simp [goes_eq, ptI])
  | false => exact Res.arg (x := 0) (by simp) (by simp [goes_eq, ptI])
