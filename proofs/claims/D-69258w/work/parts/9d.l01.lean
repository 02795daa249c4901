/-! the lifts: cars -/
/-- a car's own rows -/
def cRow (c : Nat) : Prop := c = 159 ∨ c = 160 ∨ c = 161 ∨ c = 162
theorem R8_car {h : lHeap} {t t' : TS} {nc nk k : Nat} {C D M : Nat → Nat} {b : Nat → Option Nat} (hk : k < nc) (r : R8x h t nc nk C D M b) (hr : ∀ c j, mR c = 8 → ¬ (cRow c ∧ j = k) → t'.2.2.1 c j = t.2.2.1 c j) (hn : ∀ c, c ≠ 0 → (mI c = 8 ∨ c = 1) → t'.1 c = t.1 c) (ho : okCar t' k) (hne : ∀ c, c < nk → isO t c → D c ≠ C k) (hnm : ∀ c, c < nk → ¬ t.2.2.1 172 c = -1 → M c ≠ C k) : R8x (lUpd h (C k) (carC t' C D (b k) k)) t' nc nk C D M b := by
  obtain ⟨⟨nw, hm, lst, p1⟩, ⟨m1, p2⟩, ⟨m2, e2, p3⟩, ⟨m3, e3, p4⟩, ⟨f5, p5⟩, ⟨f6, p6⟩, p7, p8, p9, p10, p11, p12, p13, p14, p15, p16, p17, p18, ⟨mo, eo, o1, o2, o3, o4⟩, ⟨mm, em, m1', m2', m3', m4', m5', m6'⟩⟩ := r
  have g := (p14 k hk).2.2
  have ne : ∀ a c, a ≠ C k → lUpd h (C k) c a = h a := fun a c ha => by rw [lUpd_at, if_neg ha]
  have hN : ∀ c, ¬ cRow c → mR c = 8 → ∀ j, t'.2.2.1 c j = t.2.2.1 c j := fun c hc h8 j => hr c j h8 (fun z => hc z.1)
  have n1 := hn 1 (by omega) (Or.inr rfl)
  have n606 := hn 606 (by omega) (Or.inl rfl)
  have e163 := hN 163 (by unfold cRow; omega) rfl
  have e164 := hN 164 (by unfold cRow; omega) rfl
  have e165 := hN 165 (by unfold cRow; omega) rfl
  have e166 := hN 166 (by unfold cRow; omega) rfl
  have e167 := hN 167 (by unfold cRow; omega) rfl
  have e172 := hN 172 (by unfold cRow; omega) rfl
  have e173 := hN 173 (by unfold cRow; omega) rfl
  have e174 := hN 174 (by unfold cRow; omega) rfl
  have e175 := hN 175 (by unfold cRow; omega) rfl
  have e158 := hN 158 (by unfold cRow; omega) rfl
  refine ⟨⟨nw, hm, lst, by rw [ne _ _ (by omega), n606, n1]; exact p1⟩, ⟨m1, (ne _ _ (by omega)).trans p2⟩, ⟨m2, e2, (ne _ _ (by omega)).trans p3⟩, ⟨m3, e3, (ne _ _ (by omega)).trans p4⟩, ⟨f5, (ne _ _ (by omega)).trans p5⟩, ⟨f6, (ne _ _ (by omega)).trans p6⟩, by rw [hn 600 (by omega) (Or.inl rfl)]; exact p7, p8, by rw [n606]; exact p9, p10, by rw [n1]; exact p11, by rw [n1]; exact p12, by rw [hn 612 (by omega) (Or.inl rfl)]; exact p13, ?_, p15, ?_, ?_, ?_, ⟨mo, eo, (ne _ _ (by omega)).trans o1, by simp only [e166]; exact o2, o3, o4⟩, ⟨mm, em, (ne _ _ (by omega)).trans m1', by simp only [e172]; exact m2', m3', m4', fun c h1 h2 => ?_, fun c h1 h2 => by rw [e172]; exact m6' c h1 h2⟩⟩
  · intro j hj
    by_cases z : j = k
    · subst z
      exact ⟨by rw [lUpd_at, if_pos rfl], ho, g⟩
    · obtain ⟨q1, q2, q3⟩ := p14 j hj
      have f : ∀ c, cRow c ∨ c = 158 → t'.2.2.1 c j = t.2.2.1 c j := fun c hc => hr c j (by unfold cRow at hc; rcases hc with (rfl | rfl | rfl | rfl) | rfl <;> rfl) (fun w => z w.2)
      refine ⟨?_, ?_, q3⟩
      · rw [ne _ _ (fun w => z (p15 _ _ hj hk w)), q1]
        unfold carC
        rw [f 158 (Or.inr rfl), f 159 (Or.inl (by unfold cRow; omega)), f 160 (Or.inl (by unfold cRow; omega)), f 161 (Or.inl (by unfold cRow; omega)), f 162 (Or.inl (by unfold cRow; omega))]
      · unfold okCar at q2 ⊢
        rw [f 158 (Or.inr rfl), f 159 (Or.inl (by unfold cRow; omega)), f 160 (Or.inl (by unfold cRow; omega)), f 161 (Or.inl (by unfold cRow; omega)), f 162 (Or.inl (by unfold cRow; omega))]
        exact q2
  · intro c hc
    obtain ⟨q1, q2, q3⟩ := p16 c hc
    refine ⟨by rw [e166]; exact q1, by unfold okCall at q2 ⊢; rw [e163, e164, e165, e167, hn 612 (by omega) (Or.inl rfl)]; exact q2, fun hO => ?_⟩
    unfold isO at hO
    rw [e166] at hO
    obtain ⟨y1, y2⟩ := q3 hO
    refine ⟨?_, y2⟩
    rw [ne _ _ (hne c hc hO), y1]
    unfold calC
    rw [e163, e164, e165, e167]
  · intro c e h1 h2 h3 h4
    unfold isO at h3 h4
    rw [e166] at h3 h4
    exact p17 c e h1 h2 h3 h4
  · intro j c hj
    unfold isO
    rw [e166, e167]
    exact p18 j c hj
  · rw [e172] at h2
    obtain ⟨y1, y2, y3⟩ := m5' c h1 h2
    refine ⟨y1, ?_, by rw [e172]; exact y3⟩
    rw [ne _ _ (hnm c h1 h2), y2]
    unfold toC
    rw [e172, e173, e174, e175]
/-- kinds of cells keep them apart -/
theorem apart {h : lHeap} {a b : Nat} {c d : lCell} (h1 : h a = some c) (h2 : h b = some d) (hk : c.2.2.1 ≠ d.2.2.1) : a ≠ b := by
  intro e
  rw [e, h2] at h1
  exact hk (by rw [Option.some.inj h1])
theorem caOf {s : CS} {t : TS} {own : Nat → Nat} {nc nk : Nat} {C D M : Nat → Nat} {b : Nat → Option Nat} (r : R8x (rs s.1 own 8) t nc nk C D M b) (v : Int32) : c_523 162 v s = if inB v (Int32.ofNat nc) = true then some (.inl (C (bN v), s)) else some (.inr (s.2.1, exs s 11)) := by
  obtain ⟨⟨nw, hm, lst, p1⟩, ⟨m1, p2⟩, _, _, _, _, p7, p8, _, _, _, _, _, p14, _⟩ := r
  have h1 := (rs_in p1).1
  have h2 := (rs_in p2).1
  unfold c_523
  rw [xN_o h1 rfl rfl]
  simp only [Option.bind_some, isK_t (tab := [13]) h2 rfl, alSize_r h2, if_true]
  rw [orB]
  cases hr : inB v (Int32.ofNat nc) with
  | true =>
    obtain ⟨k, hk, rfl⟩ := inB_nat nc (by omega) hr
    have h3 := (rs_in (p14 k hk).1).1
    simp [need_eq, xN_o (tab := [(49, 0)]) h1 rfl rfl, isK_t (tab := [13]) h2 rfl, alGet_r h2 hk (by omega), toN_o (tab := [95]) h3 rfl, bN, i_clamp (show k < 2147483648 by omega)]
  | false => simp [need_eq]
theorem flOf (v : Int32) (s : CS) : c_521 162 v s = if inB v 60 = true then some (.inl s) else some (.inr (s.2.1, exs s 11)) := by
  unfold c_521
  rw [orB]
  cases inB v 60 <;> simp [need_eq]
theorem flT (v : Int32) (t : TS) : t_844 v t = some (if inB v 60 = true then 1 else 0) := by
  unfold t_844; rw [orB]
theorem R8_pt {h : lHeap} {t : TS} {nc nk : Nat} {C D M : Nat → Nat} {b : Nat → Option Nat} {v : Int32} (r : R8x h t nc nk C D M b) : R8x h (ptI t 0 v) nc nk C D M b := r
theorem rt_8 {t : TS} {c k Z : Nat} {v : Int32} (hc : mR c = 8) (h8 : Z ≠ 8) : rt (wrI t c k v) Z = rt t Z := rt_wrI (by rw [hc]; exact fun e => h8 e.symm)
theorem car_res {α : Type} {own : Nat → Nat} {s : CS} {t t' : TS} {k nc nk : Nat} {C D M : Nat → Nat} {bb : Nat → Option Nat} {x : α} {a b : Nat} (hw : wfS s) (hk : k < nc) (r : R8x (rs s.1 own 8) t nc nk C D M bb) (hr : ∀ c j, mR c = 8 → ¬ (cRow c ∧ j = k) → t'.2.2.1 c j = t.2.2.1 c j) (hn : ∀ c, c ≠ 0 → (mI c = 8 ∨ c = 1) → t'.1 c = t.1 c) (ho : okCar t' k) (h0 : t'.1 0 = 0) (hz : ∀ Z, Z ≠ 8 → Z ≠ 99 → rt t' Z = rt t Z)
    {c : Option (Sum (α × CS) (Nat × CS))} {d : Option (α × TS)} (hc : c = some (.inl (x, cup s (C k) (carC t' C D (bb k) k)))) (hd : d = some (x, t')) : Res (fun X => X = 8) 8 (fun H t => R8 (H 8) t) own s t a b c d := by
  have r2 := r
  obtain ⟨_, _, _, _, _, _, _, _, _, _, _, _, _, p14, _, p16, _, _, _, mm⟩ := r2
  have h3 := rs_in (p14 k hk).1
  refine Or.inl ⟨x, _, t', own, hc, hd, h0, hz, frm_cup hw (wf_lt hw h3.1) h3.2, ?_, Nat.le_add_right _ _, Nat.le_add_right _ _⟩
  show R8 (rs (lUpd s.1 _ _) own 8) t'
  rw [rs_upd h3.2]
  refine ⟨nc, nk, C, D, M, bb, R8_car hk r hr hn ho (fun c h1 h2 => ?_) (fun c h1 h2 => ?_)⟩
  · exact apart ((p16 c h1).2.2 h2).1 (p14 k hk).1 (by show (96 : Nat) ≠ 95; omega)
  · obtain ⟨_, _, _, _, _, _, m5, _⟩ := mm
    exact apart (m5 c h1 h2).2.1 (p14 k hk).1 (by show (99 : Nat) ≠ 95; omega)
theorem li_free {own : Nat → Nat} {s : CS} {t : TS} (hw : wfS s) (r : R8 (rs s.1 own 8) t) (v1 v2 v3 : Int32) : Res (fun X => X = 8) 8 (fun H t => R8 (H 8) t) own s t 0 0 (uC (c_522 162 v1 v2 v3 s)) (uT (t_653 v1 v2 v3 t)) := by
  obtain ⟨nc, nk, C, D, M, b, r⟩ := r
  have r2 := r
  obtain ⟨⟨nw, hm, lst, p1⟩, _, _, _, _, _, p7, p8, _, _, _, p12, _, p14, _⟩ := r2
  have h1 := (rs_in p1).1
  have k49 : isK s [49] 162 = true := isK_t h1 rfl
  unfold c_522 t_653
  rw [if_pos k49, caOf r, isInB, p7]
  have e3 : (if v3 < 0 then some (0 : Int32) else if 100000 < v3 then some 0 else some 1) = some (if inB v3 100001 = true then 1 else 0) := by
    have e1 : ((100000 : Int32) < v3) = ¬ (v3 < 100001) := propext (i_gt (a := 100000) (by omega) v3)
    unfold inB
    by_cases h1 : v3 < 0
    · simp [h1]
    · by_cases h2 : v3 < 100001
      · simp [h1, h2, e1]
      · simp [h1, h2, e1]
  rw [e3]
  cases hr : inB v1 (Int32.ofNat nc) with
  | true =>
    obtain ⟨k, hk, rfl⟩ := inB_nat nc (by omega) hr
    have h3 := (rs_in (p14 k hk).1).1
    have hb : ¬ t.1 1 = 0 := p12 (Or.inl (by omega))
    have hbk : bN (Int32.ofNat k) = k := i_clamp (by omega)
    cases hr2 : inB v2 60 with
    | true =>
      obtain ⟨fl, hfl, rfl⟩ := inB_nat 60 (by omega) hr2
      cases hr3 : inB v3 100001 with
      | true =>
        obtain ⟨sc, hsc, rfl⟩ := inB_nat 100001 (by omega) hr3
        refine car_res (k := k) (x := ()) (t' := wrI (wrI (ptI t 0 0) 159 k (Int32.ofNat fl)) 160 k (Int32.ofNat sc)) hw hk r ?_ ?_ ?_ rfl ?_ ?_ ?_
        · intro c j _ hq
          rw [wr_at, if_neg (fun q => hq ⟨by unfold cRow; omega, q.2⟩), wr_at, if_neg (fun q => hq ⟨by unfold cRow; omega, q.2⟩)]; rfl
        · intro c h0 _
          rw [wr_1, wr_1, pt_1, if_neg h0]
        · obtain ⟨o1, o2, o3, o4, o5⟩ := (p14 k hk).2.1
          refine ⟨o1, ⟨fl, hfl, ?_⟩, ⟨sc, by omega, ?_⟩, o4, o5⟩
          · rw [wr_ne (by omega), wr_at, if_pos ⟨rfl, rfl⟩]
          · rw [wr_at, if_pos ⟨rfl, rfl⟩]
        · intro Z h8 h99
          rw [rt_8 rfl h8, rt_8 rfl h8, ptI_rt h99]
        · simp [uC, hbk, k49, flOf, hr2, need_eq, h3, carC, lLook, xP, wr_at, pt_2, cup_a, cupU]
        · simp [uT, flT, hr2, goes_eq, hb, stI_n (show k < 4 by omega), pt_2]
      | false => exact Res.arg (x := ()) (by simp [uC, k49, flOf, hr2, need_eq]) (by simp [uT, flT, hr2, goes_eq, ptI])
    | false => exact Res.arg (x := ()) (by simp [uC, k49, flOf, hr2]) (by simp [uT, flT, hr2, goes_eq, ptI])
  | false => exact Res.arg (x := ()) (by simp [uC]) (by simp [uT, goes_eq, ptI])
theorem li_span {own : Nat → Nat} {s : CS} {t : TS} (hw : wfS s) (r : R8 (rs s.1 own 8) t) (v1 v2 v3 : Int32) : Res (fun X => X = 8) 8 (fun H t => R8 (H 8) t) own s t 0 0 (uC (c_524 162 v1 v2 v3 s)) (uT (t_654 v1 v2 v3 t)) := by
  obtain ⟨nc, nk, C, D, M, b, r⟩ := r
  have r2 := r
  obtain ⟨⟨nw, hm, lst, p1⟩, _, _, _, _, _, p7, p8, _, _, _, p12, _, p14, _⟩ := r2
  have h1 := (rs_in p1).1
  have k49 : isK s [49] 162 = true := isK_t h1 rfl
  unfold c_524 t_654
  rw [if_pos k49, caOf r, isInB, p7]
  cases hr : inB v1 (Int32.ofNat nc) with
  | true =>
    obtain ⟨k, hk, rfl⟩ := inB_nat nc (by omega) hr
    have h3 := (rs_in (p14 k hk).1).1
    have hb : ¬ t.1 1 = 0 := p12 (Or.inl (by omega))
    have hbk : bN (Int32.ofNat k) = k := i_clamp (by omega)
    cases hr2 : inB v2 60 with
    | true =>
      cases hr3 : inB v3 60 with
      | true =>
        by_cases hlt : v3 < v2
        · exact Res.arg (x := ()) (by simp [uC, k49, flOf, hr2, hr3, hlt, need_eq]) (by simp [uT, flT, hr2, hr3, hlt, goes_eq, ptI])
        · obtain ⟨a, ha, ea⟩ := inB_nat 60 (by omega) hr2
          obtain ⟨c, hc, ec⟩ := inB_nat 60 (by omega) hr3
          refine car_res (k := k) (x := ()) (t' := wrI (wrI (ptI t 0 0) 161 k v2) 162 k v3) hw hk r ?_ ?_ ?_ rfl ?_ ?_ ?_
          · intro c j _ hq
            rw [wr_at, if_neg (fun q => hq ⟨by unfold cRow; omega, q.2⟩), wr_at, if_neg (fun q => hq ⟨by unfold cRow; omega, q.2⟩)]; rfl
          · intro c h0 _
            rw [wr_1, wr_1, pt_1, if_neg h0]
          · obtain ⟨o1, o2, o3, o4, o5⟩ := (p14 k hk).2.1
            refine ⟨o1, o2, o3, ⟨a, ha, ?_⟩, ⟨c, hc, ?_⟩⟩
            · rw [wr_ne (by omega), wr_at, if_pos ⟨rfl, rfl⟩, ea]
            · rw [wr_at, if_pos ⟨rfl, rfl⟩, ec]
          · intro Z h8 h99
            rw [rt_8 rfl h8, rt_8 rfl h8, ptI_rt h99]
          · simp [uC, hbk, k49, flOf, hr2, hr3, hlt, need_eq, h3, carC, lLook, xP, wr_at, pt_2, cup_a, cupU]
          · simp [uT, flT, hr2, hr3, hlt, goes_eq, hb, stI_n (show k < 4 by omega), pt_2]
      | false => exact Res.arg (x := ()) (by simp [uC, k49, flOf, hr2, hr3]) (by simp [uT, flT, hr2, hr3, goes_eq, ptI])
    | false => exact Res.arg (x := ()) (by simp [uC, k49, flOf, hr2]) (by simp [uT, flT, hr2, goes_eq, ptI])
  | false => exact Res.arg (x := ()) (by simp [uC]) (by simp [uT, goes_eq, ptI])
