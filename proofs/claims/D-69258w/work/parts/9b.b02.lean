/-! the bus: what is told -/
/-- the reference's numbers that aren't of a module's rows -/
theorem rt_ne {t : TS} {c k Z : Nat} {v : Int32} (h : mR c ≠ Z) : rt (wrI t c k v) Z = rt t Z := rt_wrI h
theorem ptI_rt {t : TS} {v : Int32} {Z : Nat} (h : Z ≠ 99) : rt (ptI t 0 v) Z = rt t Z := rt_ptI (by show 99 ≠ Z; exact fun e => h e.symm)
/-- a station's own cell is changed -/
theorem st_res {α : Type} {own : Nat → Nat} {s : CS} {t t' : TS} {N k n m : Nat} {x : α} (hw : wfS s) (hk : k < 8) (r : R6 (rs s.1 own 6) t N) (hr : ∀ c j, mR c = 6 → ¬ (sRow c ∧ j = k) → t'.2.2.1 c j = t.2.2.1 c j) (hn : ∀ c, c ≠ 0 → (mI c = 6 ∨ c = 1) → t'.1 c = t.1 c) (hv : ∀ n m, t.2.2.1 146 k = Int32.ofNat n → n ≤ 6 → (0 < n → 8 ≤ m ∧ m ≤ 21 ∧ tl t k 0 21 = Int32.ofNat m) → sOk t k n m → sOk t' k n m) (h0 : t'.1 0 = 0) (hz : ∀ Z, Z ≠ 6 → Z ≠ 99 → rt t' Z = rt t Z)
    {c : Option (Sum (α × CS) (Nat × CS))} {d : Option (α × TS)} (hc : c = some (.inl (x, cup s (127 + 3 * k) (sC t' k)))) (hd : d = some (x, t')) : Res (fun X => X = 6) 6 (fun H t => R6 (H 6) t N) own s t n m c d := by
  have r2 := r
  obtain ⟨_, _, _, n, ti, bi, m, _, _, rr⟩ := r2
  have h3 := rs_in (rr k hk).1
  refine Or.inl ⟨x, _, t', own, hc, hd, h0, hz, frm_cup hw (wf_lt hw h3.1) h3.2, ?_, Nat.le_add_right _ _, Nat.le_add_right _ _⟩
  show R6 (rs (lUpd s.1 _ _) own 6) t' N
  rw [rs_upd h3.2]
  exact R6_st hk r hr hn hv
theorem rt_y {t : TS} {c k Z : Nat} {v : Int32} (hc : mR c = 6) (h6 : Z ≠ 6) (h9 : Z ≠ 99) : rt (wrI (ptI t 0 0) c k v) Z = rt t Z := by
  rw [rt_wrI (by rw [hc]; exact fun e => h6 e.symm), ptI_rt h9]
theorem bus_address {own : Nat → Nat} {s : CS} {t : TS} {N : Nat} (hw : wfS s) (r : R6 (rs s.1 own 6) t N) (v1 v2 : Int32) : Res (fun X => X = 6) 6 (fun H t => R6 (H 6) t N) own s t 0 0 (c_1134 120 v1 v2 s) (t_644 v1 v2 t) := by
  have r2 := r
  obtain ⟨⟨⟨d, _, g1⟩, _⟩, _, _, n, ti, bi, m, _, _, rr⟩ := r2
  have h1 := (rs_in g1).1
  unfold c_1134 t_644
  rw [stOf r]
  simp only [orB, isInB]
  cases hr : inB v1 8 with
  | true =>
    obtain ⟨k, hk, rfl⟩ := inB_nat 8 (by omega) hr
    have h3 := (rs_in (rr k hk).1).1
    cases hr2 : inB v2 65536 with
    | true =>
      obtain ⟨a, ha, rfl⟩ := inB_nat 65536 (by omega) hr2
      by_cases hb : t.1 1 = 0
      · exact Res.sta (x := 0) (by simp [need_eq, may_eq, xI, xV, h1, toI, lLook, isK, kdo, hb]) (by simp [goes_eq, hb, ptI])
      · refine st_res (k := k) (x := t.2.2.1 143 k) (t' := wrI (ptI t 0 0) 143 k (Int32.ofNat a)) hw hk r ?_ ?_ ?_ ?_ ?_ ?_ ?_
        · intro c j _ hq
          rw [wr_at, if_neg (fun q => hq ⟨by unfold sRow; omega, q.2⟩)]
          rfl
        · intro c h0 _
          rw [wr_1, pt_1, if_neg h0]
        · rintro n m _ _ _ ⟨q1, q2, q3⟩
          exact ⟨by simpa [wr_at, pt_2] using q1, ⟨a, ha, by simp [wr_at]⟩, by simpa [wr_at, pt_2, hdO, tl] using q3⟩
        · rfl
        · intro Z h6 h99
          exact rt_y rfl h6 h99
        · simp [need_eq, may_eq, xI, xV, h1, toI, lLook, isK, kdo, hb, h3, sC, xP, i_clamp (show k < 2147483648 by omega), wr_at, pt_2, cup]
        · simp [goes_eq, hb, rdI_n hk, stI_n hk, pt_2]
    | false => exact Res.arg (x := 0) (by simp [need_eq, isK, kdo, h1]) (by simp [goes_eq, ptI])
  | false => exact Res.arg (x := 0) (by simp [isK, kdo, h1]) (by simp [goes_eq, ptI])
