/-! the program: wires, new blocks -/
theorem wv_O {B : Nat → Nat → Nat} (x : Int32) : toO (wv B x) = some (if x = -1 then none else some (B (bN x) 0)) := by
  unfold wv
  by_cases e : x = -1
  · rw [if_pos e, if_pos e]; rfl
  · rw [if_neg e, if_neg e]; rfl
theorem wv_R {B : Nat → Nat → Nat} (x : Int32) : vR (if x = -1 then none else some (B (bN x) 0)) = wv B x := by
  unfold wv
  by_cases e : x = -1
  · rw [if_pos e, if_pos e]; rfl
  · rw [if_neg e, if_neg e]; rfl
theorem pr_wire {own : Nat → Nat} {s : CS} {t : TS} (hw : wfS s) (r : R5 (rs s.1 own 5) t) (v1 v2 v3 : Int32) : Res (fun X => X = 5) 5 (fun H t => R5 (H 5) t) own s t 0 0 (c_1088 115 v1 v2 v3 s) (t_633 v1 v2 v3 t) := by
  obtain ⟨n, B, o, od, nw, r⟩ := r
  have r2 := r
  obtain ⟨⟨p1, p2, ⟨mc, p3⟩, p4, p5, p6, p7, p8, p9⟩, f, i, b, q⟩ := r2
  have h1 := rs_in p1
  unfold c_1088 t_633
  rw [blOf r, isInB, isInB, isInB, p5, if_pos (isK_t h1.1 rfl), orB]
  cases hr : inB v1 (Int32.ofNat n) with
  | true =>
    obtain ⟨k, hk, rfl⟩ := inB_nat n (by omega) hr
    have hb : ¬ t.1 1 = 0 := p9 (by omega)
    have hbk : bN (Int32.ofNat k) = k := i_clamp (by omega)
    cases hr2 : inB v2 3 with
    | true =>
      obtain ⟨j, hj, rfl⟩ := inB_nat 3 (by omega) hr2
      have key : ∀ (hv : v3 = -1 ∨ ∃ w, w < n ∧ v3 = Int32.ofNat w), Res (fun X => X = 5) 5 (fun H t => R5 (H 5) t) own s t 0 0 (Option.bind (α := Nat) (xN s [(94, 5)] (B k 0)) (fun a7 => Option.bind (α := Option Nat) (aR s a7 (Int32.ofNat j)) (fun r8 => Option.bind (α := Nat) (xN s [(94, 5)] (B k 0)) (fun a9 => Option.bind (α := CS) (aPutR s a9 (Int32.ofNat j) (if v3 = -1 then none else some (B (bN v3) 0))) (fun s10 => Option.bind (α := CS) (xP s10 [(100, 2)] 115 (.null)) (fun s11 => (if r8 = none then some (Sum.inl (β := Nat × CS) (-1, s11)) else Option.bind (α := Nat) (r8) (fun a12 => Option.bind (α := Int32) (xI s11 [(94, 0)] a12) (fun x13 => some (.inl (x13, s11))))))))))) (some (t.2.2.1 129 (3 * k + j), wrI (ptI t 0 0) 129 (3 * k + j) v3)) := by
        intro hv
        have h3 := rs_in (b k hk).1
        have h4 := rs_in (b k hk).2.1
        have hwi := (b k hk).2.2.2.2.1 j hj
        have g := i.2 k 1 hk (by omega)
        rw [xN_o (b := B k 1) h3.1 rfl rfl, Option.bind_some]
        have e1 : aR s (B k 1) (Int32.ofNat j) = some (if wire t k j = -1 then none else some (B (bN (wire t k j)) 0)) := by
          unfold aR; rw [aV_r h4.1 (by omega) rfl hj (by omega), Option.bind_some, wv_O]
        have e2 : aPutR s (B k 1) (Int32.ofNat j) (if v3 = -1 then none else some (B (bN v3) 0)) = some (cup s (B k 1) (true, true, 8, rowC (fun q => wv B (wire (wrI t 129 (3 * k + j) v3) k q)) 3)) := by
          rw [aPutR_r h4.1 (by omega) hj (by omega)]
          · rw [wv_R]
            refine congrArg (fun z => some (cup s (B k 1) (true, true, 8, z))) (rowC_congr (fun q hq => ?_))
            unfold wire
            rw [wr_at]
            by_cases e : q = j
            · rw [if_pos e, if_pos ⟨rfl, by omega⟩]
            · rw [if_neg e, if_neg (fun z => e (by omega))]
          · rcases hv with rfl | ⟨w, hw1, rfl⟩
            · rfl
            · rw [if_neg (i_ne1 (by omega)), bN, i_clamp (by omega)]
              have h5 := (rs_in (b w hw1).1).1
              simp only [kdo, h5, bC]
              rfl
        rw [e1, Option.bind_some, Option.bind_some, e2, Option.bind_some]
        generalize hS : cup s (B k 1) _ = S1
        have g1 : S1.1 115 = some (true, false, 100, [.ref 116, .ref 117, o, .int od, .ref 118, .ref 119, .int nw, .int (t.1 1)]) := by
          rw [← hS, cup_ne (by omega)]; exact h1.1
        rw [xP_c (fs' := [.ref 116, .ref 117, .null, .int od, .ref 118, .ref 119, .int nw, .int (t.1 1)]) g1 rfl (by simp) rfl, Option.bind_some]
        have fr : Frm (fun X => X = 5) own own s (cup S1 115 (true, false, 100, [.ref 116, .ref 117, .null, .int od, .ref 118, .ref 119, .int nw, .int (t.1 1)])) := by
          rw [← hS]
          have f1 := frm_cup (X := fun X => X = 5) (c := (true, true, 8, rowC (fun q => wv B (wire (wrI t 129 (3 * k + j) v3) k q)) 3)) hw (wf_lt hw h4.1) h4.2
          exact f1.trans (frm_cup f1.2.2.2.2 (show 115 < s.2.1 from wf_lt hw h1.1) h1.2)
        have hR : R5 (rs (cup S1 115 (true, false, 100, [.ref 116, .ref 117, .null, .int od, .ref 118, .ref 119, .int nw, .int (t.1 1)])).1 own 5) (wrI (ptI t 0 0) 129 (3 * k + j) v3) := by
          rw [← hS]
          show R5 (rs (lUpd (lUpd s.1 (B k 1) _) 115 _) own 5) _
          rw [rs_upd h1.2, rs_upd h4.2]
          have := R5_pt (v := 0) ⟨n, B, .null, od, nw, R5_wire hk hj hv r⟩
          exact this
        refine Or.inl ⟨t.2.2.1 129 (3 * k + j), _, _, own, ?_, rfl, rfl, fun Z h5 h99 => by rw [rt_5 rfl h5, ptI_rt h99], fr, hR, by rw [← hS]; exact Nat.le_refl _, by rw [← hS]; exact Nat.le_refl _⟩
        rcases hwi with e | ⟨w, hw1, e⟩
        · have e' : t.2.2.1 129 (3 * k + j) = -1 := e
          rw [e, e']; rfl
        · have e' : t.2.2.1 129 (3 * k + j) = Int32.ofNat w := e
          rw [e, e', if_neg (i_ne1 (by omega)), if_neg (by simp), Option.bind_some]
          have h5 := (rs_in (b w hw1).1).1
          have g2 := i.2 w 0 hw1 (by omega)
          have h6 : (cup S1 115 (true, false, 100, [.ref 116, .ref 117, .null, .int od, .ref 118, .ref 119, .int nw, .int (t.1 1)])).1 (B w 0) = some (bC t B w) := by
            rw [cup_ne (by omega), ← hS, cup_ne (fun z => by have := (i.1 _ _ _ _ hw1 (by omega) hk (by omega) z).2; omega)]; exact h5
          have hbw : bN (Int32.ofNat w) = w := i_clamp (by omega)
          rw [hbw]
          exact (by rw [xI_o h6 rfl rfl]; rfl)
      by_cases hm : v3 = -1
      · have := key (Or.inl hm)
        simp only [if_true, Option.bind_some, Sum.elim_inl, need_eq, show ¬ (1 : Int32) = 0 by decide, if_false, hbk, goes_eq, hb, or_self, hm, i_mulL, i_add, rdI_n (show 3 * k + j < 120 by omega) (show 120 < 2147483648 by omega), stI_n (show 3 * k + j < 120 by omega) (show 120 < 2147483648 by omega), pt_2] at this ⊢
        exact this
      · cases hr3 : inB v3 (Int32.ofNat n) with
        | true =>
          obtain ⟨w, hw1, rfl⟩ := inB_nat n (by omega) hr3
          have := key (Or.inr ⟨w, hw1, rfl⟩)
          simp only [if_true, Option.bind_some, Sum.elim_inl, need_eq, show ¬ (1 : Int32) = 0 by decide, if_false, hbk, goes_eq, hb, or_self, hm, i_mulL, i_add, rdI_n (show 3 * k + j < 120 by omega) (show 120 < 2147483648 by omega), stI_n (show 3 * k + j < 120 by omega) (show 120 < 2147483648 by omega), pt_2, isK_t (tab := [100]) h1.1 rfl, blOf r, hr3] at this ⊢
          exact this
        | false =>
          refine Res.arg (x := 0) ?_ ?_
          · simp only [if_true, Option.bind_some, Sum.elim_inl, Sum.elim_inr, need_eq, show ¬ (1 : Int32) = 0 by decide, if_false, hm, isK_t (tab := [100]) h1.1 rfl, blOf r, hr3, Bool.false_eq_true]
          · simp [hm, goes_eq, ptI]
    | false => exact Res.arg (x := 0) (by simp [need_eq]) (by simp [goes_eq, ptI])
  | false => exact Res.arg (x := 0) (by simp) (by simp [goes_eq, ptI])
