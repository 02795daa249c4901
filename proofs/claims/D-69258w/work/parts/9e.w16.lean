/-! the warden: reset -/
section
variable {h : lHeap} {own : Nat → Nat} {s : CS} {t : TS} {np sz mx zm am rl nr na ec a B N : Nat} {P Z ZP A RW od : Nat → Nat}
def RsQ (own : Nat → Nat) (s : CS) (t : TS) (np sz mx zm am rl nr na : Nat) (P Z ZP A RW od : Nat → Nat) (B N k : Nat) (s' : CS) (t' : TS) : Prop := ∃ own' ec', R7b (rs s'.1 own' 7) t' np sz mx zm am rl nr na ec' P Z ZP A RW od B ∧ SecH s' own' t' N ∧ Frm (fun X => X = 6 ∨ X = 7 ∨ X = 10) own own' s s' ∧ (∀ c, c ≠ 330 → t'.1 c = t.1 c) ∧ (∀ Z, Z ≠ 6 → Z ≠ 7 → Z ≠ 10 → Z ≠ 99 → rt t' Z = rt t Z) ∧ (∀ c, mR c = 7 → ¬ (117 ≤ c ∧ c ≤ 123) → t'.2.2.1 c = t.2.2.1 c) ∧ s'.2.2.1 ≤ s.2.2.1 + 3 * k ∧ s'.2.2.2 ≤ s.2.2.2 + 24 * k ∧ s'.1 161 = s.1 161
theorem RsQ_same (hw : wfS s) (r : R7b (rs s.1 own 7) t np sz mx zm am rl nr na ec P Z ZP A RW od B) (hS : SecH s own t N) (k : Nat) : RsQ own s t np sz mx zm am rl nr na P Z ZP A RW od B N k s t :=
  ⟨own, ec, r, hS, Frm.refl hw, fun _ _ => rfl, fun _ _ _ _ _ => rfl, fun _ _ _ => rfl, Nat.le_add_right _ _, Nat.le_add_right _ _, rfl⟩
theorem wa_rst (hw : wfS s) (hs : 179 ≤ s.2.1) (k7 : K7 (rs s.1 own 11)) (r : R7b (rs s.1 own 7) t np sz mx zm am rl nr na ec P Z ZP A RW od B) (hB : B < 900000) (hS : SecH s own t N) (hb : ¬ t.1 1 = 0) (ha : a < 20) (hta : t.2.2.1 109 a = 1) (c : Int32) : ∃ s' t' c',
    Option.bind (xI s [(91, 4)] (A a)) (fun x9 => ((if x9 = 0 then some (s, c) else Option.bind (xR s [(91, 5)] (A a)) (fun r10 => (if r10 = some 33 then (if isK s [47] 151 = true then Option.bind (c_504 151 (A a) 0 s) (fun x11 => (if x11 = 0 then (if isK s [91] (A a) = true then Option.bind (c_1058 (A a) s) (fun x12 => (if isK x12 [47] 151 = true then Option.bind (c_510 151 (A a) 0 x12) (fun x13 => some (x13, c + 1)) else none)) else none) else some (s, c))) else none) else (if nst s (vR r10) = true then some (s, c) else none)))))) = some (s', c') ∧
    Option.bind (t_794 (Int32.ofNat a) t) (fun x3 => (if x3.1 = 0 then some (x3.2, c) else Option.bind (t_628 (Int32.ofNat a) 0 x3.2) (fun x4 => some (x4, c + 1)))) = some (t', c') ∧ RsQ own s t np sz mx zm am rl nr na P Z ZP A RW od B N 1 s' t' := by
  have q := R7b_raw r
  have q0 := q.1.1
  have hnp := q.2.1.2.2.1
  have k7' := k7_of k7
  obtain ⟨a1, a2, a3⟩ := q.2.2.2.2.1.1 a ha hta
  have hst := st_of a3
  have cF := c_called q ha hta false
  have tF := t_called hnp q.2.2.2.1 ha false
  have k47 : isK s [47] 151 = true := isK_t q0 rfl
  have k91 : isK s [91] (A a) = true := isK_t a1 rfl
  rw [show (if false = true then (1 : Int32) else 0) = 0 from rfl] at cF tF
  unfold t_794
  rw [xI_o (x := t.2.2.1 113 a) a1 rfl rfl, Option.bind_some, rdI_n (by omega) (by omega), Option.bind_some]
  by_cases y3 : t.2.2.1 113 a = 0
  · rw [if_pos y3, if_pos y3, Option.bind_some, if_pos rfl]
    exact ⟨_, _, _, rfl, rfl, RsQ_same hw r hS 1⟩
  · rw [if_neg y3, if_neg y3, xR_o (b := stR (t.2.2.1 117 a)) a1 rfl rfl, Option.bind_some, rdI_n ha (by omega), Option.bind_some]
    by_cases y2 : t.2.2.1 117 a = 2
    · rw [if_pos (by rw [hst.1.mpr y2]), if_pos y2, if_pos k47, cF, tF, Option.bind_some, Option.bind_some]
      cases hc : calB t a false nr with
      | true =>
        simp only [if_true, show ¬ (1 : Int32) = 0 by decide, if_false, Option.bind_some]
        exact ⟨_, _, _, rfl, rfl, RsQ_same hw r hS 1⟩
      | false =>
        simp only [Bool.false_eq_true, if_false, if_true]
        rw [if_pos k91, c_res a1, Option.bind_some, t_res ha, Option.bind_some]
        have hbd := r.2.2.2.2.2.2.2.2.2
        have hdn : dnC (resT t a) (-1) + 1 ≤ dnC t (-1) := dnC_drop ha hta y2 (fun b hb => resT_ne (fun z => hb z.2.2)) (by rw [resT_at]; simp) (funext (fun j => resT_ne (by omega))) (funext (fun j => resT_ne (by omega)))
        obtain ⟨g1, g2⟩ := wa_actS (T := resT t a) (B' := B) hw r ha hta (fun _ _ => rfl) (fun c j hh => resT_ne hh) (okAct_res a3) (by omega)
        have hrt2 : ∀ Z, Z ≠ 7 → Z ≠ 99 → rt (resT t a) Z = rt t Z := fun Z h7 h9 => rt_act (t := t) (T := resT t a) (a := a) (fun _ _ => rfl) rfl (fun c j hh => resT_ne hh) rfl h7 h9
        have hA161 : A a ≠ 161 := fun z => by
          obtain ⟨_, _, _, _, _, _, _, _, _, ⟨mo, w14⟩, _, _, _⟩ := q.2.2.2.1
          rw [z, w14] at a1; cases a1
        have h161 : (cup s (A a) (actC (resT t a) a)).1 161 = s.1 161 := cup_ne hA161.symm
        have n2 : (cup s (A a) (actC (resT t a) a)).2 = s.2 := rfl
        have T2 : ∀ c, (resT t a).1 c = t.1 c := fun _ => rfl
        have T3 : ∀ c, ¬ (117 ≤ c ∧ c ≤ 120) → (resT t a).2.2.1 c = t.2.2.1 c := fun c hc => funext (fun j => resT_ne (by omega))
        generalize cup s (A a) (actC (resT t a) a) = s2 at g1 g2 h161 n2 ⊢
        generalize resT t a = T at g1 hrt2 hdn T2 T3 ⊢
        have hw2 : wfS s2 := g2.2.2.2.2
        have hS2 : SecH s2 own T N := SecH_frm hw hS g2 (hrt2 6 (by omega) (by omega)) (hrt2 10 (by omega) (by omega)) (T2 1)
        obtain ⟨hS6, hS10, ⟨w5, fs, h115, hf4⟩, o115⟩ := hS2
        have hta2 : T.2.2.1 109 a = 1 := by rw [T3 109 (by omega)]; exact hta
        obtain ⟨S, U, eS, eU, rU, fS, n3, u2, u4, u8, u9⟩ := wa_evC hw2 g1 (by omega) (by rw [T2]; exact hb) ha hta2 (d := 0) (Or.inl rfl) h115 hf4 (by omega) hS6
        have hwS : wfS S := fS.2.2.2.2
        have hSS : SecH S own U N := SecH_frm hw2 ⟨hS6, hS10, ⟨w5, fs, h115, hf4⟩, o115⟩ fS (u8 6 (by omega)) (u8 10 (by omega)) (u2 1 (by omega))
        obtain ⟨s12, U3, own', e1, e2, e3, e4, e5, e6, e7, e8, e9⟩ := bus_do (d := 0) hwS (by rw [n3, n2]; exact hs) hSS.1 hSS.2.1 ha (Or.inl rfl)
        rw [u4 110 (by omega)] at e1
        have k47c : isK s2 [47] 151 = true := isK_t (rs_in g1.1.1).1 rfl
        rw [if_pos k47c, eS, e1, eU, Option.bind_some, Option.bind_some, Option.bind_some, if_neg (show ¬ (1 : Int32) = 0 by decide), e2, Option.bind_some]
        refine ⟨_, U3, _, rfl, rfl, own', ec + 1, ?_, ⟨e4, e5, ?_, ?_⟩, Frm.trans (frm_w g2 (fun z hz => by omega)) (Frm.trans (frm_w fS (fun z hz => by omega)) (frm_w e3 (fun z hz => by omega))), fun c hc => by rw [e6, u2 c hc, T2], fun Z h6 h7 h10 h9 => by rw [e7 Z h6 h10, u8 Z h7, hrt2 Z h7 h9], fun c hc1 hc2 => by rw [rt_row (e7 7 (by omega) (by omega)) hc1, u4 c (by omega), T3 c (by omega)], ?_, ?_, ?_⟩
        · have rU12 : R7b (rs s12.1 own' 7) U np sz mx zm am rl nr na (ec + 1) P Z ZP A RW od (ec + 1 + dnC T (-1)) := by rw [frm_rs hwS e3 (by omega)]; exact rU
          have rU13 := R7b_rt rU12 (e7 7 (by omega) (by omega)) (by rw [e6])
          obtain ⟨x0, x1, x2, x3, x4, ⟨y1, y2, y3, y4, y5⟩⟩ := rU13
          exact ⟨x0, x1, x2, x3, x4, ⟨y1, y2, y3, y4, by omega⟩⟩
        · obtain ⟨w', fs', z1, z2⟩ := hSS.2.2.1
          refine ⟨w', fs', ?_, z2⟩
          rw [e3.2.2.1 115 (wf_lt hwS z1) (by rw [hSS.2.2.2]; omega)]; exact z1
        · obtain ⟨w', fs', z1, z2⟩ := hSS.2.2.1
          rw [e3.2.1 115 (wf_lt hwS z1)]; exact hSS.2.2.2
        · have : S.2.2.1 = s.2.2.1 := by rw [n3, n2]
          omega
        · have : S.2.2.2 = s.2.2.2 := by rw [n3, n2]
          omega
        · obtain ⟨_, _, _, _, _, _, _, _, _, ⟨mo, w14⟩, _, _, _⟩ := rU.2.2.2.1
          have o := rs_in w14
          rw [e3.2.2.1 161 (wf_lt hwS o.1) (by rw [o.2]; omega), u9, h161]
    · rw [if_neg (fun z => y2 (hst.1.mp (Option.some.inj z))), if_pos (nst_st k7' _), if_neg y2, Option.bind_some, if_pos rfl]
      exact ⟨_, _, _, rfl, rfl, RsQ_same hw r hS 1⟩
theorem bind_out {A B C : Type} {o : Option A} {f : A → Option B} {g : B → Option C} {y : B} (h : Option.bind o f = some y) : Option.bind o (fun x => Option.bind (f x) g) = g y := by
  cases o with
  | none => cases h
  | some a => rw [Option.bind_some] at h ⊢; rw [h, Option.bind_some]
theorem RsQ_trans {s1 s2 : CS} {t1 t2 : TS} {j k : Nat} (h1 : RsQ own s t np sz mx zm am rl nr na P Z ZP A RW od B N j s1 t1) (h2 : ∀ own1, RsQ own1 s1 t1 np sz mx zm am rl nr na P Z ZP A RW od B N k s2 t2) : RsQ own s t np sz mx zm am rl nr na P Z ZP A RW od B N (j + k) s2 t2 := by
  obtain ⟨own1, ec1, g1, g2, g3, g4, g5, g6, g7, g8, g9⟩ := h1
  obtain ⟨own2, ec2, k1, k2, k3, k4, k5, k6, k7, k8, k9⟩ := h2 own1
  exact ⟨own2, ec2, k1, k2, Frm.trans g3 k3, fun c hc => by rw [k4 c hc, g4 c hc], fun Z h6 h7 h10 h9 => by rw [k5 Z h6 h7 h10 h9, g5 Z h6 h7 h10 h9], fun c hc hc2 => by rw [k6 c hc hc2, g6 c hc hc2], by omega, by omega, by rw [k9, g9]⟩
theorem wa_reset (hw : wfS s) (hs : 179 ≤ s.2.1) (k7 : K7 (rs s.1 own 11)) (r : R7 (rs s.1 own 7) t) (hS : SecH s own t N) : Ro thr1 (fun X => X = 6 ∨ X = 7 ∨ X = 10) (fun X => X = 6 ∨ X = 7 ∨ X = 10) (fun H t => R7 (H 7) t ∧ R6 (H 6) t N ∧ R10 (H 10) t) own s t 61 1524 (c_503 151 s) (t_627 t) := by
  obtain ⟨np, sz, mx, zm, am, rl, nr, na, ec, P, Z, ZP, A, RW, od, r⟩ := r
  have q := R7_raw r
  have q0 := q.1.1
  have hp : ∀ v, R7b (rs s.1 own 7) (ptI t 0 v) np sz mx zm am rl nr na ec P Z ZP A RW od (40 * bN (t.1 301)) := fun v => R7b_rt r (ptI_rt (by omega)) rfl
  have hSp : ∀ v, SecH s own (ptI t 0 v) N := fun v => ⟨R6_rt hS.1 (ptI_rt (by omega)) rfl, R10_rt hS.2.1 (ptI_rt (by omega)), hS.2.2.1, hS.2.2.2⟩
  unfold c_503 t_627
  rw [xI_o (x := t.1 1) q0 rfl rfl, Option.bind_some, may_eq, stays_eq t q.1.2.2.1, Option.bind_some]
  by_cases hb : t.1 1 = 0
  · rw [if_pos hb, if_pos hb, if_pos hb]
    exact Or.inr ⟨0, 12, 1, s, ptI t 0 1, own, ⟨rfl, rfl⟩, rfl, rfl, rfl, fun Z _ h9 => ptI_rt h9, Frm.refl hw, ⟨⟨_, _, _, _, _, _, _, _, _, _, _, _, _, _, _, hp 1⟩, (hSp 1).1, (hSp 1).2.1⟩, Nat.le_add_right _ _, Nat.le_add_right _ _⟩
  · rw [if_neg hb, if_neg hb, if_neg hb, Option.bind_some, Sum.elim_inl]
    obtain ⟨_, _, _, _, _, _, _, _, _, ⟨mo, w14⟩, na20, _, _⟩ := q.2.2.2.1
    have hrk := t_rank (hp 0).2.2.2.1 (k := 0) (by omega)
    rw [xN_o (b := 161) q0 rfl rfl, Option.bind_some, if_pos (isK_t w14 rfl), alMc_l w14, Option.bind_some, show t_793 0 (ptI t 0 0) = _ from hrk, Option.bind_some]
    have hwc : wfS (chg s 1 4) := hw
    have hb0 : ∃ n, n ≤ 6000 ∧ t.1 301 = Int32.ofNat n := q.1.2.1
    have hB : 40 * bN (t.1 301) < 900000 := by
      obtain ⟨n, z1, z2⟩ := hb0
      rw [z2, bN_of (by omega)]; omega
    generalize hBe : 40 * bN (t.1 301) = B at hp hB
    refine ex_el (wh_two (Q := fun x y => x.2 = y.2 ∧ RsQ own (chg s 1 4) (ptI t 0 0) np sz mx zm am rl nr na P Z ZP A RW od B N na x.1 y.1)
      na (fun k a b => a.2.2 = Int32.ofNat k ∧ b.2.2.1 = rkO na od k ∧ b.2.2.2 = Int32.ofNat (k + 1) ∧ a.2.1 = b.2.1 ∧ RsQ own (chg s 1 4) (ptI t 0 0) np sz mx zm am rl nr na P Z ZP A RW od B N k a.1 b.1)
      (f := fun p9 : CS × Int32 × Int32 => Option.bind (alHas p9.1 161 p9.2.2) (fun x6 => (if x6 = 0 then some (.inr (p9.1, p9.2.1)) else Option.bind (alNext p9.1 161 mo p9.2.2) (fun e7 => Option.bind (toN p9.1 [91] e7) (fun a8 => Option.bind (xI p9.1 [(91, 4)] a8) (fun x9 => Option.bind ((if x9 = 0 then some (p9.1, p9.2.1) else Option.bind (xR p9.1 [(91, 5)] a8) (fun r10 => (if r10 = some 33 then (if isK p9.1 [47] 151 = true then Option.bind (c_504 151 a8 0 p9.1) (fun x11 => (if x11 = 0 then (if isK p9.1 [91] a8 = true then Option.bind (c_1058 a8 p9.1) (fun x12 => (if isK x12 [47] 151 = true then Option.bind (c_510 151 a8 0 x12) (fun x13 => some (x13, p9.2.1 + 1)) else none)) else none) else some (p9.1, p9.2.1))) else none) else (if nst p9.1 (vR r10) = true then some (p9.1, p9.2.1) else none))))) (fun v35 => some (.inl (v35.1, v35.2, p9.2.2 + 1)))))))))
      (g := fun p16 : TS × Int32 × Int32 × Int32 => (if p16.2.2.1 < 0 then some (.inr (p16.1, p16.2.1)) else Option.bind (t_794 p16.2.2.1 p16.1) (fun x3 => Option.bind ((if x3.1 = 0 then some (x3.2, p16.2.1) else Option.bind (t_628 p16.2.2.1 0 x3.2) (fun x4 => some (x4, p16.2.1 + 1)))) (fun v28 => Option.bind (t_793 p16.2.2.2 v28.1) (fun x5 => some (.inl (v28.1, v28.2, x5, p16.2.2.2 + 1)))))))
      (a := (chg s 1 4, 0, 0)) (b := (ptI t 0 0, 0, rkO na od 0, 1)) ?_ ?_ ⟨rfl, rfl, rfl, rfl, RsQ_same hwc (hp 0) (hSp 0) 0⟩) ?_
    · rintro k ⟨s1, cn, a2⟩ ⟨T, cn', b2, b3⟩ hk ⟨e1, e2, e3, e4, own', ec', g1, g2, g3, g4, g5, g6, g7, g8, g9⟩
      dsimp only at e1 e2 e3 e4 g1 g2 g3 g4 g5 g6 g7 g8 g9
      subst e1 e2 e3 e4
      have q' := R7b_raw g1
      obtain ⟨_, _, _, _, _, _, _, _, _, _, _, w16, w17⟩ := q'.2.2.2.1
      obtain ⟨o1, o2, _⟩ := w16 k hk
      have hb1 : ¬ T.1 1 = 0 := by rw [g4 1 (by omega)]; exact hb
      have hA := (q'.2.2.2.2.1.1 _ o1 o2).1
      have hw1 : wfS s1 := g3.2.2.2.2
      have hs1 : 179 ≤ s1.2.1 := Nat.le_trans hs g3.1
      have h161 : s1.1 161 = _ := g9.trans w14
      obtain ⟨s', t', c', c1, c2, hR⟩ := wa_rst hw1 hs1 (by rw [frm_rs hwc g3 (by omega)]; exact k7) g1 hB g2 hb1 o1 o2 cn
      obtain ⟨own2, ec2, k1, k2, k3, k4, k5, k6, k7', k8, k9⟩ := hR
      have hrk2 := t_rank k1.2.2.2.1 (k := k + 1) (by omega)
      refine Or.inr ⟨(s', c', Int32.ofNat (k + 1)), (t', c', rkO na od (k + 1), Int32.ofNat (k + 1 + 1)), ?_, ?_, rfl, rfl, rfl, rfl, own2, ec2, k1, k2, Frm.trans g3 k3, fun c hc => by rw [k4 c hc, g4 c hc], fun Z h6 h7 h10 h9 => by rw [k5 Z h6 h7 h10 h9, g5 Z h6 h7 h10 h9], fun c hc hc2 => by rw [k6 c hc hc2, g6 c hc hc2], by dsimp only; omega, by dsimp only; omega, by rw [k9, g9]⟩
      · dsimp only
        rw [alHas_r h161 (by omega) (by omega), Option.bind_some, if_neg (show ¬ k = na by omega), if_neg (by decide), alNext_r h161 hk (by omega), Option.bind_some, toN_o hA rfl, Option.bind_some]
        rw [bind_out c1, i_suc]
      · dsimp only
        rw [show rkO na od k = Int32.ofNat (od k) from if_pos hk, if_neg (i_nlt0 (by omega)), bind_out c2]
        dsimp only
        rw [hrk2, Option.bind_some, i_suc]
    · rintro ⟨s1, cn, a2⟩ ⟨T, cn', b2, b3⟩ ⟨e1, e2, e3, e4, g⟩
      dsimp only at e1 e2 e3 e4 g
      subst e1 e2 e3 e4
      have g9 := g
      obtain ⟨_, _, _, _, _, _, _, _, _, _, g9⟩ := g9
      have h161 : s1.1 161 = _ := g9.trans w14
      refine ⟨(s1, cn), (T, cn), ?_, ?_, rfl, g⟩
      · dsimp only
        rw [alHas_r h161 (by omega) (by omega), Option.bind_some, if_pos rfl, if_pos rfl]
      · dsimp only
        rw [show rkO na od na = -1 from if_neg (by omega), if_pos (by decide)]
    · rintro ⟨s1, cn⟩ ⟨T, cn'⟩ ⟨h1, h2, h3, own', ec', g1, g2, g3, g4, g5, g6, g7, g8, g9⟩
      dsimp only at h3 g1 g2 g3 g4 g5 g6 g7 g8
      subst h3
      rw [h1, h2]
      refine Or.inl ⟨cn, s1, T, own', rfl, rfl, (g4 0 (by omega)).trans rfl, fun Z hZ h9 => ?_, Frm.trans (frm_chg hw) g3, ⟨⟨np, sz, mx, zm, am, rl, nr, na, ec', P, Z, ZP, A, RW, od, ?_⟩, g2.1, g2.2.1⟩, ?_, ?_⟩
      · rw [g5 Z (fun z => hZ (Or.inl z)) (fun z => hZ (Or.inr (Or.inl z))) (fun z => hZ (Or.inr (Or.inr z))) h9]; exact ptI_rt h9
      · show R7b _ _ _ _ _ _ _ _ _ _ _ _ _ _ _ _ _ (40 * bN (T.1 301))
        rw [g4 301 (by omega), show (ptI t 0 0).1 301 = t.1 301 from rfl, hBe]; exact g1
      · have : (chg s 1 4).2.2.1 = s.2.2.1 + 1 := rfl
        omega
      · have : (chg s 1 4).2.2.2 = s.2.2.2 + 4 := rfl
        omega
end
