/-! the warden: go -/
theorem sub_lt {x y z : Int32} (hx : -10000 ≤ x.toInt ∧ x.toInt ≤ 10000) (hy : -10000 ≤ y.toInt ∧ y.toInt ≤ 10000) (hz : -10000 ≤ z.toInt ∧ z.toInt ≤ 10000) : x - y < z ↔ x < y + z := by
  rw [Int32.lt_iff_toInt_lt, Int32.lt_iff_toInt_lt, Int32.toInt_sub, Int32.toInt_add]
  show (x.toInt - y.toInt).bmod (2 ^ 32) < z.toInt ↔ x.toInt < (y.toInt + z.toInt).bmod (2 ^ 32)
  rw [Int.bmod_eq_of_le (by omega) (by omega), Int.bmod_eq_of_le (by omega) (by omega)]
  omega
theorem bel_int {x : Int32} {n : Nat} (h : bel x n) (hn : n ≤ 10001) : -10000 ≤ x.toInt ∧ x.toInt ≤ 10000 := by
  obtain ⟨v, h1, rfl⟩ := h
  rw [i_toInt (by omega)]; omega
theorem resT_ne {t : TS} {a c j : Nat} (h : ¬ (117 ≤ c ∧ c ≤ 120 ∧ j = a)) : (resT t a).2.2.1 c j = t.2.2.1 c j := by
  rw [resT_at]
  by_cases y : j = a
  · rw [if_pos y, if_neg (by omega), if_neg (by omega), if_neg (by omega), if_neg (by omega)]
  · rw [if_neg y]
noncomputable def goD (a : Nat) (t : TS) : Option TS := Option.bind (t_804 (Int32.ofNat a) t) (fun y => if y.1 < 0 then some y.2 else t_628 (Int32.ofNat a) y.1 y.2)
/-- what goes on between the warden and the others -/
def SecH (s : CS) (own : Nat → Nat) (t : TS) (N : Nat) : Prop := R6 (rs s.1 own 6) t N ∧ R10 (rs s.1 own 10) t ∧ (∃ w fs, s.1 115 = some (w, false, 100, fs) ∧ fs[4]? = some (.ref 118)) ∧ own 115 = 5
theorem SecH_frm {own own' : Nat → Nat} {s s' : CS} {t T : TS} {N : Nat} (hw : wfS s) (h : SecH s own t N) (f : Frm (fun X => X = 7) own own' s s') (e6 : rt T 6 = rt t 6) (e10 : rt T 10 = rt t 10) (e1 : T.1 1 = t.1 1) : SecH s' own' T N := by
  obtain ⟨h1, h2, ⟨w, fs, h3, h4⟩, h5⟩ := h
  have hl := wf_lt hw h3
  refine ⟨by rw [frm_rs hw f (by omega)]; exact R6_rt h1 e6 e1, by rw [frm_rs hw f (by omega)]; exact R10_rt h2 e10, ⟨w, fs, ?_, h4⟩, by rw [f.2.1 115 hl]; exact h5⟩
  rw [f.2.2.1 115 hl (by rw [h5]; omega)]; exact h3
section
variable {own : Nat → Nat} {s : CS} {t : TS} {np sz mx zm am rl nr na ec a B N : Nat} {P Z ZP A RW od : Nat → Nat}
/-- an act's own change on both sides -/
theorem wa_actS (hw : wfS s) (r : R7b (rs s.1 own 7) t np sz mx zm am rl nr na ec P Z ZP A RW od B) (ha : a < 20) (hta : t.2.2.1 109 a = 1) {T : TS} {B' : Nat} (hn : ∀ c, c ≠ 0 → T.1 c = t.1 c) (hr : ∀ c j, ¬ (117 ≤ c ∧ c ≤ 120 ∧ j = a) → T.2.2.1 c j = t.2.2.1 c j) (ho : okAct T a) (hB : ec + dnC T (-1) ≤ B') : R7b (rs (cup s (A a) (actC T a)).1 own 7) T np sz mx zm am rl nr na ec P Z ZP A RW od B' ∧ Frm (fun X => X = 7) own own s (cup s (A a) (actC T a)) := by
  have h3 := rs_in (r.2.2.2.2.1.1 a ha hta).1
  refine ⟨?_, frm_cup hw (wf_lt hw h3.1) h3.2⟩
  show R7b (rs (lUpd s.1 _ _) own 7) T _ _ _ _ _ _ _ _ _ _ _ _ _ _ _ _
  rw [rs_upd h3.2]
  exact R7b_act r ha hta hn hr ho hB
theorem nst_st {s : CS} (k7 : K7 s.1) (x : Int32) : nst s (vR (some (stR x))) = true := by
  show nst s (.ref (stR x)) = true
  unfold nst stR
  by_cases y1 : x = 2
  · rw [if_pos y1]; simp only [k7.1]; rfl
  · rw [if_neg y1]
    by_cases y2 : x = 1
    · rw [if_pos y2]; simp only [k7.2.1]; rfl
    · rw [if_neg y2]; simp only [k7.2.2.1]; rfl
/-- the result of a step -/
def WGoQ (own : Nat → Nat) (s : CS) (t : TS) (np sz mx zm am rl nr na ec : Nat) (P Z ZP A RW od : Nat → Nat) (B N : Nat) (s' : CS) (t' : TS) : Prop := ∃ own' ec', R7b (rs s'.1 own' 7) t' np sz mx zm am rl nr na ec' P Z ZP A RW od (B + 2) ∧ SecH s' own' t' N ∧ Frm (fun X => X = 6 ∨ X = 7 ∨ X = 10) own own' s s' ∧ (∀ c, c ≠ 330 → t'.1 c = t.1 c) ∧ (∀ Z, Z ≠ 6 → Z ≠ 7 → Z ≠ 10 → Z ≠ 99 → rt t' Z = rt t Z) ∧ (∀ c, mR c = 7 → ¬ (117 ≤ c ∧ c ≤ 123) → t'.2.2.1 c = t.2.2.1 c) ∧ s'.2.2.1 ≤ s.2.2.1 + 3 ∧ s'.2.2.2 ≤ s.2.2.2 + 24
theorem WGoQ_same (hw : wfS s) (r : R7b (rs s.1 own 7) t np sz mx zm am rl nr na ec P Z ZP A RW od B) (hS : SecH s own t N) : WGoQ own s t np sz mx zm am rl nr na ec P Z ZP A RW od B N s t := by
  refine ⟨own, ec, ?_, hS, Frm.refl hw, fun _ _ => rfl, fun _ _ _ _ _ => rfl, fun _ _ _ => rfl, Nat.le_add_right _ _, Nat.le_add_right _ _⟩
  obtain ⟨r0, r1, r2, r3, r4, ⟨e1, e2, e3, e4, e5⟩⟩ := r
  exact ⟨r0, r1, r2, r3, r4, ⟨e1, e2, e3, e4, by omega⟩⟩
theorem frm_w {X Y : Nat → Prop} {own own' : Nat → Nat} {s s' : CS} (f : Frm X own own' s s') (h : ∀ z, X z → Y z) : Frm Y own own' s s' := ⟨f.1, f.2.1, fun b hb hx => f.2.2.1 b hb (fun z => hx (h _ z)), fun b h1 h2 => h _ (f.2.2.2.1 b h1 h2), f.2.2.2.2⟩
theorem WGoQ_act (hw : wfS s) (r : R7b (rs s.1 own 7) t np sz mx zm am rl nr na ec P Z ZP A RW od B) (hS : SecH s own t N) (ha : a < 20) (hta : t.2.2.1 109 a = 1) {T : TS} (hn : ∀ c, T.1 c = t.1 c) (h2 : T.2.1 = t.2.1) (h4 : T.2.2.2 = t.2.2.2) (hr : ∀ c j, ¬ (117 ≤ c ∧ c ≤ 120 ∧ j = a) → T.2.2.1 c j = t.2.2.1 c j) (ho : okAct T a) (hB : dnC T (-1) ≤ dnC t (-1) + 1) : WGoQ own s t np sz mx zm am rl nr na ec P Z ZP A RW od B N (cup s (A a) (actC T a)) T := by
  have e5 := r.2.2.2.2.2.2.2.2.2
  obtain ⟨q1, q2⟩ := wa_actS (B' := B + 2) hw r ha hta (fun c _ => hn c) hr ho (by omega)
  have hrt := fun Z h7 h9 => rt_act (Z := Z) (a := a) (fun c _ => hn c) h2 hr h4 h7 h9
  exact ⟨own, ec, q1, SecH_frm hw hS q2 (hrt 6 (by omega) (by omega)) (hrt 10 (by omega) (by omega)) (hn 1), frm_w q2 (fun z hz => by omega), fun c _ => hn c, fun Z _ h7 _ h9 => hrt Z h7 h9, fun c _ hc => funext (fun j => hr c j (by omega)), Nat.le_add_right _ _, Nat.le_add_right _ _⟩
theorem wa_go (hw : wfS s) (hs : 179 ≤ s.2.1) (k7 : K7 (rs s.1 own 11)) (r : R7b (rs s.1 own 7) t np sz mx zm am rl nr na ec P Z ZP A RW od B) (hB : B < 900000) (hS : SecH s own t N) (hb : ¬ t.1 1 = 0) (ha : a < 20) (hta : t.2.2.1 109 a = 1) : ∃ x s' t', c_516 151 (A a) s = some (x, s') ∧ goD a t = some t' ∧ WGoQ own s t np sz mx zm am rl nr na ec P Z ZP A RW od B N s' t' := by
  have q := R7b_raw r
  have q0 := q.1.1
  have hnp := q.2.1.2.2.1
  have k7' := k7_of k7
  obtain ⟨a1, a2, a3⟩ := q.2.2.2.2.1.1 a ha hta
  have hst := st_of a3
  have a3' := a3
  obtain ⟨o1, o2, o3, o4, ⟨st, hst1, hst2⟩, o6, o7, o8⟩ := a3'
  have cF := c_called q ha hta false
  have tF := t_called hnp q.2.2.2.1 ha false
  have k47 : isK s [47] 151 = true := isK_t q0 rfl
  have k91 : isK s [91] (A a) = true := isK_t a1 rfl
  unfold c_516 goD t_804
  rw [if_pos k47]
  rw [show (if false = true then (1 : Int32) else 0) = 0 from rfl] at cF tF
  rw [cF, tF, Option.bind_some, Option.bind_some]
  have hresB : ∀ b, b ≠ a → (resT t a).2.2.1 117 b = t.2.2.1 117 b := fun b hb => by rw [resT_at, if_neg hb]
  have hrow : ∀ c, ¬ (117 ≤ c ∧ c ≤ 120) → (resT t a).2.2.1 c = t.2.2.1 c := fun c hc => funext (fun j => resT_ne (by omega))
  have hres0 : ¬ (resT t a).2.2.1 117 a = 2 := by rw [resT_at]; simp
  cases hc : calB t a false nr with
  | false =>
    simp only [Bool.false_eq_true, if_false, if_true]
    rw [xR_o (b := stR (t.2.2.1 117 a)) a1 rfl rfl, Option.bind_some, xI_o (x := t.2.2.1 113 a) a1 rfl rfl, Option.bind_some, rdI_n ha (by omega), Option.bind_some, rdI_n (by omega) (by omega), Option.bind_some]
    by_cases y2 : t.2.2.1 117 a = 2
    · by_cases y3 : t.2.2.1 113 a = 0
      · obtain ⟨hS6, hS10, ⟨w5, fs, h115, hf4⟩, o115⟩ := hS
        obtain ⟨S, U, eS, eU, rU, fS, n2, u2, u4, u8⟩ := wa_ev hw r (by omega) hb ha hta (d := 0) (Or.inl rfl) h115 hf4 (by omega) hS6
        have hwS : wfS S := fS.2.2.2.2
        have hU110 : (resT U a).2.2.1 110 a = t.2.2.1 110 a := by rw [resT_ne (by omega), u4 110 (by omega)]
        have hrtU2 : ∀ Z, Z ≠ 7 → Z ≠ 99 → rt (resT U a) Z = rt t Z := fun Z h7 h9 => (rt_act (t := U) (T := resT U a) (a := a) (fun _ _ => rfl) rfl (fun c j hh => resT_ne hh) rfl h7 h9).trans (u8 Z h7)
        have hSS : SecH S own (resT U a) N := SecH_frm hw ⟨hS6, hS10, ⟨w5, fs, h115, hf4⟩, o115⟩ fS (hrtU2 6 (by omega) (by omega)) (hrtU2 10 (by omega) (by omega)) (u2 1 (by omega))
        obtain ⟨s12, U3, own', e1, e2, e3, e4, e5, e6, e7, e8, e9⟩ := bus_do (d := 0) hwS (by rw [n2]; exact hs) hSS.1 hSS.2.1 ha (Or.inl rfl)
        rw [hU110] at e1
        have hA12 := rU.2.2.2.2.1.1 a ha (by rw [u4 109 (by omega)]; exact hta)
        have hAS := rs_in hA12.1
        have lA := wf_lt hwS hAS.1
        have hA : s12.1 (A a) = some (actC U a) := by rw [e3.2.2.1 (A a) lA (by rw [hAS.2]; omega)]; exact hAS.1
        have hw12 : wfS s12 := e3.2.2.2.2
        have rU12 : R7b (rs s12.1 own' 7) U np sz mx zm am rl nr na (ec + 1) P Z ZP A RW od (ec + 1 + dnC t (-1)) := by rw [frm_rs hwS e3 (by omega)]; exact rU
        have hdn : dnC (resT U a) (-1) + 1 ≤ dnC t (-1) := by
          have h1 := dnC_drop (t := U) (T := resT U a) ha (by rw [u4 109 (by omega)]; exact hta) (by rw [u4 117 (by omega)]; exact y2) (fun b hb => resT_ne (fun z => hb z.2.2)) (by rw [resT_at]; simp) (funext (fun j => resT_ne (by omega))) (funext (fun j => resT_ne (by omega)))
          rw [dnC_cg (t := t) (T := U) (u4 109 (by omega)) (u4 110 (by omega)) (u4 117 (by omega))] at h1
          exact h1
        have hbd := r.2.2.2.2.2.2.2.2.2
        obtain ⟨g1, g2⟩ := wa_actS (T := resT U a) (B' := B + 2) hw12 rU12 ha (by rw [u4 109 (by omega)]; exact hta) (fun _ _ => rfl) (fun c j hh => resT_ne hh) (okAct_res hA12.2.2) (by omega)
        have hSec12 : SecH s12 own' U3 N := by
          refine ⟨e4, e5, ?_, ?_⟩
          · obtain ⟨w', fs', z1, z2⟩ := hSS.2.2.1
            refine ⟨w', fs', ?_, z2⟩
            rw [e3.2.2.1 115 (wf_lt hwS z1) (by rw [hSS.2.2.2]; omega)]; exact z1
          · obtain ⟨w', fs', z1, z2⟩ := hSS.2.2.1
            rw [e3.2.1 115 (wf_lt hwS z1)]; exact hSS.2.2.2
        have k47S : isK s12 [47] 151 = true := isK_t (rs_in rU12.1.1).1 rfl
        rw [if_pos (by rw [hst.1.mpr y2]), if_pos y3, Option.bind_some, if_neg (by decide), if_pos k47, eS, e1, Option.bind_some, Option.bind_some, if_neg (by decide), Option.bind_some, Sum.elim_inl, if_pos (isK_t hA rfl), c_res hA, Option.bind_some, if_pos (by decide), if_pos y2, Option.bind_some, if_neg (by decide), eU, Option.bind_some, Option.bind_some, if_neg (by decide), Option.bind_some, Sum.elim_inl, t_res ha, Option.bind_some, Option.bind_some, if_neg (by decide), Option.bind_some]
        refine ⟨_, _, U3, rfl, by dsimp only; rw [if_neg (by decide)]; exact e2, own', ec + 1, R7b_rt g1 (e7 7 (by omega) (by omega)) (by rw [e6]), SecH_frm hw12 hSec12 g2 rfl rfl rfl, Frm.trans (frm_w fS (fun z hz => by omega)) (Frm.trans (frm_w e3 (fun z hz => by omega)) (frm_w g2 (fun z hz => by omega))), fun c hc => by rw [e6]; exact u2 c hc, fun Z h6 h7 h10 h9 => by rw [e7 Z h6 h10, hrtU2 Z h7 h9], fun c hc1 hc2 => ?_, ?_, ?_⟩
        · rw [rt_row (e7 7 (by omega) (by omega)) hc1]
          funext j
          rw [resT_ne (by omega), u4 c (by omega)]
        · show s12.2.2.1 ≤ _; have : S.2.2.1 = s.2.2.1 := by rw [n2]
          omega
        · show s12.2.2.2 ≤ _; have : S.2.2.2 = s.2.2.2 := by rw [n2]
          omega
      · rw [if_pos (by rw [hst.1.mpr y2]), if_neg y3, Option.bind_some, if_pos rfl, Option.bind_some, if_pos rfl, if_pos y2, Option.bind_some, if_pos rfl, Option.bind_some, if_pos rfl, xR_o (b := stR (t.2.2.1 117 a)) a1 rfl rfl, Option.bind_some, rdI_n ha (by omega), Option.bind_some, if_neg (show ¬ some (stR (t.2.2.1 117 a)) = some 59 from fun z => by have := hst.2.1.mp (Option.some.inj z); rw [y2] at this; exact absurd this (by decide)), if_pos (nst_st k7' _), if_pos (by decide), Option.bind_some, Sum.elim_inr, if_neg (show ¬ t.2.2.1 117 a = 1 by rw [y2]; decide), Option.bind_some, Sum.elim_inr, Option.bind_some, if_pos rfl, Option.bind_some]
        exact ⟨_, _, _, rfl, if_pos (show (-1 : Int32) < 0 by decide), WGoQ_same hw r hS⟩
    · rw [if_neg (fun z => y2 (hst.1.mp (Option.some.inj z))), if_pos (nst_st k7' _), Option.bind_some, if_pos rfl, Option.bind_some, if_pos rfl, xR_o (b := stR (t.2.2.1 117 a)) a1 rfl rfl, Option.bind_some, if_neg y2, Option.bind_some, if_pos rfl, Option.bind_some, if_pos rfl, rdI_n ha (by omega), Option.bind_some]
      by_cases y1 : t.2.2.1 117 a = 1
      · rw [if_pos (by rw [hst.2.1.mpr y1]), Option.bind_some, Sum.elim_inl, if_pos k91, c_res a1, Option.bind_some, if_pos (by decide), if_pos y1, Option.bind_some, Sum.elim_inl, t_res ha, Option.bind_some, Option.bind_some, if_pos rfl, Option.bind_some]
        exact ⟨_, _, _, rfl, if_pos (show (-1 : Int32) < 0 by decide), WGoQ_act hw r hS ha hta (fun _ => rfl) rfl rfl (fun c j hh => resT_ne hh) (okAct_res a3) (Nat.le_trans (dnC_less hresB hres0 (hrow 109 (by omega)) (hrow 110 (by omega))) (by omega))⟩
      · rw [if_neg (fun z => y1 (hst.2.1.mp (Option.some.inj z))), if_pos (nst_st k7' _), if_pos (by decide), Option.bind_some, Sum.elim_inr, if_neg y1, Option.bind_some, Sum.elim_inr, Option.bind_some, if_pos rfl, Option.bind_some]
        exact ⟨_, _, _, rfl, if_pos (show (-1 : Int32) < 0 by decide), WGoQ_same hw r hS⟩
  | true =>
    simp only [if_true, show ¬ (1 : Int32) = 0 by decide, if_false]
    rw [xR_o (b := stR (t.2.2.1 117 a)) a1 rfl rfl, Option.bind_some, rdI_n ha (by omega), Option.bind_some]
    by_cases y2 : t.2.2.1 117 a = 2
    · rw [if_pos (by rw [hst.1.mpr y2]), Option.bind_some, if_pos y2, Option.bind_some]
      exact ⟨_, _, _, rfl, if_pos (show (-1 : Int32) < 0 by decide), WGoQ_same hw r hS⟩
    · rw [if_neg (fun z => y2 (hst.1.mp (Option.some.inj z))), if_pos (nst_st k7' _), Option.bind_some, if_neg y2, Option.bind_some]
      -- awaiting
      have hawait : ∃ s1 T1, (if some (stR (t.2.2.1 117 a)) = some 60 then Option.bind (α := Int32) (xI s [(47, 8)] 151) (fun x4 => (if isK s [91] (A a) = true then Option.bind (α := CS) (c_1059 (A a) x4 s) (fun x5 => some x5) else none)) else (if nst s (vR (some (stR (t.2.2.1 117 a)))) = true then some s else none)) = some s1 ∧ (if t.2.2.1 117 a = 0 then Option.bind (α := TS) (stI t 117 20 (Int32.ofNat a) 1) (fun s4 => Option.bind (α := TS) (stI s4 118 20 (Int32.ofNat a) (s4.1 301)) (fun s5 => some s5)) else some t) = some T1 ∧ R7b (rs s1.1 own 7) T1 np sz mx zm am rl nr na ec P Z ZP A RW od B ∧ Frm (fun X => X = 7) own own s s1 ∧ s1.2 = s.2 ∧ T1.1 = t.1 ∧ T1.2.1 = t.2.1 ∧ T1.2.2.2 = t.2.2.2 ∧ (∀ c j, ¬ (117 ≤ c ∧ c ≤ 118 ∧ j = a) → T1.2.2.1 c j = t.2.2.1 c j) ∧ T1.2.2.1 117 a = 1 := by
        by_cases y0 : t.2.2.1 117 a = 0
        · have hT : ∀ c j, ¬ (117 ≤ c ∧ c ≤ 118 ∧ j = a) → (wrI (wrI t 117 a 1) 118 a (t.1 301)).2.2.1 c j = t.2.2.1 c j := fun c j hh => by rw [wr_at, if_neg (by omega), wr_at, if_neg (by omega)]
          have hcell : c_1059 (A a) (t.1 301) s = some (cup s (A a) (actC (wrI (wrI t 117 a 1) 118 a (t.1 301)) a)) := by
            unfold c_1059
            rw [xP_c (fs' := [.int (Int32.ofNat a), .int (t.2.2.1 110 a), .int (t.2.2.1 111 a), .int (t.2.2.1 112 a), .int (t.2.2.1 113 a), .ref 59, .int (t.2.2.1 118 a), .int (t.2.2.1 119 a), .int (t.2.2.1 120 a)]) a1 rfl (by simp [actC]) rfl, Option.bind_some, xP_c (fs' := [.int (Int32.ofNat a), .int (t.2.2.1 110 a), .int (t.2.2.1 111 a), .int (t.2.2.1 112 a), .int (t.2.2.1 113 a), .ref 59, .int (t.1 301), .int (t.2.2.1 119 a), .int (t.2.2.1 120 a)]) (cup_eq ..) rfl (by simp) rfl, Option.bind_some, cupU]
            unfold actC
            simp [wr_at, stR]
          have hok : okAct (wrI (wrI t 117 a 1) 118 a (t.1 301)) a := by
            refine ⟨by rw [hT 110 a (by omega)]; exact o1, by rw [hT 111 a (by omega)]; exact o2, by rw [hT 112 a (by omega)]; exact o3, by rw [hT 113 a (by omega)]; exact o4, ⟨1, by omega, by rw [wr_ne (by omega), wr_at, if_pos ⟨rfl, rfl⟩]; rfl⟩, ?_, by rw [hT 119 a (by omega)]; exact o7, by rw [hT 120 a (by omega)]; exact o8⟩
            rw [wr_at, if_pos ⟨rfl, rfl⟩]
            obtain ⟨n, n1, n2⟩ := q.1.2.1
            exact Or.inr ⟨n, by omega, n2⟩
          have hbd := r.2.2.2.2.2.2.2.2.2
          obtain ⟨g1, g2⟩ := wa_actS (T := wrI (wrI t 117 a 1) 118 a (t.1 301)) (B' := B) hw r ha hta (fun _ _ => rfl) (fun c j hh => hT c j (by omega)) hok (by
            have := dnC_less (t := t) (T := wrI (wrI t 117 a 1) 118 a (t.1 301)) (a := a) (fun b hb => hT 117 b (fun z => hb z.2.2)) (by rw [wr_ne (by omega), wr_at, if_pos ⟨rfl, rfl⟩]; decide) (funext (fun j => hT 109 j (by omega))) (funext (fun j => hT 110 j (by omega)))
            omega)
          refine ⟨_, _, ?_, ?_, g1, g2, rfl, rfl, rfl, rfl, hT, by rw [wr_ne (by omega), wr_at, if_pos ⟨rfl, rfl⟩]⟩
          · rw [if_pos (by rw [hst.2.2.mpr y0]), xI_o (x := t.1 301) q0 rfl rfl, Option.bind_some, if_pos k91, hcell]; rfl
          · rw [if_pos y0, stI_n ha (by omega), Option.bind_some, stI_n ha (by omega)]; rfl
        · have y1 : t.2.2.1 117 a = 1 := by
            rw [hst2] at y0 y2 ⊢
            have : st = 0 ∨ st = 1 ∨ st = 2 := by omega
            rcases this with rfl | rfl | rfl
            · exact absurd rfl y0
            · rfl
            · exact absurd rfl y2
          exact ⟨s, t, by rw [if_neg (fun z => y0 (hst.2.2.mp (Option.some.inj z))), if_pos (nst_st k7' _)], by rw [if_neg y0], r, Frm.refl hw, rfl, rfl, rfl, rfl, fun _ _ _ => rfl, y1⟩
      obtain ⟨s1, T1, es1, eT1, r1, f1, n1, t1, t2, t4, t3, tw⟩ := hawait
      rw [es1, eT1, Option.bind_some, Option.bind_some]
      have hw1 : wfS s1 := f1.2.2.2.2
      have q1 := R7b_raw r1
      have hta1 : T1.2.2.1 109 a = 1 := by rw [t3 109 a (by omega)]; exact hta
      obtain ⟨b1, b2, b3⟩ := q1.2.2.2.2.1.1 a ha hta1
      have b3' := b3
      obtain ⟨p1, p2, p3, p4, p5, p6, p7, p8⟩ := b3'
      have cT := c_called q1 ha hta1 true
      have tT := t_called q1.2.1.2.2.1 q1.2.2.2.1 ha true
      rw [show (if true = true then (1 : Int32) else 0) = 1 from rfl] at cT tT
      have k47b : isK s1 [47] 151 = true := isK_t q1.1.1 rfl
      have hlt : (T1.1 301 - T1.2.2.1 118 a < T1.2.2.1 112 a) ↔ (T1.1 301 < T1.2.2.1 118 a + T1.2.2.1 112 a) := by
        refine sub_lt ?_ ?_ (bel_int p3 (by omega))
        · obtain ⟨n, z1, z2⟩ := q1.1.2.1
          rw [z2, i_toInt (by omega)]; omega
        · rcases p6 with z | z
          · rw [z]; decide
          · exact bel_int z (by omega)
      rw [xI_o (x := T1.1 301) q1.1.1 rfl rfl, Option.bind_some, xI_o (x := T1.2.2.1 118 a) b1 rfl rfl, Option.bind_some, xI_o (x := T1.2.2.1 112 a) b1 rfl rfl, Option.bind_some, xI_o (x := T1.2.2.1 120 a) b1 rfl rfl, Option.bind_some, if_pos k47b, cT, Option.bind_some, rdI_n ha (by omega), Option.bind_some, rdI_n (by omega) (by omega), Option.bind_some, rdI_n ha (by omega), Option.bind_some, tT, Option.bind_some]
      have hrt1 : ∀ Z, Z ≠ 7 → Z ≠ 99 → rt T1 Z = rt t Z := fun Z h7 h9 => rt_act (a := a) (fun c _ => by rw [t1]) t2 (fun c j hh => t3 c j (by omega)) t4 h7 h9
      have hSec1 : SecH s1 own T1 N := SecH_frm hw hS f1 (hrt1 6 (by omega) (by omega)) (hrt1 10 (by omega) (by omega)) (by rw [t1])
      generalize hhap : (!decide (T1.1 301 < T1.2.2.1 118 a + T1.2.2.1 112 a) || !decide (T1.2.2.1 120 a = 0) || calB T1 a true nr) = hap
      have e67 : (if T1.1 301 - T1.2.2.1 118 a < T1.2.2.1 112 a then (if T1.2.2.1 120 a = 0 then (if (if calB T1 a true nr = true then (1 : Int32) else 0) = 0 then some (0 : Int32) else some 1) else some 1) else some 1) = some (if hap = true then 1 else 0) := by
        rw [← hhap]
        by_cases z1 : T1.1 301 < T1.2.2.1 118 a + T1.2.2.1 112 a
        · rw [if_pos (hlt.mpr z1)]
          by_cases z2 : T1.2.2.1 120 a = 0
          · cases calB T1 a true nr <;> simp [z1, z2]
          · simp [z1, z2]
        · rw [if_neg (fun z => z1 (hlt.mp z))]; simp [z1]
      have e91 : (if T1.1 301 < T1.2.2.1 118 a + T1.2.2.1 112 a then (if T1.2.2.1 120 a = 0 then (if (if calB T1 a true nr = true then (1 : Int32) else 0) = 0 then some (Sum.inr (α := Unit) ((-1 : Int32), T1)) else some (.inl ())) else some (.inl ())) else some (.inl ())) = some (if hap = true then .inl () else .inr (-1, T1)) := by
        rw [← hhap]
        by_cases z1 : T1.1 301 < T1.2.2.1 118 a + T1.2.2.1 112 a
        · rw [if_pos z1]
          by_cases z2 : T1.2.2.1 120 a = 0
          · cases calB T1 a true nr <;> simp [z1, z2]
          · simp [z1, z2]
        · rw [if_neg z1]; simp [z1]
      rw [e67, e91, Option.bind_some, Option.bind_some]
      cases hap with
      | false =>
        simp only [Bool.false_eq_true, if_false, if_true, Sum.elim_inr]
        refine ⟨_, s1, T1, by rw [if_pos (by decide)], by rw [Option.bind_some]; exact if_pos (show (-1 : Int32) < 0 by decide), own, ec, ?_, hSec1, frm_w f1 (fun z hz => by omega), fun c _ => by rw [t1], fun Z _ h7 _ h9 => hrt1 Z h7 h9, fun c _ hc => funext (fun j => t3 c j (by omega)), by rw [n1]; exact Nat.le_add_right _ _, by rw [n1]; exact Nat.le_add_right _ _⟩
        obtain ⟨r0', r1', r2', r3', r4', ⟨e1, e2, e3, e4, e5⟩⟩ := r1
        exact ⟨r0', r1', r2', r3', r4', ⟨e1, e2, e3, e4, by omega⟩⟩
      | true =>
        simp only [if_true, show ¬ (1 : Int32) = 0 by decide, if_false, Sum.elim_inl]
        -- it happens
        have hT2 : ∀ c j, ¬ (117 ≤ c ∧ c ≤ 120 ∧ j = a) → (wrI (resT T1 a) 117 a 2).2.2.1 c j = T1.2.2.1 c j := fun c j hh => by rw [wr_at, if_neg (by omega), resT_ne hh]
        have hcell : c_1060 (A a) s1 = some (cup s1 (A a) (actC (wrI (resT T1 a) 117 a 2) a)) := by
          have hac : (cup s1 (A a) (actC (resT T1 a) a)).1 (A a) = some (true, false, 91, [.int (Int32.ofNat a), .int (T1.2.2.1 110 a), .int (T1.2.2.1 111 a), .int (T1.2.2.1 112 a), .int (T1.2.2.1 113 a), .ref 60, .int (-1), .int 0, .int 0]) := by
            rw [cup_eq]; unfold actC; simp [resT_at, stR]
          unfold c_1060
          rw [if_pos (isK_t b1 rfl), c_res b1, Option.bind_some, xP_c (fs' := [.int (Int32.ofNat a), .int (T1.2.2.1 110 a), .int (T1.2.2.1 111 a), .int (T1.2.2.1 112 a), .int (T1.2.2.1 113 a), .ref 33, .int (-1), .int 0, .int 0]) (k := 5) hac rfl (by simp) rfl, Option.bind_some, cupU]
          unfold actC
          simp [wr_at, resT_at, stR]
        have hok2 : okAct (wrI (resT T1 a) 117 a 2) a := by
          obtain ⟨z1, z2, z3, z4, z5, z6, z7, z8⟩ := okAct_res b3
          exact ⟨by rw [wr_ne (by omega)]; exact z1, by rw [wr_ne (by omega)]; exact z2, by rw [wr_ne (by omega)]; exact z3, by rw [wr_ne (by omega)]; exact z4, ⟨2, by omega, by rw [wr_at, if_pos ⟨rfl, rfl⟩]; rfl⟩, by rw [wr_ne (by omega)]; exact z6, by rw [wr_ne (by omega)]; exact z7, by rw [wr_ne (by omega)]; exact z8⟩
        have hbd := r1.2.2.2.2.2.2.2.2.2
        have hdn2 : dnC (wrI (resT T1 a) 117 a 2) (-1) ≤ dnC T1 (-1) + 1 := dnC_one (a := a) (fun b hb => hT2 117 b (fun z => hb z.2.2)) (funext (fun j => hT2 109 j (by omega))) (funext (fun j => hT2 110 j (by omega)))
        obtain ⟨g1, g2⟩ := wa_actS (T := wrI (resT T1 a) 117 a 2) (B' := B + 1) hw1 r1 ha hta1 (fun _ _ => rfl) hT2 hok2 (by omega)
        have hrt2 : ∀ Z, Z ≠ 7 → Z ≠ 99 → rt (wrI (resT T1 a) 117 a 2) Z = rt t Z := fun Z h7 h9 => (rt_act (t := T1) (T := wrI (resT T1 a) 117 a 2) (a := a) (fun _ _ => rfl) rfl hT2 rfl h7 h9).trans (hrt1 Z h7 h9)
        generalize hs2 : cup s1 (A a) (actC (wrI (resT T1 a) 117 a 2) a) = s2 at hcell g1 g2
        generalize hT2e : wrI (resT T1 a) 117 a 2 = T2 at hT2 g1 hrt2 hdn2
        have n2 : s2.2 = s1.2 := by rw [← hs2]; rfl
        have hT21 : T2.1 = t.1 := by rw [← hT2e]; exact t1
        have hw2 : wfS s2 := g2.2.2.2.2
        have hSec2 : SecH s2 own T2 N := SecH_frm hw1 hSec1 g2 (by rw [hrt2 6 (by omega) (by omega), hrt1 6 (by omega) (by omega)]) (by rw [hrt2 10 (by omega) (by omega), hrt1 10 (by omega) (by omega)]) (by rw [hT21, t1])
        have hta2 : T2.2.2.1 109 a = 1 := by rw [hT2 109 a (by omega)]; exact hta1
        obtain ⟨hS6, hS10, ⟨w5, fs, h115, hf4⟩, o115⟩ := hSec2
        obtain ⟨S, U, eS, eU, rU, fS, n3, u2, u4, u8⟩ := wa_ev hw2 g1 (by omega) (by rw [hT21]; exact hb) ha hta2 (d := 1) (Or.inr rfl) h115 hf4 (by omega) hS6
        have hwS : wfS S := fS.2.2.2.2
        have hSS : SecH S own U N := SecH_frm hw2 ⟨hS6, hS10, ⟨w5, fs, h115, hf4⟩, o115⟩ fS (u8 6 (by omega)) (u8 10 (by omega)) (u2 1 (by omega))
        obtain ⟨s12, U3, own', e1, e2, e3, e4, e5, e6, e7, e8, e9⟩ := bus_do (d := 1) hwS (by rw [n3, n2, n1]; exact hs) hSS.1 hSS.2.1 ha (Or.inr rfl)
        rw [u4 110 (by omega)] at e1
        have hw12 : wfS s12 := e3.2.2.2.2
        have k47c : isK s2 [47] 151 = true := isK_t (rs_in g1.1.1).1 rfl
        have eT2 : stI (resT T1 a) 117 20 (Int32.ofNat a) 2 = some T2 := by rw [stI_n ha (by omega), hT2e]
        rw [if_pos (isK_t b1 rfl), hcell, Option.bind_some, if_pos k47c, eS, e1, Option.bind_some, if_pos (by decide), t_res ha, Option.bind_some, eT2, Option.bind_some, eU, Option.bind_some, Option.bind_some]
        refine ⟨_, _, U3, rfl, by dsimp only; rw [if_neg (by decide)]; exact e2, own', ec + 1, ?_, ⟨e4, e5, ?_, ?_⟩, Frm.trans (frm_w f1 (fun z hz => by omega)) (Frm.trans (frm_w g2 (fun z hz => by omega)) (Frm.trans (frm_w fS (fun z hz => by omega)) (frm_w e3 (fun z hz => by omega)))), fun c hc => by rw [e6, u2 c hc, hT21], fun Z h6 h7 h10 h9 => by rw [e7 Z h6 h10, u8 Z h7, hrt2 Z h7 h9], fun c hc1 hc2 => ?_, ?_, ?_⟩
        · have rU12 : R7b (rs s12.1 own' 7) U np sz mx zm am rl nr na (ec + 1) P Z ZP A RW od (ec + 1 + dnC T2 (-1)) := by rw [frm_rs hwS e3 (by omega)]; exact rU
          have rU13 := R7b_rt rU12 (e7 7 (by omega) (by omega)) (by rw [e6])
          obtain ⟨x0, x1, x2, x3, x4, ⟨y1, y2, y3, y4, y5⟩⟩ := rU13
          exact ⟨x0, x1, x2, x3, x4, ⟨y1, y2, y3, y4, by omega⟩⟩
        · obtain ⟨w', fs', z1, z2⟩ := hSS.2.2.1
          refine ⟨w', fs', ?_, z2⟩
          rw [e3.2.2.1 115 (wf_lt hwS z1) (by rw [hSS.2.2.2]; omega)]; exact z1
        · obtain ⟨w', fs', z1, z2⟩ := hSS.2.2.1
          rw [e3.2.1 115 (wf_lt hwS z1)]; exact hSS.2.2.2
        · rw [rt_row (e7 7 (by omega) (by omega)) hc1, u4 c (by omega)]
          funext j
          rw [hT2 c j (by omega), t3 c j (by omega)]
        · have : S.2.2.1 = s.2.2.1 := by rw [n3, n2, n1]
          omega
        · have : S.2.2.2 = s.2.2.2 := by rw [n3, n2, n1]
          omega
end
