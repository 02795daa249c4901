/-! the house: ask, both -/
section
variable {α : Type} {s s' : CS} {own own' : Nat → Nat} {t T : TS} {K N N' : Nat} {zn nr nS nT nC nR nP nL a : Nat} {rel rel' : Int32} {S C CS' CM CT E RS RM' RT P G D L F : Nat → Nat} {RW : Nat → Nat → Nat}
/-- whether all doors are released is told anew -/
theorem R4x_rel {h : lHeap} (r : R4x h t K zn nr nS nT nC nR nP nL a rel S C CS' CM CT E RS RM' RT P G D L F RW) (hv : v01 rel') : R4x (lUpd h 108 (true, false, 89, [.ref 101, .int (if t.1 1 = 0 then -1 else t.1 9), .ref zn, .ref 110, .ref 111, .ref 112, .ref 113, .ref 114, .int (t.1 49), .int (t.1 45), .int rel'])) t K zn nr nS nT nC nR nP nL a rel' S C CS' CM CT E RS RM' RT P G D L F RW := by
  obtain ⟨⟨v1, v2, v3, v4, v5, v6⟩, a1, a2, a3, a4, a5, a6, a10, a11, a12⟩ := r
  have hh : ∀ (Q : Nat → lCell → Prop), (∀ c, Q 108 c → c.2.2.1 ≠ 89) → hS h (lUpd h 108 (true, false, 89, [.ref 101, .int (if t.1 1 = 0 then -1 else t.1 9), .ref zn, .ref 110, .ref 111, .ref 112, .ref 113, .ref 114, .int (t.1 49), .int (t.1 45), .int rel'])) Q := by
    intro Q hQ q c hq e
    by_cases z : q = 108
    · subst z
      rw [v1] at e
      cases e
      exact absurd rfl (hQ _ hq)
    · rw [lUpd_at, if_neg z]; exact e
  have ee : ∀ l, eqR t t l := fun l c _ => rfl
  refine ⟨⟨by rw [lUpd_at, if_pos rfl], v2, hv, v4, v5, fun z => ?_⟩, V1_cg a1 (hh _ (fun c z => by rcases z with z | z <;> omega)) rfl rfl (ee _), a2, V2c_cg a3 (hh _ (fun c z => by rcases z with z | z | z | z <;> omega)) rfl (ee _), V2r_cg a4 (hh _ (fun c z => by rcases z with z | z | z | z <;> omega)) rfl (ee _), a5, V3_cg a6 (hh _ (fun c z => by rcases z with z | z | z | z | z | z <;> omega)) rfl rfl rfl (ee _), V4_cg a10 (hh _ (fun c z => by rcases z with z | z <;> omega)) rfl (ee _), a11, a12⟩
  obtain ⟨x1, f, x2, x3⟩ := v6 z
  exact ⟨x1, f, by rw [lUpd_at, if_neg (by omega)]; exact x2, x3⟩
theorem Rg.pre {E : Nat → Int32 → Prop} {X : Nat → Prop} {Y : Nat} {RX : (Nat → lHeap) → TS → Prop} {n m : Nat} {c : Option (Sum (α × CS) (Nat × CS))} {d : Option (α × TS)} (hF : Frm X own own s s') (h2 : s'.2.2 = s.2.2) (h : Rg E X Y RX own s' t n m c d) : Rg E X Y RX own s t n m c d := by
  rcases h with ⟨x, s1, t1, own1, a1, a2, a3, a4, a5, a6, a7, a8⟩ | ⟨x, kd, cd, s1, own1, a1, a2, a3, a4, a5, a6, a7⟩
  · rw [h2] at a7 a8
    exact Or.inl ⟨x, s1, t1, own1, a1, a2, a3, a4, hF.trans a5, a6, a7, a8⟩
  · rw [h2] at a6 a7
    exact Or.inr ⟨x, kd, cd, s1, own1, a1, a2, a3, hF.trans a4, a5, a6, a7⟩
/-- how many of a kind are done depends on the warden's part alone -/
theorem RH.done (r : RH s own t K N) {v : Int32} (hv : v = -1 ∨ ¬ v < 0) : c_485 151 v s = some (Int32.ofNat (dnC t v)) ∧ ∀ T, rt T 7 = rt t 7 → T.1 1 = t.1 1 → t_763 v T = some (Int32.ofNat (dnC t v)) := by
  obtain ⟨np, sz, mx, zm, am, rl, nr, na, ec, P, Z, ZP, A, RW, od, q⟩ := r.r7
  refine ⟨c_done (k7_of r.k7) (R7_raw q) hv, fun T e e1 => ?_⟩
  have q' : R7x (rs s.1 own 7) T np sz mx zm am rl nr na ec P Z ZP A RW od := by
    unfold R7x; rw [rt_num (c := 301) e rfl]; exact R7b_rt q e e1
  rw [t_done q' v]
  unfold dnC dnB
  rw [rt_row (c := 109) e rfl, rt_row (c := 110) e rfl, rt_row (c := 117) e rfl]
def rlzV (t : TS) : Int32 := if (0 : Int32) < Int32.ofNat (dnC t 0) then 1 else 0
theorem RH.rls (r : RH s own t K N) (q : R4x (rs s.1 own 4) t K zn nr nS nT nC nR nP nL a rel S C CS' CM CT E RS RM' RT P G D L F RW) : ∃ s5, s5 = cup s 108 (true, false, 89, [.ref 101, .int (if t.1 1 = 0 then -1 else t.1 9), .ref zn, .ref 110, .ref 111, .ref 112, .ref 113, .ref 114, .int (t.1 49), .int (t.1 45), .int (rlzV t)]) ∧ Frm (fun X => X = 4) own own s s5 ∧ R4x (rs s5.1 own 4) t K zn nr nS nT nC nR nP nL a (rlzV t) S C CS' CM CT E RS RM' RT P G D L F RW ∧ isK s5 [89] 108 = true ∧ xN s5 [(45, 3)] 100 = some 108 ∧ s5.1 101 = some (true, false, 56, [.int (t.1 2)]) ∧ xP s [(89, 10)] 108 (.int (rlzV t)) = some s5 ∧ (∀ T, rt T 7 = rt t 7 → T.1 1 = t.1 1 → t_608 T = some (rlzV t)) := by
  have h108 := rs_in q.1.1
  have hv : v01 (rlzV t) := by
    unfold rlzV
    split
    · exact Or.inr rfl
    · exact Or.inl rfl
  refine ⟨_, rfl, frm_cup r.wf (wf_lt r.wf h108.1) h108.2, ?_, ?_, ?_, ?_, ?_, fun T e e1 => ?_⟩
  · show R4x (rs (lUpd s.1 108 _) own 4) t K zn nr nS nT nC nR nP nL a (rlzV t) S C CS' CM CT E RS RM' RT P G D L F RW
    rw [rs_upd h108.2]
    exact R4x_rel q hv
  · exact isK_t (cup_eq ..) rfl
  · exact xN_o ((cup_ne (by omega)).trans r.c100) rfl rfl
  · exact (cup_ne (by omega)).trans r.c101.1
  · exact xP_c h108.1 rfl (by simp) rfl
  · unfold t_608
    rw [(r.done (v := 0) (Or.inr (by decide))).2 T e e1, Option.bind_some]
    unfold rlzV
    split <;> rfl
theorem hs_ask (r : RH s own t K N) (hK : K < 1000) (v1 v2 v3 : Int32) : Hr thr0 own s t K N 20 113 (c_425 100 v1 v2 v3 s) (t_605 v1 v2 v3 t) := by
  obtain ⟨nw, h2, hnw, _⟩ := r.nn.nw
  obtain ⟨zn, nr, nS, nT, nC, nR, nP, nL, a, rel, S, C, CS', CM, CT, E, RS, RM', RT, P, G, D, L, F, RW, q⟩ := r.r4
  obtain ⟨s5, e5, f5, q5, k5, x5, c5, p5, hrel⟩ := r.rls q
  have h := Rg.pre f5 (by rw [e5]; rfl) (ga_ask f5.2.2.2.2 (by rw [e5]; exact r.hs) hK q5 hnw c5 h2 hrel v1 v2 v3)
  have hb : (if (0 : Int32) < Int32.ofNat (dnC t 0) then some (1 : Int32) else some 0) = some (rlzV t) := by unfold rlzV; split <;> rfl
  unfold c_425
  rw [show xR s [(45, 3)] 100 = some (some 108) from xR_o r.c100 rfl rfl, Option.bind_some, r.m7.1, Option.bind_some, if_pos r.m7.2, (r.done (v := 0) (Or.inr (by decide))).1, Option.bind_some, hb, Option.bind_some, Option.bind_some, if_pos (fits_01 q5.1.2.2.1), p5, Option.bind_some, x5, Option.bind_some, if_pos k5, bindId]
  exact h.hs r (by omega) RY4 (kp_605 KpN.rf) (fun _ z => gz_605 z) (by decide) (by decide)
theorem hs_both (r : RH s own t K N) (hK : K < 1000) (v1 v2 v3 v4 : Int32) : Hr thr0 own s t K N 39 220 (c_426 100 v1 v2 v3 v4 s) (t_614 v1 v2 v3 v4 t) := by
  obtain ⟨nw, h2, hnw, _⟩ := r.nn.nw
  obtain ⟨zn, nr, nS, nT, nC, nR, nP, nL, a, rel, S, C, CS', CM, CT, E, RS, RM', RT, P, G, D, L, F, RW, q⟩ := r.r4
  obtain ⟨s5, e5, f5, q5, k5, x5, c5, p5, hrel⟩ := r.rls q
  have h := Rg.pre f5 (by rw [e5]; rfl) (ga_both f5.2.2.2.2 (by rw [e5]; exact r.hs) hK q5 hnw c5 (by rw [r.c101.2]; decide) h2 hrel v1 v2 v3 v4)
  have hb : (if (0 : Int32) < Int32.ofNat (dnC t 0) then some (1 : Int32) else some 0) = some (rlzV t) := by unfold rlzV; split <;> rfl
  unfold c_426
  rw [show xR s [(45, 3)] 100 = some (some 108) from xR_o r.c100 rfl rfl, Option.bind_some, r.m7.1, Option.bind_some, if_pos r.m7.2, (r.done (v := 0) (Or.inr (by decide))).1, Option.bind_some, hb, Option.bind_some, Option.bind_some, if_pos (fits_01 q5.1.2.2.1), p5, Option.bind_some, x5, Option.bind_some, if_pos k5, bindId]
  exact h.hs r (by omega) RY4 (kp_614 KpN.rf) (fun _ z => gz_614 z) (by decide) (by decide)
end
