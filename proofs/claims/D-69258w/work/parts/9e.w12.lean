/-! the warden: what an event does -/
theorem rt_row {t T : TS} {Z c : Nat} (h : rt T Z = rt t Z) (hc : mR c = Z) : T.2.2.1 c = t.2.2.1 c := by
  funext j
  rw [← rt_3 (t := T) hc, ← rt_3 (t := t) hc, h]
theorem R10_rt {h : lHeap} {t T : TS} (r : R10 h t) (e : rt T 10 = rt t 10) : R10 h T := by
  unfold R10 at r ⊢
  rw [rt_row (c := 136) e rfl]; exact r
theorem R6_rt {h : lHeap} {t T : TS} {N : Nat} (r : R6 h t N) (e : rt T 6 = rt t 6) (e1 : T.1 1 = t.1 1) : R6 h T N := R6_cg r (fun c j hc => by rw [rt_row e hc]) (fun c h0 hc => by
  rcases hc with hc | rfl
  · rw [← rt_1 (t := T) hc, ← rt_1 (t := t) hc, e]
  · exact e1)
/-- what an event does elsewhere -/
theorem bus_do {own : Nat → Nat} {s : CS} {t : TS} {N a : Nat} {d : Int32} (hw : wfS s) (hs : 179 ≤ s.2.1) (r6 : R6 (rs s.1 own 6) t N) (r10 : R10 (rs s.1 own 10) t) (ha : a < 20) (hd : v01 d) :
    ∃ s' t' own', (if t.2.2.1 110 a = 2 then c_1133 120 (Int32.ofNat a) d s else if t.2.2.1 110 a = 3 then aPut s 0 118 (Int32.ofNat (4 + a % 6)) (.int d) else some s) = some s' ∧ t_628 (Int32.ofNat a) d t = some t' ∧ Frm (fun X => X = 6 ∨ X = 10) own own' s s' ∧ R6 (rs s'.1 own' 6) t' N ∧ R10 (rs s'.1 own' 10) t' ∧ t'.1 = t.1 ∧ (∀ Z, Z ≠ 6 → Z ≠ 10 → rt t' Z = rt t Z) ∧ s'.2.2.1 ≤ s.2.2.1 + 3 ∧ s'.2.2.2 ≤ s.2.2.2 + 24 := by
  obtain ⟨dn, hdn, rfl⟩ : ∃ dn, dn < 2 ∧ d = Int32.ofNat dn := by
    rcases hd with rfl | rfl
    · exact ⟨0, by omega, rfl⟩
    · exact ⟨1, by omega, rfl⟩
  unfold t_628
  rw [rdI_n (by omega) (by omega), Option.bind_some]
  by_cases y2 : t.2.2.1 110 a = 2
  · obtain ⟨s', t', own', e1, e2, e3, e4, e5, e6, e7, e8⟩ := bus_call (g := a) (b := dn) hw hs r6 (by omega) (by omega)
    have e110 : t'.2.2.1 110 = t.2.2.1 110 := rt_row (e8 7 (by omega)) rfl
    refine ⟨s', t', own', by rw [if_pos y2]; exact e1, ?_, ?_, e3, ?_, e7, fun Z h6 _ => e8 Z h6, e5, e6⟩
    · rw [if_pos y2, show (7 : Int32) = Int32.ofNat 7 from rfl, rdI_n (by omega) (by omega), Option.bind_some]
      have e2' : (if t.2.2.1 146 7 < 6 then Option.bind (α := Int32 × TS) (t_825 (Int32.ofNat 7) 0 (Int32.ofNat a) 1 2 (Int32.ofNat dn) t) (fun x3 => some x3.2) else some t) = some t' := e2
      rw [e2', Option.bind_some, rdI_n (by omega) (by omega), e110, y2, Option.bind_some, if_neg (by decide)]
    · obtain ⟨q1, q2, q3, q4, q5⟩ := e4
      exact ⟨q1, q2, fun b hb hx => q3 b hb (fun z => hx (Or.inl z)), fun b h1 h2 => Or.inl (q4 b h1 h2), q5⟩
    · rw [frm_rs hw e4 (by omega)]
      exact R10_rt r10 (e8 10 (by omega))
  · rw [if_neg y2, if_neg y2, Option.bind_some, rdI_n (by omega) (by omega), Option.bind_some]
    by_cases y3 : t.2.2.1 110 a = 3
    · have h118 := rs_in r10
      have hm : (4 : Int32) + (Int32.ofNat a - Int32.ofNat a / 6 * 6) = Int32.ofNat (4 + a % 6) := by rw [i_modL (by omega) (by omega), i_Ladd]
      rw [if_pos y3, if_pos y3, aPut_r h118.1 (by omega) (by omega), hm, stI_n (by omega) (by omega), Option.bind_some]
      have hrt : ∀ Z, Z ≠ 10 → rt (wrI t 136 (4 + a % 6) (Int32.ofNat dn)) Z = rt t Z := fun Z h => rt_wrI (by show (10 : Nat) ≠ Z; exact fun z => h z.symm)
      refine ⟨_, _, own, rfl, rfl, frm_cup hw (wf_lt hw h118.1) (Or.inr h118.2), ?_, ?_, rfl, fun Z _ h10 => hrt Z h10, Nat.le_add_right _ _, Nat.le_add_right _ _⟩
      · show R6 (rs (lUpd s.1 118 _) own 6) _ N
        rw [rs_out (by rw [h118.2]; omega)]
        exact R6_rt r6 (hrt 6 (by omega)) rfl
      · show R10 (rs (lUpd s.1 118 _) own 10) _
        rw [rs_upd h118.2]
        unfold R10
        rw [lUpd_at, if_pos rfl]
        have : rowC (fun j => if j = 4 + a % 6 then Value.int (Int32.ofNat dn) else .int (t.2.2.1 136 j)) 10 = rowC (fun k => .int ((wrI t 136 (4 + a % 6) (Int32.ofNat dn)).2.2.1 136 k)) 10 := rowC_congr (fun j _ => by
          rw [wr_at]
          by_cases y : j = 4 + a % 6
          · rw [if_pos y, if_pos ⟨rfl, y⟩]
          · rw [if_neg y, if_neg (fun z => y z.2)])
        rw [this]
    · rw [if_neg y3, if_neg y3]
      exact ⟨s, t, own, rfl, rfl, Frm.refl hw, r6, r10, rfl, fun _ _ _ => rfl, Nat.le_add_right _ _, Nat.le_add_right _ _⟩
section
variable {own : Nat → Nat} {s : CS} {t : TS} {np sz mx zm am rl nr na ec a B N : Nat} {P Z ZP A RW od : Nat → Nat}
/-- a telling on the component's side, but for what it does elsewhere -/
theorem c_tellE (r : R7b (rs s.1 own 7) t np sz mx zm am rl nr na ec P Z ZP A RW od B) (hec : ec < 1000000) (ha : a < 20) (hta : t.2.2.1 109 a = 1) {d : Int32} (hd : v01 d) {w5 : Bool} {fs : List Value} (h115 : s.1 115 = some (w5, false, 100, fs)) (hf4 : fs[4]? = some (.ref 118)) {w6 : Bool} {fs6 : List Value} (h120 : s.1 120 = some (w6, false, 122, fs6)) {f1 f2 f3 : Nat → Int32} (e1 : s.1 158 = some (true, true, 0, rowC (fun i => .int (f1 i)) 60)) (e2 : s.1 159 = some (true, true, 0, rowC (fun i => .int (f2 i)) 60)) (e3 : s.1 160 = some (true, true, 3, rowC (fun i => .int (f3 i)) 60)) :
    c_510 151 (A a) d s = (if t.2.2.1 110 a = 2 then c_1133 120 (Int32.ofNat a) d (tlS s t mx ec a d f1 f2 f3) else if t.2.2.1 110 a = 3 then aPut (tlS s t mx ec a d f1 f2 f3) 0 118 (Int32.ofNat (4 + a % 6)) (.int d) else some (tlS s t mx ec a d f1 f2 f3)) := by
  have q := R7b_raw r
  have q0 := q.1.1
  obtain ⟨a1, a2, a3⟩ := q.2.2.2.2.1.1 a ha hta
  have hmod : ec % 60 < 60 := Nat.mod_lt _ (by omega)
  have hm : Int32.ofNat ec - Int32.ofNat ec / (60 : Int32) * (60 : Int32) = Int32.ofNat (ec % 60) := i_modL (by omega) (by omega)
  unfold c_510
  rw [xI_o (x := Int32.ofNat ec) q0 rfl rfl, Option.bind_some, hm, xN_o (b := 158) q0 rfl rfl, Option.bind_some, xI_o (x := t.1 301) q0 rfl rfl, Option.bind_some, aPut_r e1 hmod (by omega), Option.bind_some, xN_o (b := 159) ((cup_ne (by omega)).trans q0) rfl rfl, Option.bind_some, xI_o (x := Int32.ofNat a) ((cup_ne (by omega)).trans a1) rfl rfl, Option.bind_some, aPut_r ((cup_ne (by omega)).trans e2) hmod (by omega), Option.bind_some, xN_o (b := 160) ((cup_ne (by omega)).trans ((cup_ne (by omega)).trans q0)) rfl rfl, Option.bind_some]
  unfold aPutB
  rw [aPut_r ((cup_ne (by omega)).trans ((cup_ne (by omega)).trans e3)) hmod (by omega), Option.bind_some, xI_o (x := Int32.ofNat ec) ((cup_ne (by omega)).trans ((cup_ne (by omega)).trans ((cup_ne (by omega)).trans q0))) rfl rfl, Option.bind_some, i_suc, xP_c (fs' := [.ref 152, .ref 153, .ref mx, .ref 158, .ref 159, .ref 160, .int (Int32.ofNat (ec + 1)), .ref 161, .int (t.1 301), .int (t.1 1), .ref 115, .ref 120]) ((cup_ne (by omega)).trans ((cup_ne (by omega)).trans ((cup_ne (by omega)).trans q0))) rfl (by simp) rfl, Option.bind_some]
  have tk : ∀ p, p ≠ 151 → p ≠ 158 → p ≠ 159 → p ≠ 160 → (tlS s t mx ec a d f1 f2 f3).1 p = s.1 p := fun p n1 n2 n3 n4 => by
    unfold tlS
    rw [cup_ne n1, cup_ne n4, cup_ne n3, cup_ne n2]
  have t151 : (tlS s t mx ec a d f1 f2 f3).1 151 = some (true, false, 47, [.ref 152, .ref 153, .ref mx, .ref 158, .ref 159, .ref 160, .int (Int32.ofNat (ec + 1)), .ref 161, .int (t.1 301), .int (t.1 1), .ref 115, .ref 120]) := by unfold tlS; exact cup_eq ..
  unfold tlS at tk t151 ⊢
  generalize cup (cup (cup (cup s 158 _) 159 _) 160 _) 151 _ = S at tk t151 ⊢
  have tA := (tk (A a) (by omega) (by omega) (by omega) (by omega)).trans a1
  have t115 := (tk 115 (by omega) (by omega) (by omega) (by omega)).trans h115
  have t120 := (tk 120 (by omega) (by omega) (by omega) (by omega)).trans h120
  have hdd : (if d = 0 then some (0 : Int32) else some 1) = some d := by rcases hd with rfl | rfl <;> rfl
  rw [xI_o (x := t.2.2.1 110 a) tA rfl rfl, Option.bind_some, xR_o (b := 120) t151 rfl rfl, Option.bind_some, xI_o (x := Int32.ofNat a) tA rfl rfl, Option.bind_some, hdd, Option.bind_some, Option.bind_some, if_pos (isK_t t120 rfl), Option.bind_some, xN_o (b := 115) t151 rfl rfl, Option.bind_some, xR_o (b := 118) t115 rfl hf4, Option.bind_some, Option.bind_some, Option.bind_some, Option.bind_some]
  have hmm : (4 : Int32) + (Int32.ofNat a - Int32.ofNat a / 6 * 6) = Int32.ofNat (4 + a % 6) := by rw [i_modL (by omega) (by omega), i_Ladd]
  rw [hmm]
  have bi : ∀ o : Option CS, Option.bind o (fun x => some x) = o := fun o => by cases o <;> rfl
  rw [bi, bi]
end
