/-! permits: facts, both sides -/
section
variable {s S : CS} {t T : TS} {own : Nat → Nat} {nf : Nat}
theorem Ag3_0 : Ag3 t t := ⟨fun _ _ => rfl, fun _ _ => rfl, fun _ _ => rfl, fun _ _ _ _ => rfl, fun _ _ _ _ => rfl, fun _ _ => ⟨rfl, rfl⟩⟩
theorem rs_v {n : Nat} (hw : wfS s) (v : VOk s S n) (X : Nat) : ∀ p c, rs s.1 own X p = some c → rs S.1 (own3 own s.2.1) X p = some c := fun p c h => by
  obtain ⟨o, h'⟩ := rs_some.mp h
  exact rs_some.mpr ⟨by rw [own3_lt (wf_lt hw h')]; exact o, VOk_up v hw h'⟩
theorem frm_v {n : Nat} (v : VOk s S n) : Frm (fun X => X = 3) own (own3 own s.2.1) s S := frm_pt (fun _ => False) (fun _ _ h => h.elim) (fun p hp _ => v.2.2.1 p hp) v.2.1 (fun p hp => own3_lt hp) (fun p h1 h2 => own3_ge h1) v.1
/-- an exception after some cells more -/
theorem Rg_ex {α : Type} {kd : Nat} {cd : Int32} {x : α} {m n k : Nat} {c : Option (Sum (α × CS) (Nat × CS))} {d : Option (α × TS)} (E : thr0 kd cd) (hw : wfS s) (r : R3 (rs s.1 own 3) t) (v : VOk s S m) (hc : c = some (.inr (S.2.1, exs S kd))) (hd : d = some (x, ptI t 0 cd)) (hn : 3 * m ≤ n) (hk : 9 * m ≤ k) : Rg thr0 (fun X => X = 3) 3 (fun H t => R3 (H 3) t) own s t n k c d := Or.inr ⟨x, kd, cd, S, own3 own s.2.1, E, hc, hd, frm_v v, R3_up (rs_v hw v 3) Ag3_0 r, by have := v.2.2.2.1; omega, by have := v.2.2.2.2; omega⟩
noncomputable def rmB (t : TS) (nf : Nat) (v : Int64) : Bool := (fcI t v nf).isSome || decide (nf < 40)
theorem rmB_i {v : Int64} : rmB t nf v = true ↔ fcI t v nf ≠ none ∨ nf < 40 := by
  unfold rmB
  rw [Bool.or_eq_true, decide_eq_true_iff, Option.isSome_iff_ne_none]
theorem t_room (h2 : t.1 202 = Int32.ofNat nf) (h40 : nf ≤ 40) (v1 : Int64) : t_578 v1 t = some (if rmB t nf v1 = true then 1 else 0) := by
  unfold t_578
  rw [t_fcI h2 h40, Option.bind_some, h2]
  unfold rmB
  cases e : fcI t v1 nf with
  | some k =>
    obtain ⟨k1, _⟩ := fcI_lt e
    rw [if_neg (show ¬ fcV (some k) < 0 from i_nlt0 (by omega)), if_pos (by simp)]
  | none =>
    rw [if_pos (show fcV none < 0 by decide)]
    by_cases z : nf < 40
    · rw [if_pos (show Int32.ofNat nf < 40 from (i_lt (k := 40) (by omega) (by decide)).mpr z), if_pos (by simp [z])]
    · rw [if_neg (show ¬ Int32.ofNat nf < 40 from fun w => z ((i_lt (k := 40) (by omega) (by decide)).mp w)), if_neg (by simp [z])]
theorem c_roomB {A : Type} (r : R3f s.1 t nf) (h104 : ∃ a b d, s.1 104 = some (true, false, 78, [a, b, .ref 107, d])) (v1 : Int64) (g : Int32 → Option A) : Option.bind (tmHas s 107 (.long v1)) (fun x7 => Option.bind ((if x7 = 0 then Option.bind (xN s [(78, 2)] 104) (fun a8 => (if isK s [42] a8 = true then Option.bind (tmSize s a8) (fun x9 => (if x9 < 40 then some (1 : Int32) else some 0)) else none)) else some 1)) g) = g (if rmB t nf v1 = true then 1 else 0) := by
  obtain ⟨a, b, d, h104⟩ := h104
  have h40 : nf ≤ 40 := by obtain ⟨_, _, _, _, _, _, _, h, _⟩ := r; exact h
  obtain ⟨mc, es, r1, _⟩ := id r
  rw [fc_has r, Option.bind_some]
  unfold rmB
  cases e : fcI t v1 nf with
  | some k => rw [if_pos (show (some k).isSome = true from rfl), if_neg (show ¬ (1 : Int32) = 0 by decide), Option.bind_some, if_pos (by simp)]
  | none =>
    rw [if_neg (show ¬ (none : Option Nat).isSome = true by decide), if_pos (show (0 : Int32) = 0 from rfl), xN_o h104 rfl rfl, Option.bind_some, if_pos (isK_t r1 rfl), fc_size r, Option.bind_some]
    by_cases z : nf < 40
    · rw [if_pos (show Int32.ofNat nf < 40 from (i_lt (k := 40) (by omega) (by decide)).mpr z), Option.bind_some, if_pos (by simp [z])]
    · rw [if_neg (show ¬ Int32.ofNat nf < 40 from fun w => z ((i_lt (k := 40) (by omega) (by decide)).mp w)), Option.bind_some, if_neg (by simp [z])]
/-- the relation once a fact is put -/
theorem R3_put {S' : CS} {xs : List Value} {v1 : Int64} {v3 : Int32} {n : Nat} (hw : wfS s) (r : R3 (rs s.1 own 3) t) (v : VOk s S n) (ne : ∀ p, p ≠ 107 → S'.1 p = S.1 p) (h107 : S'.1 107 = some (true, false, 1042, xs)) (hf : R3f S'.1 (putT t nf v1 v3) (putN t nf v1)) : R3 (rs S'.1 (own3 own s.2.1) 3) (putT t nf v1 v3) := by
  have r0 := r
  obtain ⟨nf0, n0, nr, rl, mc, ru, q, bb, D, r1, rD, ⟨x1, x2, x3, x4⟩, rF, _⟩ := r
  obtain ⟨f1, f2, f3, f4⟩ := putT_f (t := t) (nf := nf) v1 v3
  obtain ⟨mc', es', q1, _⟩ := rF
  obtain ⟨o107, h107'⟩ := rs_some.mp q1
  have l107 := wf_lt hw h107'
  have up : ∀ p c, c.2.2.1 ≠ 1042 → rs s.1 own 3 p = some c → rs S'.1 (own3 own s.2.1) 3 p = some c := fun p c hc h => by
    obtain ⟨o, h'⟩ := rs_some.mp h
    refine rs_some.mpr ⟨by rw [own3_lt (wf_lt hw h')]; exact o, (ne p (fun w => ?_)).trans (VOk_up v hw h')⟩
    rw [w, h107'] at h'
    rw [← Option.some.inj h'] at hc
    exact hc rfl
  refine R3_upq (nf' := putN t nf v1) (n' := n0) (fun p c _ h2 h => up p c h2 h) ⟨fun c hc => f1 c (by omega), fun c hc => f3 c (by omega), fun c hc => f4 c (by omega), fun c hc => f3 c (by omega), f4 88 (by decide)⟩ ⟨?_, (f1 201 (by decide)).trans x2, x3, by rw [f3 76 (by decide)]; exact x4⟩ (R3f_up hf (fun c hc => rs_some.mpr ⟨by rw [own3_lt l107]; exact o107, hc⟩)) r0
  rw [f3 76 (by decide)]
  exact up _ _ (by show 1035 ≠ 1042; decide) x1
theorem putT_rt {v1 : Int64} {v3 : Int32} {Z : Nat} (hZ : Z ≠ 3) : rt (putT t nf v1 v3) Z = rt t Z := by
  unfold putT
  cases fcI t v1 nf with
  | some k => rw [rt_wrI (fun w => hZ (by rw [← w]; decide)), rt_wrL (fun w => hZ (by rw [← w]; decide))]
  | none => rw [rt_wrI (fun w => hZ (by rw [← w]; decide)), rt_wrL (fun w => hZ (by rw [← w]; decide)), rt_ptI (fun w => hZ (by rw [← w]; decide))]
/-- the component puts a fact: what follows the checks -/
theorem c_putG {n : Nat} (hw : wfS s) (r : R3 (rs s.1 own 3) t) (v : VOk s S n) {v1 : Int64} {v3 : Int32} (hf : R3f (rs s.1 own 3) t nf) (rm : rmB t nf v1 = true) : ∃ S', Option.bind (xN S [(78, 2)] 104) (fun a12 => Option.bind (some (chg S 1 1)) (fun s13 => Option.bind (some (chg s13 1 1)) (fun s14 => (if isK s14 [42] a12 = true then Option.bind (tmPut s14 a12 (.long v1) (.int v3)) (fun x15 => Option.bind (toOB x15.1) (fun b16 => Option.bind (c_975 b16 x15.2) (fun x17 => (some (.inl (x17, x15.2)) : Option (Sum (Int64 × CS) (Nat × CS)))))) else none)))) = some (.inl (hadF t nf v1, S')) ∧ R3 (rs S'.1 (own3 own s.2.1) 3) (putT t nf v1 v3) ∧ Frm (fun X => X = 3) own (own3 own s.2.1) s S' ∧ S'.2.2.1 ≤ S.2.2.1 + 3 ∧ S'.2.2.2 ≤ S.2.2.2 + 8 := by
  have r0 := r
  obtain ⟨nf0, n0, nr, rl, mc, ru, q, bb, D, r1, _⟩ := r
  have S104 := VOk_up v hw (rs_some.mp r1).2
  obtain ⟨mc', es', q1, _⟩ := id hf
  obtain ⟨o107, h107'⟩ := rs_some.mp q1
  have S107 := VOk_up v hw h107'
  have hfS : R3f (chg (chg S 1 1) 1 1).1 t nf := R3f_up hf (fun c hc => VOk_up v hw (rs_some.mp hc).2)
  obtain ⟨x, S', e1, e2, e3, e4, ⟨xs, e5⟩, e6, e7, e8, kk, nn, mm, xs', e9⟩ := c_put hfS v1 v3 (rmB_i.mp rm)
  have w2 : wfS S' := by
    rw [e9]
    exact wf_chg (wf_cup (wf_chg (wf_chg v.1)) (wf_lt (s := S) v.1 S107))
  refine ⟨S', ?_, R3_put hw r0 v (fun p hp => e4 p hp) e5 e3, ?_, by have : (chg (chg S 1 1) 1 1).2.2.1 = S.2.2.1 + 1 + 1 := rfl; omega, by have : (chg (chg S 1 1) 1 1).2.2.2 = S.2.2.2 + 1 + 1 := rfl; omega⟩
  · rw [xN_o S104 rfl rfl, Option.bind_some, Option.bind_some, Option.bind_some, if_pos (isK_t (show (chg (chg S 1 1) 1 1).1 107 = _ from S107) rfl), e1, Option.bind_some]
    cases hx : toOB x with
    | none => rw [hx] at e2; cases e2
    | some o =>
      rw [hx, Option.bind_some] at e2
      rw [Option.bind_some, e2, Option.bind_some]
  · refine frm_pt (fun p => p = 107) (fun p hp h => by rw [h]; exact o107) (fun p hp h => (e4 p h).trans (v.2.2.1 p hp)) ?_ (fun p hp => own3_lt hp) (fun p h1 h2 => own3_ge h1) w2
    have : (chg (chg S 1 1) 1 1).2.1 = S.2.1 := rfl
    have := v.2.1
    omega
theorem pm_fact (hw : wfS s) (r : R3 (rs s.1 own 3) t) (v1 : Int64) (v3 : Int32) : Rg thr0 (fun X => X = 3) 3 (fun H t => R3 (H 3) t) own s t 90 270 (c_973 104 v1 v3 s) (t_577 v1 v3 t) := by
  have r0 := r
  obtain ⟨nf, n0, nr, rl, mc, ru, q, bb, D, r1, rD, _, rF, _⟩ := r
  have h202 : t.1 202 = Int32.ofNat nf := by obtain ⟨_, _, _, _, _, _, h, _⟩ := rF; exact h
  have h40 : nf ≤ 40 := by obtain ⟨_, _, _, _, _, _, _, h, _⟩ := rF; exact h
  have rg : (if v3 < (-1000000000) then some (0 : Int32) else (if 1000000000 < v3 then some 0 else some 1)) = some (if v3 < (-1000000000) ∨ 1000000000 < v3 then 0 else 1) := by
    by_cases a : v3 < (-1000000000)
    · rw [if_pos a, if_pos (Or.inl a)]
    · by_cases b : 1000000000 < v3
      · rw [if_neg a, if_pos b, if_pos (Or.inr b)]
      · rw [if_neg a, if_neg b, if_neg (fun w => w.elim a b)]
  obtain ⟨S, v, hn⟩ := c_name hw v1
  have te : t_577 v1 v3 t = Option.bind (t_558 (if nmG v1 = true ∧ ¬ (v3 < (-1000000000) ∨ 1000000000 < v3) then 1 else 0) (if rmB t nf v1 = true then 1 else 0) t) (fun x3 => (if x3.1 = 0 then some (0, x3.2) else Option.bind (t_751 v1 v3 x3.2) (fun x4 => some (x4.1, x4.2)))) := by
    unfold t_577
    rw [t_isNm, Option.bind_some, rg, t_room h202 h40]
    by_cases a : nmG v1 = true
    · rw [if_pos a, if_neg (show ¬ (1 : Int32) = 0 by decide), Option.bind_some, Option.bind_some]
      by_cases b : v3 < (-1000000000) ∨ 1000000000 < v3
      · rw [if_pos b, if_neg (show ¬ (nmG v1 = true ∧ ¬ (v3 < (-1000000000) ∨ 1000000000 < v3)) from fun w => w.2 b)]
      · rw [if_neg b, if_pos (show nmG v1 = true ∧ ¬ (v3 < (-1000000000) ∨ 1000000000 < v3) from ⟨a, b⟩)]
    · rw [if_neg a, if_pos rfl, Option.bind_some, Option.bind_some, if_neg (show ¬ (nmG v1 = true ∧ ¬ (v3 < (-1000000000) ∨ 1000000000 < v3)) from fun w => a w.1)]
  rcases hn with ⟨nm, a, ec⟩ | ⟨nm, ec⟩
  rotate_left
  · refine Rg_ex (x := (0 : Int64)) (Or.inl ⟨rfl, rfl⟩) hw r0 v ?_ ?_ (by omega) (by omega)
    · unfold c_973
      rw [ec, Option.bind_some, Sum.elim_inr]
    · rw [te, if_neg (show ¬ (nmG v1 = true ∧ ¬ (v3 < (-1000000000) ∨ 1000000000 < v3)) from fun w => nm w.1), goes_0, Option.bind_some]
      exact if_pos rfl
  by_cases b : v3 < (-1000000000) ∨ 1000000000 < v3
  · refine Rg_ex (x := (0 : Int64)) (Or.inl ⟨rfl, rfl⟩) hw r0 v ?_ ?_ (by omega) (by omega)
    · unfold c_973
      rw [ec, Option.bind_some, Sum.elim_inl, rg, if_pos b, Option.bind_some, need_eq, if_pos rfl, Option.bind_some, Sum.elim_inr]
    · rw [te, if_neg (show ¬ (nmG v1 = true ∧ ¬ (v3 < (-1000000000) ∨ 1000000000 < v3)) from fun w => w.2 b), goes_0, Option.bind_some]
      exact if_pos rfl
  have S104 := VOk_up v hw (rs_some.mp r1).2
  obtain ⟨mc', es', q1, _⟩ := id rF
  have S107 := VOk_up v hw (rs_some.mp q1).2
  have v2 : VOk s (chg S 1 1) 27 := VOk_tr v (VOk_ch (a := 1) (b := 1) (n := 1) v.1 (by omega) (by omega)) (by omega)
  have hf2 : R3f (chg S 1 1).1 t nf := R3f_up rF (fun c hc => VOk_up v hw (rs_some.mp hc).2)
  have head : ∀ {o}, Option.bind (c_395 (if rmB t nf v1 = true then 1 else 0) (chg S 1 1)) (Sum.elim (fun x10 => Option.bind (xN x10 [(78, 2)] 104) (fun a12 => Option.bind (some (chg x10 1 1)) (fun s13 => Option.bind (some (chg s13 1 1)) (fun s14 => (if isK s14 [42] a12 = true then Option.bind (tmPut s14 a12 (.long v1) (.int v3)) (fun x15 => Option.bind (toOB x15.1) (fun b16 => Option.bind (c_975 b16 x15.2) (fun x17 => some (.inl (x17, x15.2))))) else none))))) (fun q11 => some (.inr (q11.1, q11.2)))) = o → c_973 104 v1 v3 s = o := by
    intro o ho
    unfold c_973
    rw [ec, Option.bind_some, Sum.elim_inl, rg, if_neg b, Option.bind_some, need_eq, if_neg (show ¬ (1 : Int32) = 0 by decide), Option.bind_some, Sum.elim_inl, xN_o S104 rfl rfl, Option.bind_some, Option.bind_some, if_pos (isK_t (show (chg S 1 1).1 107 = _ from S107) rfl), c_roomB hf2 ⟨_, _, _, S104⟩]
    exact ho
  by_cases rm : rmB t nf v1 = true
  rotate_left
  · refine Rg_ex (x := (0 : Int64)) (Or.inr ⟨rfl, rfl⟩) hw r0 v2 (head ?_) ?_ (by omega) (by omega)
    · rw [if_neg rm, may_eq, if_pos rfl, Option.bind_some, Sum.elim_inr]
    · rw [te, if_pos (show nmG v1 = true ∧ ¬ (v3 < (-1000000000) ∨ 1000000000 < v3) from ⟨nm, b⟩), if_neg rm, goes_2, Option.bind_some]
      exact if_pos rfl
  have r00 : R3 (rs s.1 own 3) (ptI t 0 0) := R3_up (fun _ _ h => h) ⟨fun c hc => if_neg (by omega), fun _ _ => rfl, fun _ _ => rfl, fun _ _ _ _ => rfl, fun _ _ _ _ => rfl, fun _ _ => ⟨rfl, rfl⟩⟩ r0
  have e0 : fcI (ptI t 0 0) v1 nf = fcI t v1 nf := fcI_cg (t := t) (T := ptI t 0 0) rfl _ _
  have rm0 : rmB (ptI t 0 0) nf v1 = true := by unfold rmB; rw [e0]; exact rm
  obtain ⟨S', e1, e2, e3, e4, e5⟩ := c_putG (t := ptI t 0 0) (nf := nf) hw r00 v2 (v1 := v1) (v3 := v3) (R3f_cg (t := t) rfl rfl rfl rF) rm0
  refine Or.inl ⟨hadF (ptI t 0 0) nf v1, S', putT (ptI t 0 0) nf v1 v3, own3 own s.2.1, head ?_, ?_, ?_, fun Z h1 h2 => ?_, e3, e2, ?_, ?_⟩
  · rw [if_pos rm, may_eq, if_neg (show ¬ (1 : Int32) = 0 by decide), Option.bind_some, Sum.elim_inl]
    exact e1
  · rw [te, if_pos (show nmG v1 = true ∧ ¬ (v3 < (-1000000000) ∨ 1000000000 < v3) from ⟨nm, b⟩), if_pos rm, goes_1 _ (by decide), Option.bind_some, if_neg (show ¬ (1 : Int32) = 0 by decide), t_fact (t := ptI t 0 0) h202 h40 v1 v3 (by rw [e0]; exact rmB_i.mp rm), Option.bind_some]
  · exact ((putT_f (t := ptI t 0 0) (nf := nf) v1 v3).1 0 (by decide)).trans rfl
  · rw [putT_rt h1, rt_ptI (fun w => h2 (by rw [← w]; decide))]
  · have := v2.2.2.2.1; omega
  · have := v2.2.2.2.2; omega
/-- hasRoom, the component -/
theorem c_hasRoom (hw : wfS s) (r : R3 (rs s.1 own 3) t) (hf : R3f (rs s.1 own 3) t nf) (v1 : Int64) : ∃ S, VOk s S 27 ∧ ((nmG v1 = true ∧ c_976 104 v1 s = some (.inl (if rmB t nf v1 = true then 1 else 0, S))) ∨ (¬ nmG v1 = true ∧ c_976 104 v1 s = some (.inr (S.2.1, exs S 11)))) := by
  obtain ⟨nf0, n0, nr, rl, mc, ru, q, bb, D, r1, _⟩ := r
  obtain ⟨S, v, hn⟩ := c_name hw v1
  rcases hn with ⟨nm, a, ec⟩ | ⟨nm, ec⟩
  · have S104 := VOk_up v hw (rs_some.mp r1).2
    obtain ⟨mc', es', q1, _⟩ := id hf
    have S107 := VOk_up v hw (rs_some.mp q1).2
    have v2 : VOk s (chg S 1 1) 27 := VOk_tr v (VOk_ch (a := 1) (b := 1) (n := 1) v.1 (by omega) (by omega)) (by omega)
    have hf2 : R3f (chg S 1 1).1 t nf := R3f_up hf (fun c hc => VOk_up v hw (rs_some.mp hc).2)
    have h40 : nf ≤ 40 := by obtain ⟨_, _, _, _, _, _, _, h, _⟩ := hf; exact h
    refine ⟨chg S 1 1, v2, Or.inl ⟨nm, ?_⟩⟩
    unfold c_976
    rw [ec, Option.bind_some, Sum.elim_inl, xN_o S104 rfl rfl, Option.bind_some, Option.bind_some, if_pos (isK_t (show (chg S 1 1).1 107 = _ from S107) rfl), fc_has hf2, Option.bind_some]
    unfold rmB
    cases e : fcI t v1 nf with
    | some k => rw [if_pos (show (some k).isSome = true from rfl), if_neg (show ¬ (1 : Int32) = 0 by decide), if_pos (by simp)]
    | none =>
      rw [if_neg (show ¬ (none : Option Nat).isSome = true by decide), if_pos rfl, xN_o (show (chg S 1 1).1 104 = _ from S104) rfl rfl, Option.bind_some, if_pos (isK_t (show (chg S 1 1).1 107 = _ from S107) rfl), fc_size hf2, Option.bind_some]
      by_cases z : nf < 40
      · rw [if_pos (show Int32.ofNat nf < 40 from (i_lt (k := 40) (by omega) (by decide)).mpr z), if_pos (by simp [z])]
      · rw [if_neg (show ¬ Int32.ofNat nf < 40 from fun w => z ((i_lt (k := 40) (by omega) (by decide)).mp w)), if_neg (by simp [z])]
  · refine ⟨S, VOk_tr v (VOk_0 v.1) (by omega), Or.inr ⟨nm, ?_⟩⟩
    unfold c_976
    rw [ec, Option.bind_some, Sum.elim_inr]
end
