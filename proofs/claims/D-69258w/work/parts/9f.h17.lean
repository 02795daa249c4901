/-! the gate: ask -/
section
variable {own : Nat → Nat} {s : CS} {t : TS} {K zn nr nS nT nC nR nP nL a : Nat} {rel : Int32} {S C CS' CM CT E RS RM' RT P G D L F : Nat → Nat} {RW : Nat → Nat → Nat}
theorem ga_has (r : R4x s.1 t K zn nr nS nT nC nR nP nL a rel S C CS' CM CT E RS RM' RT P G D L F RW) {p : Nat} (hp : p < nP) (v : Int32) : c_993 (P p) v s = some (if t.2.2.1 7 p = v ∨ t.2.2.1 8 p = v then 1 else 0) := by
  obtain ⟨_, _, _, _, _, _, ⟨_, q10, qn, q4, _⟩, _⟩ := r
  obtain ⟨h1, _⟩ := q4 p hp
  unfold c_993
  rw [xI_o (x := t.2.2.1 7 p) h1 rfl rfl, xI_o (x := t.2.2.1 8 p) h1 rfl rfl]; repeat (first | rw [Option.bind_some] | rw [Sum.elim_inl] | rw [Sum.elim_inr])
  by_cases z : t.2.2.1 7 p = v
  · rw [if_pos z, if_pos (Or.inl z)]
  · rw [if_neg z]
    by_cases w : t.2.2.1 8 p = v
    · rw [if_pos w, if_pos (Or.inr w)]
    · rw [if_neg w, if_neg (fun u => by rcases u with u | u; exact z u; exact w u)]
theorem t_isOf (r : R4x s.1 t K zn nr nS nT nC nR nP nL a rel S C CS' CM CT E RS RM' RT P G D L F RW) (v2 v3 : Int32) : t_606 v2 v3 t = some (if inB v2 (Int32.ofNat nP) = true ∧ (t.2.2.1 7 (bN v2) = v3 ∨ t.2.2.1 8 (bN v2) = v3) then 1 else 0) := by
  obtain ⟨⟨g, g2, g3, g4, g5, g6⟩, _, _, _, _, _, ⟨_, q10, qn, q4, _⟩, _⟩ := r
  unfold t_606
  rw [q10, isInB, Option.bind_some]
  cases hb : inB v2 (Int32.ofNat nP) with
  | false => simp
  | true =>
    obtain ⟨p, hp, rfl⟩ := inB_nat nP (by omega) hb
    obtain ⟨_, _, _, _, _, ok, _⟩ := q4 p hp
    rw [if_pos rfl, if_neg (show ¬ (1 : Int32) = 0 by decide), g4, i_suc, isInB, Option.bind_some, rdI_n (by omega) (by omega), rdI_n (by omega) (by omega), bN_of (by omega), Option.bind_some, Option.bind_some]
    by_cases z : t.2.2.1 7 p = v3 ∨ t.2.2.1 8 p = v3
    · have hin : inB v3 (Int32.ofNat (nr + 1)) = true := by
        obtain ⟨⟨x, hx, ex⟩, ⟨y, hy, ey⟩, _⟩ := ok
        have hb9 : bN (t.1 9) = nr := by rw [g4, bN_of (by omega)]
        rw [hb9] at hx hy
        rcases z with z | z
        · rw [← z, ex]; exact inB_of hx (by omega)
        · rw [← z, ey]; exact inB_of hy (by omega)
      rw [hin]
      by_cases z1 : t.2.2.1 7 p = v3
      · simp [z1]
      · have z2 : t.2.2.1 8 p = v3 := by rcases z with z | z; exact absurd z z1; exact z
        simp [z1, z2]
    · have z1 : ¬ t.2.2.1 7 p = v3 := fun w => z (Or.inl w)
      have z2 : ¬ t.2.2.1 8 p = v3 := fun w => z (Or.inr w)
      simp [z1, z2]
/-- a room by a portal is a number up to the outside's -/
theorem room_n (r : R4x s.1 t K zn nr nS nT nC nR nP nL a rel S C CS' CM CT E RS RM' RT P G D L F RW) {p : Nat} (hp : p < nP) {v : Int32} (h : t.2.2.1 7 p = v ∨ t.2.2.1 8 p = v) : ∃ q, q ≤ nr ∧ v = Int32.ofNat q ∧ (Int32.ofNat q = t.2.2.1 7 p ∨ Int32.ofNat q = t.2.2.1 8 p) := by
  obtain ⟨⟨g, g2, g3, g4, g5, g6⟩, _, _, _, _, _, ⟨_, q10, qn, q4, _⟩, _⟩ := r
  obtain ⟨_, _, _, _, _, ok, _⟩ := q4 p hp
  obtain ⟨⟨x, hx, ex⟩, ⟨y, hy, ey⟩, _⟩ := ok
  have hb9 : bN (t.1 9) = nr := by rw [g4, bN_of (by omega)]
  rw [hb9] at hx hy
  rcases h with z | z
  · exact ⟨x, by omega, by rw [← z, ex], Or.inl ex.symm⟩
  · exact ⟨y, by omega, by rw [← z, ey], Or.inr ey.symm⟩
theorem ga_ask (hw : wfS s) (hs : 179 ≤ s.2.1) (hK : K < 1000) (r : R4x (rs s.1 own 4) t K zn nr nS nT nC nR nP nL a rel S C CS' CM CT E RS RM' RT P G D L F RW) {nw : Nat} (hnw : nw ≤ 6000) (h101 : s.1 101 = some (true, false, 56, [.int (t.1 2)])) (h2 : t.1 2 = Int32.ofNat nw) (hrel : ∀ T, rt T 7 = rt t 7 → T.1 1 = t.1 1 → t_608 T = some rel) (v1 v2 v3 : Int32) : Rg thr0 (fun X => X = 4) 4 (fun H t => R4 (H 4) t (K + 1)) own s t 19 107 (c_1042 108 v1 v2 v3 s) (t_605 v1 v2 v3 t) := by
  have q := R4_raw r
  have hR := ga_ex r
  have q' := q
  obtain ⟨⟨g, _⟩, _, _, ⟨_, q36, _, _⟩, _, _, ⟨_, q10, qn, q4, _⟩, _, _, z0⟩ := q'
  have k89 : isK s [89] 108 = true := isK_t g rfl
  unfold c_1042 t_605
  rw [if_pos k89, ga_car q, q36, isInB, t_isOf q]; repeat (first | rw [Option.bind_some] | rw [Sum.elim_inl] | rw [Sum.elim_inr])
  cases hb : inB v1 (Int32.ofNat nC) with
  | false =>
    refine Rg.arg (x := 0) (a := 0) (b := 0) hw hR rfl ?_ (by omega) (by omega)
    by_cases z : t.1 1 = 0 <;> simp [z, goes_0]
  | true =>
  rw [if_pos rfl]; repeat (first | rw [Option.bind_some] | rw [Sum.elim_inl] | rw [Sum.elim_inr])
  dsimp only
  rw [if_pos k89, ga_por q]
  by_cases hok : inB v2 (Int32.ofNat nP) = true ∧ (t.2.2.1 7 (bN v2) = v3 ∨ t.2.2.1 8 (bN v2) = v3)
  · obtain ⟨hb2, hroom⟩ := hok
    obtain ⟨c, hc, rfl⟩ := inB_nat nC (by have := q.2.2.2.1.2.2.1; omega) hb
    obtain ⟨p, hp, rfl⟩ := inB_nat nP (by omega) hb2
    have hC60 := q.2.2.2.1.2.2.1
    have hbp : bN (Int32.ofNat p) = p := bN_of (by omega)
    rw [hbp] at hroom
    obtain ⟨qq, hqn, rfl, hqq⟩ := room_n q hp hroom
    have hbu : ¬ t.1 1 = 0 := fun z => by have := (z0 z).2.2.2.2.1; omega
    obtain ⟨h1, _, h3⟩ := q4 p hp
    obtain ⟨_, _, _, _, h12, _, _, _, ⟨n, n1, n2, n3, n4⟩, _⟩ := h3
    rw [hbp, if_pos (show inB (Int32.ofNat p) (Int32.ofNat nP) = true ∧ (t.2.2.1 7 p = Int32.ofNat qq ∨ t.2.2.1 8 p = Int32.ofNat qq) from ⟨hb2, hroom⟩), hb2, if_pos rfl, bN_of (by omega)]; repeat (first | rw [Option.bind_some] | rw [Sum.elim_inl] | rw [Sum.elim_inr] | rw [if_neg (show ¬ (1 : Int32) = 0 by decide)] | rw [if_pos (show (0 : Int32) = 0 from rfl)] | rw [if_pos (show true = true from rfl)] | rw [if_neg (show ¬ false = true by decide)] | dsimp only)
    rw [if_neg hbu]; repeat (first | rw [Option.bind_some] | rw [Sum.elim_inl] | rw [Sum.elim_inr] | rw [if_neg (show ¬ (1 : Int32) = 0 by decide)] | rw [if_pos (show (0 : Int32) = 0 from rfl)] | rw [if_pos (show true = true from rfl)] | rw [if_neg (show ¬ false = true by decide)] | dsimp only)
    rw [if_pos (isK_t h1 rfl), ga_has q hp, if_pos hroom]; repeat (first | rw [Option.bind_some] | rw [Sum.elim_inl] | rw [Sum.elim_inr])
    rw [need_eq]; repeat (first | rw [Option.bind_some] | rw [Sum.elim_inl] | rw [Sum.elim_inr] | rw [if_neg (show ¬ (1 : Int32) = 0 by decide)] | rw [if_pos (show (0 : Int32) = 0 from rfl)] | rw [if_pos (show true = true from rfl)] | rw [if_neg (show ¬ false = true by decide)] | dsimp only)
    rw [xN_o (b := D p) h1 rfl rfl]; repeat (first | rw [Option.bind_some] | rw [Sum.elim_inl] | rw [Sum.elim_inr])
    rw [if_pos (isK_t n3 rfl), adSize_r n3, rdI_n (by omega) (by omega)]; repeat (first | rw [Option.bind_some] | rw [Sum.elim_inl] | rw [Sum.elim_inr])
    rw [n2]
    have e20 : (if Int32.ofNat n < 20 then some (1 : Int32) else some 0) = some (if n < 20 then 1 else 0) := by
      by_cases z : n < 20
      · rw [if_pos ((i_ltL (by omega) (by omega)).mpr z), if_pos z]
      · rw [if_neg (fun w => z ((i_ltL (by omega) (by omega)).mp w)), if_neg z]
    rw [e20]; repeat (first | rw [Option.bind_some] | rw [Sum.elim_inl] | rw [Sum.elim_inr])
    rw [may_eq]
    by_cases hn : n < 20
    · rw [if_pos hn]; repeat (first | rw [Option.bind_some] | rw [Sum.elim_inl] | rw [Sum.elim_inr] | rw [if_neg (show ¬ (1 : Int32) = 0 by decide)] | rw [if_pos (show (0 : Int32) = 0 from rfl)] | rw [if_pos (show true = true from rfl)] | rw [if_neg (show ¬ false = true by decide)] | dsimp only)
      rw [goes_1 t (by decide)]; repeat (first | rw [Option.bind_some] | rw [Sum.elim_inl] | rw [Sum.elim_inr] | rw [if_neg (show ¬ (1 : Int32) = 0 by decide)] | rw [if_pos (show (0 : Int32) = 0 from rfl)] | rw [if_pos (show true = true from rfl)] | rw [if_neg (show ¬ false = true by decide)] | dsimp only)
      rw [if_pos k89]
      have r0 := ga_pt r 0
      have hrel0 : t_608 (ptI t 0 0) = some rel := hrel _ (rt_ptI (by decide)) rfl
      obtain ⟨v, m, hm, _, e1, e2⟩ := c_ref hK (R4_raw r0) hbu hnw h101 h2 hrel0 hc hp hqq hqn
      rw [e1, e2]; repeat (first | rw [Option.bind_some] | rw [Sum.elim_inl] | rw [Sum.elim_inr] | rw [if_neg (show ¬ (1 : Int32) = 0 by decide)] | rw [if_pos (show (0 : Int32) = 0 from rfl)] | rw [if_pos (show true = true from rfl)] | rw [if_neg (show ¬ false = true by decide)] | dsimp only)
      have h1m : (chg s m m).1 (P p) = _ := h1
      have gm : (chg s m m).1 108 = _ := g
      have hv01 : v01 rel := q.1.2.2.1
      -- the twin's and the component's answer, two looked at
      have e3 : ∀ {A : Type} {f : Int32 → Option A}, Option.bind (Option.bind ((if v = 0 then Option.bind (xI (chg s m m) [(80, 7)] (P p)) (fun x13 => (if x13 = 0 then some (Sum.inl (β := Int32) ()) else Option.bind (xI (chg s m m) [(89, 10)] 108) (fun x14 => (if x14 = 0 then some (.inr 7) else some (.inl ()))))) else some (.inl ()))) (Sum.elim (fun v37 => some v) (fun z => some z))) f = f (if v = 0 ∧ t.2.2.1 12 p ≠ 0 ∧ rel = 0 then 7 else v) := by
        intro A f
        rw [xI_o (x := t.2.2.1 12 p) h1m rfl rfl, xI_o (x := rel) gm rfl rfl]
        by_cases x1 : v = 0 <;> by_cases x2 : t.2.2.1 12 p = 0 <;> by_cases x3 : rel = 0 <;> simp [x1, x2, x3]
      have e4 : ∀ {A : Type} {f : Int32 → Option A}, Option.bind (Option.bind ((if v = 0 then Option.bind (rdI (ptI t 0 0) 12 1400 (Int32.ofNat p)) (fun x6 => (if x6 = 0 then some (Sum.inl (β := Int32) ()) else Option.bind (t_608 (ptI t 0 0)) (fun x7 => (if x7 = 0 then some (.inr 7) else some (.inl ()))))) else some (.inl ()))) (Sum.elim (fun v52 => some v) (fun z => some z))) f = f (if v = 0 ∧ t.2.2.1 12 p ≠ 0 ∧ rel = 0 then 7 else v) := by
        intro A f
        rw [rdI_n (by omega) (by omega), hrel0, show (ptI t 0 0).2.2.1 12 p = t.2.2.1 12 p from rfl]
        by_cases x1 : v = 0 <;> by_cases x2 : t.2.2.1 12 p = 0 <;> by_cases x3 : rel = 0 <;> simp [x1, x2, x3]
      rw [e3, e4]
      generalize (if v = 0 ∧ t.2.2.1 12 p ≠ 0 ∧ rel = 0 then (7 : Int32) else v) = v'
      by_cases hv : v' = 0
      · rw [if_pos hv, if_pos hv, if_pos (isK_t gm rfl)]
        obtain ⟨s', T, own', RW', f1, f2, f3, f4, f5, f6, f7, f8, f9, f10⟩ := ga_let (s := chg s m m) hw hs hK r0 hbu hnw h101 h2 hrel0 hc hp hqq hqn n2 hn
        rw [f1, f2]; repeat (first | rw [Option.bind_some] | rw [Sum.elim_inl] | rw [Sum.elim_inr])
        refine Or.inl ⟨v', s', T, own', rfl, rfl, by rw [f6]; rfl, fun Z h4 h9 => by rw [f5 Z h4 h9, ptI_rt h9], Frm.trans (frm_chg hw) f4, R4_K ⟨_, _, _, _, _, _, _, _, _, _, _, _, _, _, _, _, _, _, _, _, _, _, _, _, _, f3⟩ (Nat.le_succ K), ?_, ?_⟩
        · have : (chg s m m).2.2.1 = s.2.2.1 + m := rfl
          omega
        · have : (chg s m m).2.2.2 = s.2.2.2 + m := rfl
          omega
      · rw [if_neg hv, if_neg hv]
        exact Rg.same (a := m) (b := m) hw (ga_ex r0) rfl rfl (by omega) (by omega)
    · rw [if_neg hn, if_pos rfl]; repeat (first | rw [Option.bind_some] | rw [Sum.elim_inl] | rw [Sum.elim_inr] | rw [if_neg (show ¬ (1 : Int32) = 0 by decide)] | rw [if_pos (show (0 : Int32) = 0 from rfl)] | rw [if_pos (show true = true from rfl)] | rw [if_neg (show ¬ false = true by decide)] | dsimp only)
      rw [goes_2]
      exact Rg.sta (x := 0) (a := 0) (b := 0) hw hR rfl rfl (by omega) (by omega)
  · rw [if_neg hok]
    have tw : ∃ x, Option.bind (if t.1 1 = 0 then some (0 : Int32) else some 1) (fun v30 => Option.bind (t_558 0 v30 t) (fun x4 => some (x4.1, x4.2))) = some (x, ptI t 0 1) := by
      by_cases z : t.1 1 = 0 <;> simp [z, goes_0]
    by_cases hb2 : inB v2 (Int32.ofNat nP) = true
    · obtain ⟨p, hp, rfl⟩ := inB_nat nP (by omega) hb2
      have hnr : ¬ (t.2.2.1 7 p = v3 ∨ t.2.2.1 8 p = v3) := fun z => hok ⟨hb2, by rw [bN_of (by omega)]; exact z⟩
      obtain ⟨h1, _⟩ := q4 p hp
      rw [if_pos hb2, bN_of (show p < 2147483648 by omega)]; repeat (first | rw [Option.bind_some] | rw [Sum.elim_inl] | rw [Sum.elim_inr])
      dsimp only
      rw [if_pos (isK_t h1 rfl), ga_has q hp, if_neg hnr]; repeat (first | rw [Option.bind_some] | rw [Sum.elim_inl] | rw [Sum.elim_inr])
      rw [need_eq, if_pos rfl]
      refine Rg.arg (x := 0) (a := 0) (b := 0) hw hR rfl ?_ (by omega) (by omega)
      by_cases z : t.1 1 = 0 <;> simp [z, goes_0]
    · rw [if_neg hb2]
      refine Rg.arg (x := 0) (a := 0) (b := 0) hw hR rfl ?_ (by omega) (by omega)
      by_cases z : t.1 1 = 0 <;> simp [z, goes_0]
end
