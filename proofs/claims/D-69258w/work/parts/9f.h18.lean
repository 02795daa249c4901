/-! the gate: both -/
section
variable {own : Nat → Nat} {s : CS} {t : TS} {K zn nr nS nT nC nR nP nL a : Nat} {rel : Int32} {S C CS' CM CT E RS RM' RT P G D L F : Nat → Nat} {RW : Nat → Nat → Nat}
theorem ga_both (hw : wfS s) (hs : 179 ≤ s.2.1) (hK : K < 1000) (r : R4x (rs s.1 own 4) t K zn nr nS nT nC nR nP nL a rel S C CS' CM CT E RS RM' RT P G D L F RW) {nw : Nat} (hnw : nw ≤ 6000) (h101 : s.1 101 = some (true, false, 56, [.int (t.1 2)])) (ho : own 101 ≠ 4) (h2 : t.1 2 = Int32.ofNat nw) (hrel : ∀ T, rt T 7 = rt t 7 → T.1 1 = t.1 1 → t_608 T = some rel) (v1 v2 v3 v4 : Int32) : Rg thr0 (fun X => X = 4) 4 (fun H t => R4 (H 4) t (K + 1)) own s t 38 214 (c_1046 108 v1 v2 v3 v4 s) (t_614 v1 v2 v3 v4 t) := by
  have q := R4_raw r
  have hR := ga_ex r
  have q' := q
  obtain ⟨⟨g, _⟩, v1', _, ⟨_, q36, hC60, qc4, qcI, _⟩, _, _, ⟨_, q10, qn, q4, _⟩, _, _, z0⟩ := q'
  have k89 : isK s [89] 108 = true := isK_t g rfl
  unfold c_1046 t_614
  rw [if_pos k89, ga_car q, q36, isInB, isInB, t_isOf q]; repeat (first | rw [Option.bind_some] | rw [Sum.elim_inl] | rw [Sum.elim_inr])
  -- the twin when its arguments are wrong
  have twA : ∀ x : Int32, (Option.bind (some (0 : Int32)) (fun v21 => Option.bind ((if (t.1 1) = 0 then some (0 : Int32) else (if v21 = 0 then some 1 else Option.bind (rdI t 16 1400 v3) (fun x4 => (if x4 < 19 then some 1 else some 0))))) (fun v38 => Option.bind (t_558 v21 v38 t) (fun x5 => if x5.1 = 0 then some (x, x5.2) else none)))) = some (x, ptI t 0 1) := by
    intro x
    by_cases z : t.1 1 = 0 <;> simp [z, goes_0]
  cases hb : inB v1 (Int32.ofNat nC) with
  | false =>
    refine Rg.arg (x := 0) (a := 0) (b := 0) hw hR rfl ?_ (by omega) (by omega)
    by_cases z : t.1 1 = 0 <;> simp [z, goes_0]
  | true =>
  rw [if_pos rfl]; repeat (first | rw [Option.bind_some] | rw [Sum.elim_inl] | rw [Sum.elim_inr])
  dsimp only
  rw [if_pos k89, ga_car q]
  cases hb2 : inB v2 (Int32.ofNat nC) with
  | false =>
    refine Rg.arg (x := 0) (a := 0) (b := 0) hw hR rfl ?_ (by omega) (by omega)
    by_cases z : t.1 1 = 0 <;> simp [z, goes_0]
  | true =>
  rw [if_pos rfl]; repeat (first | rw [Option.bind_some] | rw [Sum.elim_inl] | rw [Sum.elim_inr])
  dsimp only
  rw [if_pos k89, ga_por q]
  obtain ⟨c, hc, rfl⟩ := inB_nat nC (by omega) hb
  obtain ⟨d, hd, rfl⟩ := inB_nat nC (by omega) hb2
  have ecd : Int32.ofNat c = Int32.ofNat d ↔ c = d := i_inj (by omega) (by omega)
  rw [bN_of (show c < 2147483648 by omega), bN_of (show d < 2147483648 by omega)]
  by_cases hok : (inB v3 (Int32.ofNat nP) = true ∧ (t.2.2.1 7 (bN v3) = v4 ∨ t.2.2.1 8 (bN v3) = v4)) ∧ c ≠ d
  · obtain ⟨⟨hb3, hroom⟩, hcd⟩ := hok
    obtain ⟨p, hp, rfl⟩ := inB_nat nP (by omega) hb3
    have hbp : bN (Int32.ofNat p) = p := bN_of (by omega)
    rw [hbp] at hroom
    obtain ⟨qq, hqn, rfl, hqq⟩ := room_n q hp hroom
    have hbu : ¬ t.1 1 = 0 := fun z => by have := (z0 z).2.2.2.2.1; omega
    obtain ⟨h1, _, h3⟩ := q4 p hp
    obtain ⟨_, _, _, _, h12, _, _, _, ⟨n, n1, n2, n3, n4⟩, _⟩ := h3
    have hns : nst s (.ref (C c)) = true := by
      unfold nst
      simp only [(qc4 c hc).1, carD]; rfl
    rw [hbp, if_pos (show inB (Int32.ofNat p) (Int32.ofNat nP) = true ∧ (t.2.2.1 7 p = Int32.ofNat qq ∨ t.2.2.1 8 p = Int32.ofNat qq) from ⟨hb3, hroom⟩), hb3, if_neg (show ¬ Int32.ofNat c = Int32.ofNat d from fun z => hcd (ecd.mp z))]; repeat (first | rw [Option.bind_some] | rw [Sum.elim_inl] | rw [Sum.elim_inr] | rw [if_neg (show ¬ (1 : Int32) = 0 by decide)] | rw [if_pos (show (0 : Int32) = 0 from rfl)] | rw [if_pos (show true = true from rfl)] | rw [if_neg (show ¬ false = true by decide)] | dsimp only)
    rw [if_neg (show ¬ C c = C d from fun z => hcd (qcI c d hc hd z)), if_pos hns, if_pos (isK_t h1 rfl), ga_has q hp, if_pos hroom, if_neg hbu]; repeat (first | rw [Option.bind_some] | rw [Sum.elim_inl] | rw [Sum.elim_inr] | rw [if_neg (show ¬ (1 : Int32) = 0 by decide)] | rw [if_pos (show (0 : Int32) = 0 from rfl)] | rw [if_pos (show true = true from rfl)] | rw [if_neg (show ¬ false = true by decide)] | dsimp only)
    rw [need_eq]; repeat (first | rw [Option.bind_some] | rw [Sum.elim_inl] | rw [Sum.elim_inr] | rw [if_neg (show ¬ (1 : Int32) = 0 by decide)] | rw [if_pos (show (0 : Int32) = 0 from rfl)] | rw [if_pos (show true = true from rfl)] | rw [if_neg (show ¬ false = true by decide)] | dsimp only)
    rw [xN_o (b := D p) h1 rfl rfl]; repeat (first | rw [Option.bind_some] | rw [Sum.elim_inl] | rw [Sum.elim_inr])
    rw [if_pos (isK_t n3 rfl), adSize_r n3, rdI_n (by omega) (by omega)]; repeat (first | rw [Option.bind_some] | rw [Sum.elim_inl] | rw [Sum.elim_inr])
    rw [n2]
    have e20 : (if (18 : Int32) < Int32.ofNat n then some (0 : Int32) else some 1) = some (if n < 19 then 1 else 0) := by
      by_cases z : n < 19
      · rw [if_neg (fun w => by have := (i_Llt (by omega) (by omega)).mp w; omega), if_pos z]
      · rw [if_pos ((i_Llt (by omega) (by omega)).mpr (by omega)), if_neg z]
    have f20 : (if Int32.ofNat n < 19 then some (1 : Int32) else some 0) = some (if n < 19 then 1 else 0) := by
      by_cases z : n < 19
      · rw [if_pos ((i_ltL (by omega) (by omega)).mpr z), if_pos z]
      · rw [if_neg (fun w => z ((i_ltL (by omega) (by omega)).mp w)), if_neg z]
    rw [e20, f20]; repeat (first | rw [Option.bind_some] | rw [Sum.elim_inl] | rw [Sum.elim_inr])
    rw [may_eq]
    by_cases hn : n < 19
    · rw [if_pos hn]; repeat (first | rw [Option.bind_some] | rw [Sum.elim_inl] | rw [Sum.elim_inr] | rw [if_neg (show ¬ (1 : Int32) = 0 by decide)] | rw [if_pos (show (0 : Int32) = 0 from rfl)] | rw [if_pos (show true = true from rfl)] | rw [if_neg (show ¬ false = true by decide)] | dsimp only)
      rw [goes_1 t (by decide)]; repeat (first | rw [Option.bind_some] | rw [Sum.elim_inl] | rw [Sum.elim_inr] | rw [if_neg (show ¬ (1 : Int32) = 0 by decide)] | rw [if_pos (show (0 : Int32) = 0 from rfl)] | rw [if_pos (show true = true from rfl)] | rw [if_neg (show ¬ false = true by decide)] | dsimp only)
      rw [if_pos k89]
      have r0 := ga_pt r 0
      have hrel0 : t_608 (ptI t 0 0) = some rel := hrel _ (rt_ptI (by decide)) rfl
      obtain ⟨w1, m, hm, hw1, e1, e2⟩ := c_ref hK (R4_raw r0) hbu hnw h101 h2 hrel0 hc hp hqq hqn
      rw [e1, e2]; repeat (first | rw [Option.bind_some] | rw [Sum.elim_inl] | rw [Sum.elim_inr] | rw [if_neg (show ¬ (1 : Int32) = 0 by decide)] | rw [if_pos (show (0 : Int32) = 0 from rfl)] | rw [if_pos (show true = true from rfl)] | rw [if_neg (show ¬ false = true by decide)] | dsimp only)
      have gm : (chg s m m).1 108 = _ := g
      obtain ⟨w2, m2, hm2, hw2, e3, e4⟩ := c_ref (s := chg s m m) hK (R4_raw r0) hbu hnw h101 h2 hrel0 hd hp hqq hqn
      have ecc : chg (chg s m m) m2 m2 = chg s (m + m2) (m + m2) := by
        unfold chg
        exact Prod.ext rfl (Prod.ext rfl (Prod.ext (Nat.add_assoc ..) (Nat.add_assoc ..)))
      rw [if_pos (isK_t gm rfl), e3, e4, ecc]
      have hfst : ∃ v k, k ≤ 34 ∧ (if w1 = 0 then Option.bind (some (w2, chg s (m + m2) (m + m2))) (fun x15 => some (x15.2, x15.1)) else some (chg s m m, w1)) = some (chg s k k, v) ∧ (if (0 : Int32) < w1 then some w1 else Option.bind (some w2) (fun x7 => some x7)) = some v := by
        rcases hw1 with z | z
        · refine ⟨w2, m + m2, by omega, by rw [if_pos z]; rfl, by rw [if_neg (by rw [z]; decide)]; rfl⟩
        · refine ⟨w1, m, by omega, by rw [if_neg (fun w => by rw [w] at z; exact absurd z (by decide))], by rw [if_pos z]⟩
      obtain ⟨v, k, hk, e5, e6⟩ := hfst
      rw [e5, e6]; repeat (first | rw [Option.bind_some] | rw [Sum.elim_inl] | rw [Sum.elim_inr] | rw [if_neg (show ¬ (1 : Int32) = 0 by decide)] | rw [if_pos (show (0 : Int32) = 0 from rfl)] | rw [if_pos (show true = true from rfl)] | rw [if_neg (show ¬ false = true by decide)] | dsimp only)
      have gk : (chg s k k).1 108 = _ := g
      have h1k : (chg s k k).1 (P p) = _ := h1
      obtain ⟨d1, _, _, _, ⟨pa, hpa, ea⟩, _⟩ := qc4 c hc
      obtain ⟨d2, _, _, _, ⟨pb, hpb, eb⟩, _⟩ := qc4 d hd
      have hS40 := v1'.2.2.1
      have hc1 : (chg s k k).1 (C c) = some (true, false, 82, [.int (Int32.ofNat c), .ref (S pa), .int (t.2.2.1 31 c), .int (Int32.ofNat (CT c)), .ref (CS' c)]) := by
        have : (chg s k k).1 (C c) = _ := d1
        rw [this]; unfold carD; rw [ea, bN_of (by omega)]
      have hc2 : (chg s k k).1 (C d) = some (true, false, 82, [.int (Int32.ofNat d), .ref (S pb), .int (t.2.2.1 31 d), .int (Int32.ofNat (CT d)), .ref (CS' d)]) := by
        have : (chg s k k).1 (C d) = _ := d2
        rw [this]; unfold carD; rw [eb, bN_of (by omega)]
      have hnsP : nst (chg s k k) (vR (some (S pa))) = true := by
        show nst (chg s k k) (.ref (S pa)) = true
        have : (chg s k k).1 (S pa) = _ := (v1'.2.2.2.1 pa hpa).1
        unfold nst
        simp only [this, perC]; rfl
      have hpp : (some (S pa) = some (S pb)) ↔ pa = pb := ⟨fun z => v1'.2.2.2.2.1 pa pb hpa hpb (Option.some.inj z), fun z => by rw [z]⟩
      have hpp2 : Int32.ofNat pa = Int32.ofNat pb ↔ pa = pb := i_inj (by omega) (by omega)
      have e7 : ∀ {A : Type} {f : Int32 → Option A}, Option.bind (Option.bind ((if v = 0 then Option.bind (xR (chg s k k) [(82, 1)] (C c)) (fun r16 => Option.bind (xR (chg s k k) [(82, 1)] (C d)) (fun r17 => (if r16 = r17 then Option.bind (xI (chg s k k) [(89, 10)] 108) (fun x18 => (if x18 = 0 then some (Sum.inr (α := Unit) (8 : Int32)) else some (.inl ()))) else (if nst (chg s k k) (vR r16) = true then some (.inl ()) else none)))) else some (.inl ()))) (Sum.elim (fun v60 => some v) (fun z => some z))) f = f (if v = 0 ∧ pa = pb ∧ rel = 0 then 8 else v) := by
        intro A f
        rw [xR_o (b := S pa) hc1 rfl rfl, xR_o (b := S pb) hc2 rfl rfl, xI_o (x := rel) gk rfl rfl]
        simp only [Option.bind_some, hpp, hnsP, if_true]
        by_cases x1 : v = 0 <;> by_cases x2 : pa = pb <;> by_cases x3 : rel = 0 <;> simp [x1, x2, x3]
      have e8 : ∀ {A : Type} {f : Int32 → Option A}, Option.bind (Option.bind ((if v = 0 then Option.bind (rdI (ptI t 0 0) 30 60 (Int32.ofNat c)) (fun x8 => Option.bind (rdI (ptI t 0 0) 30 60 (Int32.ofNat d)) (fun x9 => (if x8 = x9 then Option.bind (t_608 (ptI t 0 0)) (fun x10 => (if x10 = 0 then some (Sum.inr (α := Unit) (8 : Int32)) else some (.inl ()))) else some (.inl ())))) else some (.inl ()))) (Sum.elim (fun v74 => some v) (fun z => some z))) f = f (if v = 0 ∧ pa = pb ∧ rel = 0 then 8 else v) := by
        intro A f
        rw [rdI_n (by omega) (by omega), rdI_n (by omega) (by omega), hrel0, show (ptI t 0 0).2.2.1 30 c = Int32.ofNat pa from ea, show (ptI t 0 0).2.2.1 30 d = Int32.ofNat pb from eb]
        simp only [Option.bind_some, hpp2]
        by_cases x1 : v = 0 <;> by_cases x2 : pa = pb <;> by_cases x3 : rel = 0 <;> simp [x1, x2, x3]
      rw [e7, e8]
      generalize (if v = 0 ∧ pa = pb ∧ rel = 0 then (8 : Int32) else v) = v'
      by_cases hv : v' = 0
      · rw [if_pos hv, if_pos hv, if_pos (isK_t gk rfl)]
        obtain ⟨s', T, own', RW', f1, f2, f3, f4, f5, f6, f7, ⟨n', f8, f8'⟩, f9, f10⟩ := ga_let (s := chg s k k) hw hs hK r0 hbu hnw h101 h2 hrel0 hc hp hqq hqn n2 (by omega)
        have hw' : wfS s' := f4.2.2.2.2
        have hs' : 179 ≤ s'.2.1 := Nat.le_trans hs f4.1
        have h101' : s'.1 101 = some (true, false, 56, [.int (T.1 2)]) := by
          rw [f4.2.2.1 101 (wf_lt hw h101) ho, f6]; exact h101
        have g' := (R4_raw f3).1.1
        have hqq' : Int32.ofNat qq = T.2.2.1 7 p ∨ Int32.ofNat qq = T.2.2.1 8 p := by rw [f7 7 (by omega), f7 8 (by omega)]; exact hqq
        obtain ⟨s2, T2, own2, RW2, k1, k2, k3, k4, k5, k6, k7, k8, k9, k10⟩ := ga_let hw' hs' hK f3 (by rw [f6]; exact hbu) hnw h101' (by rw [f6]; exact h2) (hrel T (by rw [f5 7 (by omega) (by omega)]; exact rt_ptI (by decide)) (by rw [f6]; rfl)) hd hp hqq' hqn f8' (by omega)
        rw [f1, f2]; repeat (first | rw [Option.bind_some] | rw [Sum.elim_inl] | rw [Sum.elim_inr])
        rw [if_pos (isK_t g' rfl), k1, k2]; repeat (first | rw [Option.bind_some] | rw [Sum.elim_inl] | rw [Sum.elim_inr])
        refine Or.inl ⟨v', s2, T2, own2, rfl, rfl, by rw [k6, f6]; rfl, fun Z h4 h9 => by rw [k5 Z h4 h9, f5 Z h4 h9, ptI_rt h9], Frm.trans (frm_chg hw) (Frm.trans f4 k4), R4_K ⟨_, _, _, _, _, _, _, _, _, _, _, _, _, _, _, _, _, _, _, _, _, _, _, _, _, k3⟩ (Nat.le_succ K), ?_, ?_⟩
        · have : (chg s k k).2.2.1 = s.2.2.1 + k := rfl
          omega
        · have : (chg s k k).2.2.2 = s.2.2.2 + k := rfl
          omega
      · rw [if_neg hv, if_neg hv]
        exact Rg.same (a := k) (b := k) hw (ga_ex r0) rfl rfl (by omega) (by omega)
    · rw [if_neg hn, if_pos rfl]; repeat (first | rw [Option.bind_some] | rw [Sum.elim_inl] | rw [Sum.elim_inr] | rw [if_neg (show ¬ (1 : Int32) = 0 by decide)] | rw [if_pos (show (0 : Int32) = 0 from rfl)] | rw [if_pos (show true = true from rfl)] | rw [if_neg (show ¬ false = true by decide)] | dsimp only)
      rw [goes_2]
      exact Rg.sta (x := 0) (a := 0) (b := 0) hw hR rfl rfl (by omega) (by omega)
  · have hd0 : Option.bind (if (if true = true then (1 : Int32) else 0) = 0 then some (0 : Int32) else (if (if true = true then (1 : Int32) else 0) = 0 then some 0 else (if Int32.ofNat c = Int32.ofNat d then some 0 else Option.bind (some (if inB v3 (Int32.ofNat nP) = true ∧ (t.2.2.1 7 (bN v3) = v4 ∨ t.2.2.1 8 (bN v3) = v4) then (1 : Int32) else 0)) (fun x3 => (if x3 = 0 then some 0 else some 1))))) (fun x => some x) = some (0 : Int32) := by
      by_cases z : c = d
      · simp [z]
      · have : ¬ (inB v3 (Int32.ofNat nP) = true ∧ (t.2.2.1 7 (bN v3) = v4 ∨ t.2.2.1 8 (bN v3) = v4)) := fun w => hok ⟨w, z⟩
        rw [if_neg this]
        simp [ecd, z]
    rw [Option.bind_some] at hd0
    have hd1 : (if (if true = true then (1 : Int32) else 0) = 0 then some (0 : Int32) else (if (if true = true then (1 : Int32) else 0) = 0 then some 0 else (if Int32.ofNat c = Int32.ofNat d then some 0 else (if (if inB v3 (Int32.ofNat nP) = true ∧ (t.2.2.1 7 (bN v3) = v4 ∨ t.2.2.1 8 (bN v3) = v4) then (1 : Int32) else 0) = 0 then some 0 else some 1)))) = some (0 : Int32) := by
      by_cases z : c = d
      · simp [z]
      · have : ¬ (inB v3 (Int32.ofNat nP) = true ∧ (t.2.2.1 7 (bN v3) = v4 ∨ t.2.2.1 8 (bN v3) = v4)) := fun w => hok ⟨w, z⟩
        rw [if_neg this]
        simp [ecd, z]
    rw [hd1]
    have tw : Option.bind (some (0 : Int32)) (fun v21 => Option.bind ((if (t.1 1) = 0 then some (0 : Int32) else (if v21 = 0 then some 1 else Option.bind (rdI t 16 1400 v3) (fun x4 => (if x4 < 19 then some 1 else some 0))))) (fun v38 => t_558 v21 v38 t)) = some (0, ptI t 0 1) := by
      by_cases z : t.1 1 = 0 <;> simp [z, goes_0]
    by_cases hb3 : inB v3 (Int32.ofNat nP) = true
    · obtain ⟨p, hp, rfl⟩ := inB_nat nP (by omega) hb3
      obtain ⟨h1, _⟩ := q4 p hp
      have hns : nst s (.ref (C c)) = true := by
        unfold nst
        simp only [(qc4 c hc).1, carD]; rfl
      rw [if_pos hb3, bN_of (show p < 2147483648 by omega)]; repeat (first | rw [Option.bind_some] | rw [Sum.elim_inl] | rw [Sum.elim_inr])
      dsimp only
      have e22 : (if C c = C d then some (0 : Int32) else (if nst s (.ref (C c)) = true then (if isK s [80] (P p) = true then Option.bind (c_993 (P p) v4 s) (fun x7 => (if x7 = 0 then some 0 else some 1)) else none) else none)) = some 0 := by
        by_cases z : c = d
        · rw [if_pos (congrArg C z)]
        · rw [if_neg (fun w => z (qcI c d hc hd w)), if_pos hns, if_pos (isK_t h1 rfl), ga_has q hp, if_neg (fun w => hok ⟨⟨hb3, by rw [bN_of (by omega)]; exact w⟩, z⟩)]; rfl
      rw [e22]; repeat (first | rw [Option.bind_some] | rw [Sum.elim_inl] | rw [Sum.elim_inr])
      rw [need_eq, if_pos rfl]
      refine Rg.arg (x := 0) (a := 0) (b := 0) hw hR rfl ?_ (by omega) (by omega)
      by_cases z : t.1 1 = 0 <;> simp [z, goes_0]
    · rw [if_neg hb3]
      refine Rg.arg (x := 0) (a := 0) (b := 0) hw hR rfl ?_ (by omega) (by omega)
      by_cases z : t.1 1 = 0 <;> simp [z, goes_0]
end
