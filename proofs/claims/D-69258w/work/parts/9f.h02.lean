/-! the gate: against, portals -/
section
variable {own : Nat → Nat} {s : CS} {t : TS} {K zn nr nS nT nC nR nP nL a : Nat} {rel : Int32} {S C CS' CM CT E RS RM' RT P G D L F : Nat → Nat} {RW : Nat → Nat → Nat}
theorem c_isB (r : R4x s.1 t K zn nr nS nT nC nR nP nL a rel S C CS' CM CT E RS RM' RT P G D L F RW) : c_1025 108 s = some (if t.1 1 = 0 then 0 else 1) := by
  obtain ⟨⟨g, g2, g3, g4, g5, g6⟩, _⟩ := r
  unfold c_1025
  rw [xI_o (x := if t.1 1 = 0 then -1 else t.1 9) g rfl rfl, Option.bind_some]
  by_cases hbu : t.1 1 = 0
  · rw [if_pos hbu, if_pos hbu, if_pos rfl]
  · rw [if_neg hbu, if_neg hbu, if_neg (by rw [g4]; exact i_ne1 (by omega))]
theorem minB (v : Int32) {a : Nat} (ha : a < 2147483648) : (if v < 0 then some (0 : Int32) else if v < Int32.ofNat a then (if v < 100 then some 1 else some 0) else some 0) = some (if inB v (Int32.ofNat (min a 100)) = true then 1 else 0) := by
  by_cases h1 : v < 0
  · rw [if_pos h1]
    unfold inB
    simp [h1]
  · obtain ⟨j, hj, rfl⟩ := i_of h1
    rw [if_neg h1]
    by_cases h2 : j < min a 100
    · rw [inB_of h2 (by omega), if_pos ((i_lt hj (by omega)).mpr (by omega)), if_pos ((i_ltL hj (by omega)).mpr (by omega))]; rfl
    · rw [inB_not (by omega) hj (by omega)]
      by_cases h3 : j < a
      · rw [if_pos ((i_lt hj (by omega)).mpr h3), if_neg (fun z => by have := (i_ltL hj (by omega)).mp z; omega)]; rfl
      · rw [if_neg (fun z => h3 ((i_lt hj (by omega)).mp z))]; rfl
theorem rng5 (v : Int32) {A : Option Int32} : (if v < 0 then some (0 : Int32) else if 4 < v then some 0 else A) = if inB v 5 = true then A else some 0 := by
  have h := rngB v 4 4 (by omega) rfl
  by_cases h1 : v < 0
  · rw [if_pos h1] at h ⊢
    rw [if_neg (fun z => by rw [show inB v (Int32.ofNat (4 + 1)) = true from z] at h; cases h)]
  · rw [if_neg h1] at h ⊢
    by_cases h2 : (4 : Int32) < v
    · rw [if_pos h2] at h ⊢
      rw [if_neg (fun z => by rw [show inB v (Int32.ofNat (4 + 1)) = true from z] at h; cases h)]
    · rw [if_neg h2] at h ⊢
      rw [if_pos]
      cases hh : inB v 5 with
      | true => rfl
      | false => rw [show inB v (Int32.ofNat (4 + 1)) = false from hh] at h; cases h
theorem ga_against (hw : wfS s) (hK : K < 1000) (r : R4 (rs s.1 own 4) t K) (v1 v2 : Int32) : Rg thr0 (fun X => X = 4) 4 (fun H t => R4 (H 4) t (K + 1)) own s t 0 0 (c_1049 108 v1 v2 s) (t_618 v1 v2 t) := by
  obtain ⟨zn, nr, nS, nT, nC, nR, nP, nL, a, rel, S, C, CS', CM, CT, E, RS, RM', RT, P, G, D, L, F, RW, r⟩ := r
  have q := R4_raw r
  have hR := ga_ex r
  have q' := q
  obtain ⟨⟨g, g2, g3, g4, g5, g6⟩, _, _, _, _, _, _, ⟨⟨mc, r1⟩, r2, r3⟩, ⟨_, _, ra⟩, z0⟩ := q'
  have k89 : isK s [89] 108 = true := isK_t g rfl
  have e1 : (if v1 < 0 then some (0 : Int32) else if v1 < Int32.ofNat (min a 100) then some 1 else some 0) = some (if inB v1 (Int32.ofNat (min a 100)) = true then 1 else 0) := orB _ _
  unfold c_1049 t_618
  rw [xN_o (b := 114) g rfl rfl, Option.bind_some, if_pos (isK_t r1 rfl), alSize_r r1, Option.bind_some, rng5, e1, isInB, Option.bind_some, r2, minB v1 (by omega)]
  cases hb : inB v2 5 with
  | false =>
    refine Rg.arg (x := 0) (a := 0) (b := 0) hw hR (by simp [need_eq]; rfl) ?_ (Nat.le_refl _) (Nat.le_refl _)
    simp [goes_eq, ptI]
  | true =>
    rw [if_pos rfl, if_pos rfl, if_neg (show ¬ (1 : Int32) = 0 by decide)]
    have fin : ∀ b : Bool, b = (decide (v2 = 0) || inB v1 (Int32.ofNat (min a 100))) → (if v2 = 0 then some (1 : Int32) else some (if inB v1 (Int32.ofNat (min a 100)) = true then 1 else 0)) = some (if b = true then 1 else 0) := fun b hb => by
      rw [hb]
      by_cases z : v2 = 0
      · simp [z]
      · simp [z]
    rw [fin _ rfl]; repeat (first | rw [Option.bind_some] | rw [Sum.elim_inl] | rw [Sum.elim_inr])
    cases hc : (decide (v2 = 0) || inB v1 (Int32.ofNat (min a 100))) with
    | false =>
      refine Rg.arg (x := 0) (a := 0) (b := 0) hw hR (by simp [need_eq]; rfl) ?_ (Nat.le_refl _) (Nat.le_refl _)
      simp [goes_eq, ptI]
    | true =>
      rw [if_pos rfl, need_eq, if_neg (show ¬ (1 : Int32) = 0 by decide)]; repeat (first | rw [Option.bind_some] | rw [Sum.elim_inl] | rw [Sum.elim_inr])
      rw [if_pos k89, c_isB q]; repeat (first | rw [Option.bind_some] | rw [Sum.elim_inl] | rw [Sum.elim_inr])
      rw [may_eq]
      by_cases hbu : t.1 1 = 0
      · rw [if_pos hbu]
        refine Rg.sta (x := 0) (a := 0) (b := 0) hw hR rfl ?_ (Nat.le_refl _) (Nat.le_refl _)
        rw [hbu, goes_2]; rfl
      · rw [if_neg hbu, if_neg (show ¬ (1 : Int32) = 0 by decide), goes_1 t hbu]; repeat (first | rw [Option.bind_some] | rw [Sum.elim_inl] | rw [Sum.elim_inr])
        dsimp only
        rw [if_neg (show ¬ (1 : Int32) = 0 by decide)]
        by_cases y0 : v2 = 0
        · rw [if_pos y0, if_pos y0, xI_o (x := t.1 49) g rfl rfl]; repeat (first | rw [Option.bind_some] | rw [Sum.elim_inl] | rw [Sum.elim_inr])
          exact Rg.same (a := 0) (b := 0) hw (ga_ex (ga_pt r 0)) rfl rfl (Nat.le_refl _) (Nat.le_refl _)
        · rw [if_neg y0, if_neg y0]
          have hv : inB v1 (Int32.ofNat (min a 100)) = true := by simpa [y0] using hc
          obtain ⟨k, hk, rfl⟩ := inB_nat (min a 100) (by omega) hv
          have h1 := (r3 k (by omega) (by omega)).1
          rw [xN_o (b := 114) g rfl rfl]; repeat (first | rw [Option.bind_some] | rw [Sum.elim_inl] | rw [Sum.elim_inr])
          rw [if_pos (isK_t r1 rfl), alGet_r r1 hk (by omega)]; repeat (first | rw [Option.bind_some] | rw [Sum.elim_inl] | rw [Sum.elim_inr])
          rw [toN_o h1 rfl]; repeat (first | rw [Option.bind_some] | rw [Sum.elim_inl] | rw [Sum.elim_inr])
          refine Rg.same (x := if v2 = 1 then t.2.2.1 40 k else if v2 = 2 then t.2.2.1 41 k else if v2 = 3 then t.2.2.1 42 k else t.2.2.1 43 k) (a := 0) (b := 0) hw (ga_ex (ga_pt r 0)) ?_ ?_ (Nat.le_refl _) (Nat.le_refl _)
          · rw [xI_o (x := t.2.2.1 40 k) h1 rfl rfl, xI_o (x := t.2.2.1 41 k) h1 rfl rfl, xI_o (x := t.2.2.1 42 k) h1 rfl rfl, xI_o (x := t.2.2.1 43 k) h1 rfl rfl]
            simp only [Option.bind_some]
            repeat' (first | rfl | split)
          · simp only [rdI_n (show k < 100 by omega) (show 100 < 2147483648 by omega), Option.bind_some, pt_2]
            repeat' (first | rfl | split)
/-- a portal's cells -/
theorem c_xIn {p : Nat} (h : s.1 (P p) = some (porC t G D L p)) (r : Int32) : c_990 (P p) r s = some (xIn t p r) := by
  unfold c_990 xIn
  rw [xI_o (x := flB t p) h rfl rfl, xI_o (x := t.2.2.1 7 p) h rfl rfl, xI_o (x := cxP t p) h rfl rfl]; repeat (first | rw [Option.bind_some] | rw [Sum.elim_inl] | rw [Sum.elim_inr])
  by_cases h1 : flB t p = 0
  · rw [if_pos h1]
    by_cases h2 : r = t.2.2.1 7 p
    · rw [if_pos h2, if_pos ⟨h1, h2⟩]; rfl
    · rw [if_neg h2, if_neg (fun z => h2 z.2)]; rfl
  · rw [if_neg h1, if_neg (fun z => h1 z.1)]; rfl
theorem c_yIn {p : Nat} (h : s.1 (P p) = some (porC t G D L p)) (r : Int32) : c_991 (P p) r s = some (yIn t p r) := by
  unfold c_991 yIn
  rw [xI_o (x := flB t p) h rfl rfl, xI_o (x := t.2.2.1 8 p) h rfl rfl, xI_o (x := cyP t p) h rfl rfl]; repeat (first | rw [Option.bind_some] | rw [Sum.elim_inl] | rw [Sum.elim_inr])
  by_cases h1 : flB t p = 0
  · rw [if_pos h1, if_neg (fun z => z.1 h1)]; rfl
  · rw [if_neg h1]
    by_cases h2 : r = t.2.2.1 8 p
    · rw [if_pos h2, if_pos ⟨h1, h2⟩]; rfl
    · rw [if_neg h2, if_neg (fun z => h2 z.2)]; rfl
theorem t_cell {t : TS} {p : Nat} (h : okPor t p) {r lf : Int32} (hr : r = t.2.2.1 7 p ∨ r = t.2.2.1 8 p) (hl : v01 lf ∧ (lf = 1 ↔ r = t.2.2.1 7 p)) : t_728 (t.2.2.1 9 p) (t.2.2.1 11 p) lf 1 t = some (xIn t p r) ∧ t_728 (t.2.2.1 9 p) (t.2.2.1 11 p) lf 0 t = some (yIn t p r) := by
  obtain ⟨h1, h2, h3, ⟨l, h4, h5⟩, h6, _⟩ := h
  have hb : bN (t.2.2.1 9 p) = l := by rw [h5, bN_of (by omega)]
  have hlf : lf = 0 ↔ r = t.2.2.1 8 p := by
    constructor
    · intro z
      rcases hr with y | y
      · have := hl.2.mpr y; rw [z] at this; exact absurd this (by decide)
      · exact y
    · intro z
      rcases hl.1 with y | y
      · exact y
      · exact absurd ((hl.2.mp y).symm.trans z) h3
  unfold t_728 xIn yIn cxP cyP flB at *
  rw [h5] at hb h6 ⊢
  rw [bN_of (by omega)] at hb h6 ⊢
  rw [rdI_n (by omega) (by omega), Option.bind_some, rdI_n (by omega) (by omega), rdI_n (by omega) (by omega)]; repeat (first | rw [Option.bind_some] | rw [Sum.elim_inl] | rw [Sum.elim_inr])
  have hx : (lf = 0 ∧ ¬ r = t.2.2.1 7 p ∧ r = t.2.2.1 8 p) ∨ (¬ lf = 0 ∧ r = t.2.2.1 7 p ∧ ¬ r = t.2.2.1 8 p) := by
    by_cases y : lf = 0
    · have := hlf.mp y
      exact Or.inl ⟨y, fun k => h3 (k.symm.trans this), this⟩
    · refine Or.inr ⟨y, ?_, fun k => y (hlf.mpr k)⟩
      rcases hr with k | k
      · exact k
      · exact absurd (hlf.mpr k) y
  rcases h6 with z | z <;> rcases hx with ⟨x1, x2, x3⟩ | ⟨x1, x2, x3⟩ <;> simp only [z, x1, x2, x3, if_true, if_false, and_false, and_true, true_and, false_and, ne_eq, not_true, not_false_eq_true, show ¬ (1 : Int32) = 0 by decide, Int32.sub_zero, Int32.add_zero, and_self, h3, Ne.symm h3]
theorem ga_portal (hw : wfS s) (r : R4 (rs s.1 own 4) t K) (v1 v2 : Int32) : Rg thr0 (fun X => X = 4) 4 (fun H t => R4 (H 4) t (K + 1)) own s t 0 0 (c_1022 108 v1 v2 s) (t_592 v1 v2 t) := by
  obtain ⟨zn, nr, nS, nT, nC, nR, nP, nL, a, rel, S, C, CS', CM, CT, E, RS, RM', RT, P, G, D, L, F, RW, r⟩ := r
  have q := R4_raw r
  have hR := ga_ex r
  have q' := q
  obtain ⟨⟨g, g2, _⟩, _, _, _, _, _, ⟨_, r2, r3, r4, _⟩, _, _, z0⟩ := q'
  have k89 : isK s [89] 108 = true := isK_t g rfl
  unfold c_1022 t_592
  rw [if_pos k89, ga_por q, r2, isInB, Option.bind_some]
  cases hb : inB v1 (Int32.ofNat nP) with
  | true =>
    obtain ⟨k, hk, rfl⟩ := inB_nat nP (by omega) hb
    have hbu : ¬ t.1 1 = 0 := fun z => by have := (z0 z).2.2.2.2.1; omega
    obtain ⟨h1, _, h3⟩ := r4 k hk
    obtain ⟨_, ⟨x, y, h2⟩, _, h5, _⟩ := h3
    rw [if_pos rfl, if_pos rfl, Option.bind_some, Sum.elim_inl, rngB v2 5 5 (by omega) rfl, Option.bind_some, need_eq, if_neg (show ¬ (1 : Int32) = 0 by decide), isInB, Option.bind_some]
    cases hb2 : inB v2 (Int32.ofNat (5 + 1)) with
    | true =>
      rw [if_pos rfl, if_neg (show ¬ (1 : Int32) = 0 by decide), if_neg (show ¬ (1 : Int32) = 0 by decide)]; repeat (first | rw [Option.bind_some] | rw [Sum.elim_inl] | rw [Sum.elim_inr])
      rw [goes_1 t hbu, bN_of (by omega)]; repeat (first | rw [Option.bind_some] | rw [Sum.elim_inl] | rw [Sum.elim_inr])
      dsimp only
      rw [if_neg (show ¬ (1 : Int32) = 0 by decide)]
      obtain ⟨c1, c2⟩ := t_cell h5 (r := t.2.2.1 7 k) (lf := 1) (Or.inl rfl) ⟨Or.inr rfl, fun _ => rfl, fun _ => rfl⟩
      have c1 : t_728 (t.2.2.1 9 k) (t.2.2.1 11 k) 1 1 (ptI t 0 0) = _ := c1
      have c2 : t_728 (t.2.2.1 9 k) (t.2.2.1 11 k) 1 0 (ptI t 0 0) = _ := c2
      refine Rg.same (x := if v2.toInt = 0 then t.2.2.1 7 k else if v2.toInt = 1 then t.2.2.1 8 k else if v2.toInt = 2 then t.2.2.1 9 k else if v2.toInt = 3 then t.2.2.1 10 k else if v2 = 4 then xIn t k (t.2.2.1 7 k) else yIn t k (t.2.2.1 7 k)) (a := 0) (b := 0) hw (ga_ex (ga_pt r 0)) ?_ ?_ (Nat.le_refl _) (Nat.le_refl _)
      · rw [xI_o (x := t.2.2.1 7 k) h1 rfl rfl, xI_o (x := t.2.2.1 8 k) h1 rfl rfl, xN_o (b := G k) h1 rfl rfl]
        simp only [Option.bind_some]
        rw [if_pos (isK_t h2 rfl), if_pos (isK_t h2 rfl), if_pos (isK_t h1 rfl), if_pos (isK_t h1 rfl), c_xIn h1, c_yIn h1]
        unfold c_986 c_988
        rw [xI_o (x := t.2.2.1 9 k) h2 rfl rfl, xI_o (x := t.2.2.1 10 k) h2 rfl rfl]
        simp only [Option.bind_some]
        have e4 : v2.toInt = 4 ↔ v2 = 4 := by
          rw [← Int32.toInt_inj]; rfl
        simp only [e4]
        repeat' (first | rfl | split)
      · simp only [rdI_n (show k < 1400 by omega) (show 1400 < 2147483648 by omega), Option.bind_some, pt_2]
        have e5 : (if v2 = 4 then some (1 : Int32) else some 0) = some (if v2 = 4 then 1 else 0) := by split <;> rfl
        rw [e5, Option.bind_some]
        have e6 : t_728 (t.2.2.1 9 k) (t.2.2.1 11 k) 1 (if v2 = 4 then 1 else 0) (ptI t 0 0) = some (if v2 = 4 then xIn t k (t.2.2.1 7 k) else yIn t k (t.2.2.1 7 k)) := by
          by_cases z : v2 = 4
          · rw [if_pos z, if_pos z]; exact c1
          · rw [if_neg z, if_neg z]; exact c2
        rw [e6, Option.bind_some]
        repeat' (first | rfl | split)
    | false =>
      refine Rg.arg (x := 0) (a := 0) (b := 0) hw hR rfl ?_ (Nat.le_refl _) (Nat.le_refl _)
      simp [goes_eq, ptI]
  | false =>
    refine Rg.arg (x := 0) (a := 0) (b := 0) hw hR rfl ?_ (Nat.le_refl _) (Nat.le_refl _)
    simp [goes_eq, ptI]
end
