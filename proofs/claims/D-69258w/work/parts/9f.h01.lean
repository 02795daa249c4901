/-! the gate: what is told -/
section
variable {own : Nat → Nat} {s : CS} {t : TS} {K zn nr nS nT nC nR nP nL a : Nat} {rel : Int32} {S C CS' CM CT E RS RM' RT P G D L F : Nat → Nat} {RW : Nat → Nat → Nat}
theorem ga_per (r : R4x s.1 t K zn nr nS nT nC nR nP nL a rel S C CS' CM CT E RS RM' RT P G D L F RW) (v : Int32) : c_1027 108 v s = if inB v (Int32.ofNat nS) = true then some (.inl (S (bN v), s)) else some (.inr (s.2.1, exs s 11)) := by
  obtain ⟨⟨g, _⟩, ⟨⟨mc, r1⟩, r2, r3, r4, _⟩, _⟩ := r
  unfold c_1027
  rw [xN_o (b := 111) g rfl rfl, Option.bind_some, if_pos (isK_t r1 rfl), alSize_r r1, Option.bind_some, orB, Option.bind_some, need_eq]
  cases hb : inB v (Int32.ofNat nS) with
  | true =>
    obtain ⟨k, hk, rfl⟩ := inB_nat nS (by omega) hb
    rw [if_pos rfl, if_neg (show ¬ (1 : Int32) = 0 by decide), Option.bind_some, Sum.elim_inl, xN_o (b := 111) g rfl rfl, Option.bind_some, if_pos (isK_t r1 rfl), alGet_r r1 hk (by omega), Option.bind_some, toN_o (r4 k hk).1 rfl, Option.bind_some, if_pos rfl, bN_of (by omega)]
  | false => rfl
theorem ga_car (r : R4x s.1 t K zn nr nS nT nC nR nP nL a rel S C CS' CM CT E RS RM' RT P G D L F RW) (v : Int32) : c_1033 108 v s = if inB v (Int32.ofNat nC) = true then some (.inl (C (bN v), s)) else some (.inr (s.2.1, exs s 11)) := by
  obtain ⟨⟨g, _⟩, _, _, ⟨⟨mc, r1⟩, r2, r3, r4, _⟩, _⟩ := r
  unfold c_1033
  rw [xN_o (b := 112) g rfl rfl, Option.bind_some, if_pos (isK_t r1 rfl), alSize_r r1, Option.bind_some, orB, Option.bind_some, need_eq]
  cases hb : inB v (Int32.ofNat nC) with
  | true =>
    obtain ⟨k, hk, rfl⟩ := inB_nat nC (by omega) hb
    rw [if_pos rfl, if_neg (show ¬ (1 : Int32) = 0 by decide), Option.bind_some, Sum.elim_inl, xN_o (b := 112) g rfl rfl, Option.bind_some, if_pos (isK_t r1 rfl), alGet_r r1 hk (by omega), Option.bind_some, toN_o (r4 k hk).1 rfl, Option.bind_some, if_pos rfl, bN_of (by omega)]
  | false => rfl
theorem ga_por (r : R4x s.1 t K zn nr nS nT nC nR nP nL a rel S C CS' CM CT E RS RM' RT P G D L F RW) (v : Int32) : c_1023 108 v s = if inB v (Int32.ofNat nP) = true then some (.inl (P (bN v), s)) else some (.inr (s.2.1, exs s 11)) := by
  obtain ⟨⟨g, _⟩, _, _, _, _, _, ⟨⟨mc, r1⟩, r2, r3, r4, _⟩, _⟩ := r
  unfold c_1023
  rw [xN_o (b := 110) g rfl rfl, Option.bind_some, if_pos (isK_t r1 rfl), alSize_r r1, Option.bind_some, orB, Option.bind_some, need_eq]
  cases hb : inB v (Int32.ofNat nP) with
  | true =>
    obtain ⟨k, hk, rfl⟩ := inB_nat nP (by omega) hb
    rw [if_pos rfl, if_neg (show ¬ (1 : Int32) = 0 by decide), Option.bind_some, Sum.elim_inl, xN_o (b := 110) g rfl rfl, Option.bind_some, if_pos (isK_t r1 rfl), alGet_r r1 hk (by omega), Option.bind_some, toN_o (r4 k hk).1 rfl, Option.bind_some, if_pos rfl, bN_of (by omega)]
  | false => rfl
theorem ga_pt (r : R4x (rs s.1 own 4) t K zn nr nS nT nC nR nP nL a rel S C CS' CM CT E RS RM' RT P G D L F RW) (v : Int32) : R4x (rs s.1 own 4) (ptI t 0 v) K zn nr nS nT nC nR nP nL a rel S C CS' CM CT E RS RM' RT P G D L F RW :=
  R4x_cg r (fun _ _ h => h) rfl (rt_ptI (by decide)) (fun _ _ => rfl)
theorem ga_ex (r : R4x (rs s.1 own 4) t K zn nr nS nT nC nR nP nL a rel S C CS' CM CT E RS RM' RT P G D L F RW) : R4 (rs s.1 own 4) t (K + 1) := R4_K ⟨zn, nr, nS, nT, nC, nR, nP, nL, a, rel, S, C, CS', CM, CT, E, RS, RM', RT, P, G, D, L, F, RW, r⟩ (Nat.le_succ K)
theorem rngB (v n : Int32) (k : Nat) (hk : k < 2147483647) (hn : n = Int32.ofNat k) : (if v < 0 then some (0 : Int32) else if n < v then some 0 else some 1) = some (if inB v (Int32.ofNat (k + 1)) = true then 1 else 0) := by
  subst hn
  by_cases h1 : v < 0
  · rw [if_pos h1]
    unfold inB
    simp [h1]
  · obtain ⟨j, hj, rfl⟩ := i_of h1
    rw [if_neg h1]
    by_cases h2 : Int32.ofNat k < Int32.ofNat j
    · rw [if_pos h2, inB_not (by have := (i_lt (by omega) hj).mp h2; omega) hj (by omega)]; rfl
    · rw [if_neg h2, inB_of (Nat.lt_succ_of_le (Nat.le_of_not_lt (fun z => h2 ((i_lt (by omega) hj).mpr z)))) (by omega)]; rfl
theorem goes_1 {y : Int32} (t : TS) (h : ¬ y = 0) : t_558 1 y t = some (1, ptI t 0 0) := by rw [goes_eq]; simp [h]
theorem goes_0 (y : Int32) (t : TS) : t_558 0 y t = some (0, ptI t 0 1) := by rw [goes_eq]; simp
theorem goes_2 (t : TS) : t_558 1 0 t = some (0, ptI t 0 2) := by rw [goes_eq]; simp
/-- where -/
theorem ga_where (hw : wfS s) (r : R4 (rs s.1 own 4) t K) (v1 v2 : Int32) : Rg thr0 (fun X => X = 4) 4 (fun H t => R4 (H 4) t (K + 1)) own s t 0 0 (c_1047 108 v1 v2 s) (t_616 v1 v2 t) := by
  obtain ⟨zn, nr, nS, nT, nC, nR, nP, nL, a, rel, S, C, CS', CM, CT, E, RS, RM', RT, P, G, D, L, F, RW, r⟩ := r
  have q := R4_raw r
  have hR := ga_ex r
  have q' := q
  obtain ⟨⟨g, g2, _⟩, ⟨_, r2, r3, r4, _⟩, _, _, _, _, _, _, _, z0⟩ := q'
  have k89 : isK s [89] 108 = true := isK_t g rfl
  unfold c_1047 t_616
  rw [if_pos k89, ga_per q, r2, isInB, Option.bind_some]
  cases hb : inB v1 (Int32.ofNat nS) with
  | true =>
    obtain ⟨k, hk, rfl⟩ := inB_nat nS (by omega) hb
    have hbu : ¬ t.1 1 = 0 := fun z => by have := (z0 z).1; omega
    have h1 := (r4 k hk).1
    rw [if_pos rfl, if_pos rfl, Option.bind_some, Sum.elim_inl, rngB v2 5 5 (by omega) rfl, Option.bind_some, need_eq, if_neg (show ¬ (1 : Int32) = 0 by decide), isInB, Option.bind_some]
    cases hb2 : inB v2 (Int32.ofNat (5 + 1)) with
    | true =>
      rw [if_pos rfl, if_neg (show ¬ (1 : Int32) = 0 by decide), if_neg (show ¬ (1 : Int32) = 0 by decide)]; repeat (first | rw [Option.bind_some] | rw [Sum.elim_inl] | rw [Sum.elim_inr])
      rw [goes_1 t hbu, bN_of (by omega)]; repeat (first | rw [Option.bind_some] | rw [Sum.elim_inl] | rw [Sum.elim_inr])
      dsimp only
      rw [if_neg (show ¬ (1 : Int32) = 0 by decide)]
      refine Rg.same (x := if v2.toInt = 0 then t.2.2.1 24 k else if v2.toInt = 1 then t.2.2.1 25 k else if v2.toInt = 2 then t.2.2.1 26 k else if v2.toInt = 3 then t.2.2.1 27 k else if v2.toInt = 4 then t.2.2.1 28 k else t.2.2.1 29 k) (a := 0) (b := 0) hw (ga_ex (ga_pt r 0)) ?_ ?_ (Nat.le_refl _) (Nat.le_refl _)
      · rw [xI_o (x := t.2.2.1 24 k) h1 rfl rfl, xI_o (x := t.2.2.1 25 k) h1 rfl rfl, xI_o (x := t.2.2.1 26 k) h1 rfl rfl, xI_o (x := t.2.2.1 27 k) h1 rfl rfl, xI_o (x := t.2.2.1 28 k) h1 rfl rfl, xI_o (x := t.2.2.1 29 k) h1 rfl rfl]
        simp only [Option.bind_some]
        repeat' (first | rfl | split)
      · simp only [rdI_n (show k < 40 by omega) (show 40 < 2147483648 by omega), Option.bind_some, pt_2]
        repeat' (first | rfl | split)
    | false =>
      refine Rg.arg (x := 0) (a := 0) (b := 0) hw hR rfl ?_ (Nat.le_refl _) (Nat.le_refl _)
      simp [goes_eq, ptI]
  | false =>
    refine Rg.arg (x := 0) (a := 0) (b := 0) hw hR rfl ?_ (Nat.le_refl _) (Nat.le_refl _)
    simp [goes_eq, ptI]
/-- how many are in rooms of a zone -/
theorem c_zonR (r : R4x s.1 t K zn nr nS nT nC nR nP nL a rel S C CS' CM CT E RS RM' RT P G D L F RW) (hb : ¬ t.1 1 = 0) {q : Nat} (hq : q < nr) : xN s [(89, 2)] 108 = some zn ∧ aI s [0, 12] zn (Int32.ofNat q) = some (Int32.ofNat (bN (t.2.2.1 64 q) % 10)) ∧ t_610 (Int32.ofNat q) t = some (Int32.ofNat (bN (t.2.2.1 64 q) % 10)) := by
  obtain ⟨⟨g, g2, g3, g4, g5, g6⟩, _⟩ := r
  obtain ⟨h1, f, h2, h3⟩ := g6 hb
  obtain ⟨h4, h5⟩ := h3 q hq
  refine ⟨xN_o (b := zn) g rfl rfl, aI_r (x := Int32.ofNat (bN (t.2.2.1 64 q) % 10)) h2 (by omega) rfl hq (by omega) (by rw [h5]), ?_⟩
  obtain ⟨b, hb1, hb2⟩ := h4
  unfold t_610
  rw [g4, if_neg (fun z => by have := (i_inj (by omega) (by omega)).mp z; omega), rdI_n (by omega) (by omega), Option.bind_some, hb2, bN_of (by omega), i_modL (by omega) (by omega)]
theorem room_bel {k : Nat} (h : okPer t k) {nr : Nat} (h9 : t.1 9 = Int32.ofNat nr) (hn : nr ≤ 40) : ∃ q, q ≤ nr ∧ t.2.2.1 24 k = Int32.ofNat q := by
  rcases h.1 with ⟨z, _⟩ | ⟨⟨q, z1, z2⟩, _⟩
  · exact ⟨nr, Nat.le_refl _, z.trans h9⟩
  · rw [h9, bN_of (by omega)] at z1
    exact ⟨q, by omega, z2⟩
theorem ga_inside (hw : wfS s) (r : R4 (rs s.1 own 4) t K) (v1 : Int32) : Rg thr0 (fun X => X = 4) 4 (fun H t => R4 (H 4) t (K + 1)) own s t 0 0 (c_1048 108 v1 s) (t_617 v1 t) := by
  obtain ⟨zn, nr, nS, nT, nC, nR, nP, nL, a, rel, S, C, CS', CM, CT, E, RS, RM', RT, P, G, D, L, F, RW, r⟩ := r
  have q := R4_raw r
  have hR := ga_ex r
  have q' := q
  obtain ⟨⟨g, g2, g3, g4, g5, g6⟩, ⟨⟨mc, r1⟩, r2, r3, r4, _⟩, _, _, _, _, _, _, _, z0⟩ := q'
  have k89 : isK s [89] 108 = true := isK_t g rfl
  unfold c_1048 t_617
  rw [show (10 : Int32) = Int32.ofNat 10 from rfl, orB, Option.bind_some, need_eq, isInB, Option.bind_some]
  cases hb : inB v1 (Int32.ofNat 10) with
  | true =>
    rw [if_pos rfl, if_neg (show ¬ (1 : Int32) = 0 by decide), Option.bind_some, Sum.elim_inl, if_pos k89]
    unfold c_1025
    rw [xI_o (x := if t.1 1 = 0 then -1 else t.1 9) g rfl rfl, Option.bind_some]
    by_cases hbu : t.1 1 = 0
    · rw [if_pos hbu, if_pos rfl, Option.bind_some, may_eq, if_pos rfl]
      refine Rg.sta (x := 0) (a := 0) (b := 0) hw hR rfl ?_ (Nat.le_refl _) (Nat.le_refl _)
      simp [goes_eq, ptI, hbu]
    · have h9n : ¬ t.1 9 = -1 := by rw [g4]; exact i_ne1 (by omega)
      rw [if_neg hbu, if_neg h9n, Option.bind_some, may_eq, if_neg (show ¬ (1 : Int32) = 0 by decide), Option.bind_some, Sum.elim_inl, goes_eq, Option.bind_some, if_neg (by simp [hbu])]
      have e0 : (if (1 : Int32) = 0 then (1 : Int32) else if t.1 1 = 0 then 2 else 0) = 0 := by simp [hbu]
      rw [e0]
      refine ex_el (wh_two (Q := fun x y => x = y) nS (fun k p p' => p = p' ∧ p.2 = Int32.ofNat k)
        (f := fun p16 : Int32 × Int32 => Option.bind (xN s [(89, 4)] 108) (fun a6 => (if isK s [13] a6 = true then Option.bind (alSize s a6) (fun x7 => (if p16.2 < x7 then Option.bind (xN s [(89, 4)] 108) (fun a8 => (if isK s [13] a8 = true then Option.bind (alGet s a8 p16.2) (fun e9 => Option.bind (toN s [81] e9) (fun a10 => Option.bind (xI s [(81, 3)] a10) (fun x11 => Option.bind (xI s [(89, 1)] 108) (fun x12 => Option.bind ((if x11 = x12 then some 0 else Option.bind (xN s [(89, 2)] 108) (fun a13 => Option.bind (aI s [0, 12] a13 x11) (fun x14 => (if x14 = v1 then some 1 else some 0))))) (fun v42 => some (.inl (p16.1 + v42, p16.2 + 1))))))) else none)) else some (.inr p16.1))) else none)))
        (g := fun p14 : Int32 × Int32 => (if p14.2 < ((ptI t 0 0).1 27) then Option.bind (rdI (ptI t 0 0) 24 40 p14.2) (fun x3 => Option.bind (t_610 x3 (ptI t 0 0)) (fun x4 => Option.bind ((if x4 = v1 then some 1 else some 0)) (fun v30 => some (.inl (p14.1 + v30, p14.2 + 1))))) else some (.inr p14.1))) (a := (0, 0)) (b := (0, 0)) ?_ ?_ ⟨rfl, rfl⟩) ?_
      · rintro k ⟨p1, p2⟩ _ hk ⟨rfl, rfl⟩
        have hp := r4 k hk
        obtain ⟨rm, hrm, erm⟩ := room_bel hp.2.1 g4 g5
        have h27 : (ptI t 0 0).1 27 = Int32.ofNat nS := r2
        have hv0 : ¬ v1 = -1 := fun z => by
          unfold inB at hb; rw [z] at hb; exact absurd hb (by decide)
        refine Or.inr ⟨(p1 + (if rm < nr ∧ Int32.ofNat (bN (t.2.2.1 64 rm) % 10) = v1 then 1 else 0), Int32.ofNat (k + 1)), (p1 + (if rm < nr ∧ Int32.ofNat (bN (t.2.2.1 64 rm) % 10) = v1 then 1 else 0), Int32.ofNat (k + 1)), ?_, ?_, rfl, rfl⟩
        · dsimp only
          rw [xN_o (b := 111) g rfl rfl, Option.bind_some, if_pos (isK_t r1 rfl), alSize_r r1, Option.bind_some, if_pos ((i_lt (by omega) (by omega)).mpr hk), Option.bind_some, if_pos (isK_t r1 rfl), alGet_r r1 hk (by omega), Option.bind_some, toN_o hp.1 rfl, Option.bind_some, xI_o (x := t.2.2.1 24 k) hp.1 rfl rfl, Option.bind_some, xI_o (x := if t.1 1 = 0 then -1 else t.1 9) g rfl rfl, Option.bind_some, if_neg hbu, erm, g4, i_suc]
          by_cases z : rm = nr
          · rw [if_pos (by rw [z]), if_neg (by omega)]; rfl
          · obtain ⟨c1, c2, c3⟩ := c_zonR q hbu (q := rm) (by omega)
            rw [if_neg (fun y => z ((i_inj (by omega) (by omega)).mp y)), c1, Option.bind_some, c2, Option.bind_some]
            by_cases y : Int32.ofNat (bN (t.2.2.1 64 rm) % 10) = v1
            · rw [if_pos y, if_pos ⟨by omega, y⟩]; rfl
            · rw [if_neg y, if_neg (fun w => y w.2)]; rfl
        · dsimp only
          rw [h27, if_pos ((i_lt (by omega) (by omega)).mpr hk), rdI_n (by omega) (by omega), Option.bind_some, show (ptI t 0 0).2.2.1 24 k = Int32.ofNat rm from erm, i_suc]
          by_cases z : rm = nr
          · have : t_610 (Int32.ofNat rm) (ptI t 0 0) = some (-1) := by
              unfold t_610
              rw [if_pos (show Int32.ofNat rm = (ptI t 0 0).1 9 from by rw [z]; exact g4.symm)]
            rw [this, Option.bind_some, if_neg (fun y => hv0 y.symm), if_neg (by omega)]; rfl
          · obtain ⟨c1, c2, c3⟩ := c_zonR q hbu (q := rm) (by omega)
            rw [show t_610 (Int32.ofNat rm) (ptI t 0 0) = _ from c3, Option.bind_some]
            by_cases y : Int32.ofNat (bN (t.2.2.1 64 rm) % 10) = v1
            · rw [if_pos y, if_pos ⟨by omega, y⟩]; rfl
            · rw [if_neg y, if_neg (fun w => y w.2)]; rfl
      · rintro ⟨p1, p2⟩ _ ⟨rfl, rfl⟩
        refine ⟨p1, p1, ?_, ?_, rfl⟩
        · dsimp only
          rw [xN_o (b := 111) g rfl rfl, Option.bind_some, if_pos (isK_t r1 rfl), alSize_r r1, Option.bind_some, if_neg (by rw [i_lt (by omega) (by omega)]; omega)]
        · dsimp only
          rw [show (ptI t 0 0).1 27 = Int32.ofNat nS from r2, if_neg (by rw [i_lt (by omega) (by omega)]; omega)]
      · rintro x _ ⟨h1, h2, rfl⟩
        dsimp only
        rw [h1, h2]
        exact Rg.same (a := 0) (b := 0) hw (ga_ex (ga_pt r 0)) rfl rfl (Nat.le_refl _) (Nat.le_refl _)
  | false =>
    refine Rg.arg (x := 0) (a := 0) (b := 0) hw hR rfl ?_ (Nat.le_refl _) (Nat.le_refl _)
    simp [goes_eq, ptI]
end
