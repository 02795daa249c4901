/-! the gate: off and on -/
theorem lU_id0 {h : lHeap} {a : Nat} {c : lCell} (e : h a = some c) : lUpd h a c = h := funext (fun q => by
  by_cases z : q = a
  · rw [z, lU_eq0, e]
  · rw [lU_ne0 _ _ z])
section
variable {own : Nat → Nat} {s : CS} {t : TS} {K zn nr nS nT nC nR nP nL a : Nat} {rel : Int32} {S C CS' CM CT E RS RM' RT P G D L F : Nat → Nat} {RW : Nat → Nat → Nat}
theorem R4x_K {h : lHeap} (r : R4x h t K zn nr nS nT nC nR nP nL a rel S C CS' CM CT E RS RM' RT P G D L F RW) : R4x h t (K + 1) zn nr nS nT nC nR nP nL a rel S C CS' CM CT E RS RM' RT P G D L F RW := by
  obtain ⟨v0, v1, v2t, v2c, v2r, v2d, v3, v4, v5, v6⟩ := r
  exact ⟨v0, v1, v2t, v2c, v2r, v2d, v3, v4, ⟨by omega, by omega, by omega⟩, v6⟩
theorem off_loop {n p : Nat} (hw : wfS s) (hs : 179 ≤ s.2.1) (hK : K + 1 < 1000) (r : R4x (rs s.1 own 4) t K zn nr nS nT nC nR nP nL a rel S C CS' CM CT E RS RM' RT P G D L F RW) (hbu : ¬ t.1 1 = 0) {nw' : Nat} (hnw : nw' ≤ 6000) (h101 : s.1 101 = some (true, false, 56, [.int (t.1 2)])) (h2 : t.1 2 = Int32.ofNat nw') (hp : p < nP) (h15 : ¬ t.2.2.1 15 p = 1000000) (h16 : t.2.2.1 16 p = Int32.ofNat n) (hn : n ≤ 20) : ∃ x y, wh (S := CS × Int32) (X := CS × Int32) (fun p25 : CS × Int32 => Option.bind (xN p25.1 [(80, 11)] (P p)) (fun a4 => (if isK p25.1 [4] a4 = true then Option.bind (adEmpty p25.1 a4) (fun x5 => (if x5 = 0 then Option.bind (xN p25.1 [(80, 11)] (P p)) (fun a6 => (if isK p25.1 [4] a6 = true then Option.bind (adRem p25.1 a6) (fun x7 => Option.bind (toN x7.2 [86] x7.1) (fun a8 => (if isK x7.2 [89] 108 = true then Option.bind (c_1038 108 (P p) a8 x7.2) (fun x9 => some (Sum.inl (β := CS × Int32) (x9, p25.2 + 1))) else none))) else none)) else some (.inr (p25.1, p25.2)))) else none))) (s, 0) = some x ∧ wh (joT p) (t, 0) = some y ∧ x.2 = Int32.ofNat n ∧ ∃ own' a' F', R4x (lUpd (rs x.1.1 own' 4) (D p) (true, false, 1004, rowC (fun i => .ref (RW p i)) n)) y (K + 1) zn nr nS nT nC nR nP nL a' rel S C CS' CM CT E RS RM' RT P G D L F' RW ∧ Frm (fun X => X = 4) own own' s x.1 ∧ x.1.1 (D p) = some (true, false, 1004, []) ∧ (∀ Z, Z ≠ 4 → Z ≠ 99 → rt y Z = rt t Z) ∧ (∀ c, c ≠ 49 → y.1 c = t.1 c) ∧ (∀ c, ¬ (24 ≤ c ∧ c ≤ 29) → ¬ (40 ≤ c ∧ c ≤ 43) → y.2.2.1 c = t.2.2.1 c) ∧ x.1.2.2.1 ≤ s.2.2.1 + 380 ∧ x.1.2.2.2 ≤ s.2.2.2 + 800 := by
  have rw0 := R4_raw r
  have g := rw0.1.1
  obtain ⟨dP, _, _, _, ⟨_, d179, _⟩, _, _, _, _, _, ⟨n', n1, n2, n3, n4⟩, _⟩ := r.2.2.2.2.2.2.1.2.2.2.1 p hp
  have hnP := r.2.2.2.2.2.2.1.2.2.1
  have en : n' = n := by rw [h16] at n2; exact ((i_inj (by omega) (by omega)).mp n2).symm
  subst en
  obtain ⟨dD, oD⟩ := rs_in n3
  obtain ⟨dP0, oP⟩ := rs_in dP
  have lD := wf_lt hw dD
  have lP := wf_lt hw dP0
  have nDP : P p ≠ D p := apart dP0 dD (by show (80 : Nat) ≠ 1004; decide)
  have ha : a ≤ 20 * K := r.2.2.2.2.2.2.2.2.1.2.2
  have q0 : R4x (lUpd (rs s.1 own 4) (D p) (true, false, 1004, rowC (fun i => .ref (RW p i)) n')) t (K + 1) zn nr nS nT nC nR nP nL a rel S C CS' CM CT E RS RM' RT P G D L F RW := by rw [lU_id0 n3]; exact R4x_K r
  refine wh_two (f := (fun p25 : CS × Int32 => Option.bind (xN p25.1 [(80, 11)] (P p)) (fun a4 => (if isK p25.1 [4] a4 = true then Option.bind (adEmpty p25.1 a4) (fun x5 => (if x5 = 0 then Option.bind (xN p25.1 [(80, 11)] (P p)) (fun a6 => (if isK p25.1 [4] a6 = true then Option.bind (adRem p25.1 a6) (fun x7 => Option.bind (toN x7.2 [86] x7.1) (fun a8 => (if isK x7.2 [89] 108 = true then Option.bind (c_1038 108 (P p) a8 x7.2) (fun x9 => some (Sum.inl (β := CS × Int32) (x9, p25.2 + 1))) else none))) else none)) else some (.inr (p25.1, p25.2)))) else none)))) (g := joT p) (Q := fun x y => x.2 = Int32.ofNat n' ∧ ∃ own' a' F', R4x (lUpd (rs x.1.1 own' 4) (D p) (true, false, 1004, rowC (fun i => .ref (RW p i)) n')) y (K + 1) zn nr nS nT nC nR nP nL a' rel S C CS' CM CT E RS RM' RT P G D L F' RW ∧ Frm (fun X => X = 4) own own' s x.1 ∧ x.1.1 (D p) = some (true, false, 1004, []) ∧ (∀ Z, Z ≠ 4 → Z ≠ 99 → rt y Z = rt t Z) ∧ (∀ c, c ≠ 49 → y.1 c = t.1 c) ∧ (∀ c, ¬ (24 ≤ c ∧ c ≤ 29) → ¬ (40 ≤ c ∧ c ≤ 43) → y.2.2.1 c = t.2.2.1 c) ∧ x.1.2.2.1 ≤ s.2.2.1 + 380 ∧ x.1.2.2.2 ≤ s.2.2.2 + 800)
    n' (fun k x y => x.2 = Int32.ofNat k ∧ y.2 = Int32.ofNat k ∧ ∃ own' a' F', R4x (lUpd (rs x.1.1 own' 4) (D p) (true, false, 1004, rowC (fun i => .ref (RW p i)) n')) y.1 (K + 1) zn nr nS nT nC nR nP nL a' rel S C CS' CM CT E RS RM' RT P G D L F' RW ∧ a' ≤ a + k ∧ Frm (fun X => X = 4) own own' s x.1 ∧ x.1.1 (D p) = some (true, false, 1004, rowC (fun j => .ref (RW p (j + k))) (n' - k)) ∧ x.1.1 101 = s.1 101 ∧ (∀ Z, Z ≠ 4 → Z ≠ 99 → rt y.1 Z = rt t Z) ∧ (∀ c, c ≠ 49 → y.1.1 c = t.1 c) ∧ (∀ c, ¬ (24 ≤ c ∧ c ≤ 29) → ¬ (40 ≤ c ∧ c ≤ 43) → y.1.2.2.1 c = t.2.2.1 c) ∧ x.1.2.2.1 ≤ s.2.2.1 + 19 * k ∧ x.1.2.2.2 ≤ s.2.2.2 + 40 * k) ?_ ?_
    ⟨rfl, rfl, own, a, F, q0, Nat.le_refl _, Frm.refl hw, dD, rfl, fun _ _ _ => rfl, fun _ _ => rfl, fun _ _ _ => rfl, Nat.le_refl _, Nat.le_refl _⟩
  · rintro k ⟨S1, i⟩ ⟨T1, j⟩ hk ⟨rfl, rfl, own1, a1, F1, r1, ha1, f1, hD1, h1', rt1, t1, t3, c1, c2⟩
    right
    dsimp only at r1 ha1 f1 hD1 h1' rt1 t1 t3 c1 c2 ⊢
    have oD1 : own1 (D p) = 4 := (f1.2.1 (D p) lD).trans oD
    have hD1' : S1.1 (D p) = some (true, false, 1004, rowC (fun j => .ref (RW p (j + k))) ((n' - (k + 1)) + 1)) := by rw [show n' - (k + 1) + 1 = n' - k by omega]; exact hD1
    have g1 : S1.1 108 = _ := (lU_in r1.1.1 (by omega)).1
    have dP1 : S1.1 (P p) = _ := (lU_in (r1.2.2.2.2.2.2.1.2.2.2.1 p hp).1 nDP).1
    have hrow : S1.1 (RW p k) = some (rowG T1 C (20 * p + k)) := by
      obtain ⟨_, _, _, _, _, _, _, _, ⟨n2', m1, m2, m3, m4⟩, _⟩ := (r1.2.2.2.2.2.2.1.2.2.2.1 p hp).2.2
      have en2 : n2' = n' := by
        have : T1.2.2.1 16 p = Int32.ofNat n' := by rw [t3 16 (by omega) (by omega)]; exact h16
        rw [this] at m2
        exact ((i_inj (by omega) (by omega)).mp m2).symm
      subst en2
      have x := (m4 k hk).1
      exact (lU_in x (lU_ne x (by show (86 : Nat) ≠ 1004; decide))).1
    have hnR : RW p k ≠ D p := apart hrow hD1 (by show (86 : Nat) ≠ 1004; decide)
    generalize hS2 : cput S1 1004 (D p) 0 0 (rowC (fun j => .ref (RW p (j + 1 + k))) (n' - (k + 1))) = s2
    have z1 : s2.2.1 = S1.2.1 := by rw [← hS2]; rfl
    have z2 : s2.2.2.1 = S1.2.2.1 := by rw [← hS2]; rfl
    have z3 : s2.2.2.2 = S1.2.2.2 := by rw [← hS2]; rfl
    have lD1 := wf_lt f1.2.2.2.2 hD1
    have z4 : wfS s2 := by rw [← hS2]; exact wf_cup f1.2.2.2.2 lD1
    have zne : ∀ q, q ≠ D p → s2.1 q = S1.1 q := fun q hq => by rw [← hS2]; exact cput_ne hq
    have zD : s2.1 (D p) = some (true, false, 1004, rowC (fun j => .ref (RW p (j + (k + 1)))) (n' - (k + 1))) := by
      rw [← hS2, cput_eq]
      refine congrArg (fun l => some (true, false, 1004, l)) (rowC_congr (fun j hj => ?_))
      rw [show j + 1 + k = j + (k + 1) by omega]
    have r2 : R4x (lUpd (rs s2.1 own1 4) (D p) (true, false, 1004, rowC (fun i => .ref (RW p i)) n')) T1 (K + 1) zn nr nS nT nC nR nP nL a1 rel S C CS' CM CT E RS RM' RT P G D L F1 RW := by
      have : lUpd (rs s2.1 own1 4) (D p) (true, false, 1004, rowC (fun i => Value.ref (RW p i)) n') = lUpd (rs S1.1 own1 4) (D p) (true, false, 1004, rowC (fun i => .ref (RW p i)) n') := funext (fun q => by
        by_cases z : q = D p
        · rw [z, lU_eq0, lU_eq0]
        · rw [lU_ne0 _ _ z, lU_ne0 _ _ z]
          unfold rs
          rw [zne q z])
      rw [this]; exact r1
    have n101 : (101 : Nat) ≠ D p := by omega
    obtain ⟨s', T, own', a', F', e1, e2, e3, e4, e5, e6, e7, e8, e9, e10, e11, e12⟩ := ga_join z4 (by rw [z1]; exact Nat.le_trans hs f1.1) hK r2 (by rw [t1 1 (by omega)]; exact hbu) hnw (by rw [zne 101 n101, h1', t1 2 (by omega)]; exact h101) (by rw [t1 2 (by omega)]; exact h2) hp (by rw [t3 15 (by omega) (by omega)]; exact h15) (by rw [t3 16 (by omega) (by omega)]; exact h16) hk hn (by omega) zD oD1
    have F12 : Frm (fun X => X = 4) own1 own1 S1 s2 := by rw [← hS2]; exact frm_cput f1.2.2.2.2 lD1 oD1
    refine ⟨(s', Int32.ofNat (k + 1)), (T, Int32.ofNat (k + 1)), ?_, e2, rfl, rfl, own', a', F', e3, by omega, f1.trans (F12.trans e5), e6.trans zD, by rw [e7, zne 101 n101]; exact h1', fun Z h4 h9 => (e8 Z h4 h9).trans (rt1 Z h4 h9), fun c h => (e9 c h).trans (t1 c h), fun c h1 h2 => (e10 c h1 h2).trans (t3 c h1 h2), by dsimp only; omega, by dsimp only; omega⟩
    rw [xN_o (b := D p) dP1 rfl rfl]; repeat (first | rw [Option.bind_some] | rw [Sum.elim_inl] | rw [Sum.elim_inr])
    rw [if_pos (isK_t hD1' rfl), adEmpty_r hD1']; repeat (first | rw [Option.bind_some] | rw [Sum.elim_inl] | rw [Sum.elim_inr])
    rw [if_neg (show ¬ n' - (k + 1) + 1 = 0 by omega), if_pos rfl, adRem_r hD1', hS2]; repeat (first | rw [Option.bind_some] | rw [Sum.elim_inl] | rw [Sum.elim_inr])
    dsimp only
    rw [Nat.zero_add, toN_o ((zne _ hnR).trans hrow) rfl]; repeat (first | rw [Option.bind_some] | rw [Sum.elim_inl] | rw [Sum.elim_inr])
    rw [if_pos (isK_t ((zne 108 (by omega)).trans g1) rfl), e1, Option.bind_some, i_suc, if_pos (isK_t hD1' rfl)]
  · rintro ⟨S1, i⟩ ⟨T1, j⟩ ⟨rfl, rfl, own1, a1, F1, r1, ha1, f1, hD1, h1', rt1, t1, t3, c1, c2⟩
    dsimp only at r1 ha1 f1 hD1 h1' rt1 t1 t3 c1 c2 ⊢
    have dP1 : S1.1 (P p) = _ := (lU_in (r1.2.2.2.2.2.2.1.2.2.2.1 p hp).1 nDP).1
    rw [Nat.sub_self] at hD1
    refine ⟨(S1, Int32.ofNat n'), T1, ?_, ?_, rfl, own1, a1, F1, r1, f1, hD1, rt1, t1, t3, by dsimp only; omega, by dsimp only; omega⟩
    · rw [xN_o (b := D p) dP1 rfl rfl]; repeat (first | rw [Option.bind_some] | rw [Sum.elim_inl] | rw [Sum.elim_inr])
      rw [if_pos (isK_t hD1 rfl), adEmpty_r hD1]; repeat (first | rw [Option.bind_some] | rw [Sum.elim_inl] | rw [Sum.elim_inr])
      rw [if_pos rfl, if_neg (show ¬ (1 : Int32) = 0 by decide)]
    · unfold joT
      dsimp only
      rw [rdI_n (by omega) (by omega)]; repeat (first | rw [Option.bind_some] | rw [Sum.elim_inl] | rw [Sum.elim_inr])
      rw [t3 16 (by omega) (by omega), h16, if_neg (fun z => by have := (i_lt (by omega) (by omega)).mp z; omega)]
end
section
variable {own : Nat → Nat} {s : CS} {t : TS} {K zn nr nS nT nC nR nP nL a : Nat} {rel : Int32} {S C CS' CM CT E RS RM' RT P G D L F : Nat → Nat} {RW : Nat → Nat → Nat}
theorem ga_off (hw : wfS s) (hs : 179 ≤ s.2.1) (hK : K + 1 < 1000) (r : R4x (rs s.1 own 4) t K zn nr nS nT nC nR nP nL a rel S C CS' CM CT E RS RM' RT P G D L F RW) {nw : Nat} (hnw : nw ≤ 6000) (h101 : s.1 101 = some (true, false, 56, [.int (t.1 2)])) (h2 : t.1 2 = Int32.ofNat nw) (v1 v2 : Int32) : Rg thr0 (fun X => X = 4) 4 (fun H t => R4 (H 4) t (K + 1)) own s t 380 800 (c_1037 108 v1 v2 s) (t_615 v1 v2 t) := by
  have q := R4_raw r
  have hR := ga_ex r
  have q' := q
  obtain ⟨⟨g, _⟩, _, _, _, _, _, ⟨_, q10, qn, q4, _⟩, _, _, z0⟩ := q'
  have k89 : isK s [89] 108 = true := isK_t g rfl
  unfold c_1037 t_615
  rw [if_pos k89, ga_por q, q10, isInB, Option.bind_some]
  cases hb : inB v1 (Int32.ofNat nP) with
  | false =>
    exact Rg.arg (x := 0) (a := 0) (b := 0) hw hR rfl (by simp [goes_0]) (by omega) (by omega)
  | true =>
  obtain ⟨p, hp, rfl⟩ := inB_nat nP (by omega) hb
  have hbu : ¬ t.1 1 = 0 := fun z => by have := (z0 z).2.2.2.2.1; omega
  obtain ⟨h1, p179, h3⟩ := q4 p hp
  obtain ⟨_, _, ⟨_, d179, _⟩, _, h12, h13, h14, h15, ⟨n, n1, n2, n3, n4⟩, _⟩ := h3
  have hnT : nT ≤ K := r.2.2.2.2.2.2.2.2.1.1
  rw [if_pos rfl, if_pos rfl, Option.bind_some, Sum.elim_inl, bN_of (by omega), goes_1 t hbu]; repeat (first | rw [Option.bind_some] | rw [Sum.elim_inl] | rw [Sum.elim_inr] | rw [if_neg (show ¬ (1 : Int32) = 0 by decide)] | rw [if_pos (show (0 : Int32) = 0 from rfl)] | rw [if_pos (show true = true from rfl)] | rw [if_neg (show ¬ false = true by decide)] | dsimp only)
  have eoff : knw (t.2.2.1 15 p) = 2147483647 ↔ t.2.2.1 15 p = 1000000 := by
    rcases h15 with ⟨z, _⟩ | ⟨b, hb, z⟩
    · rw [z]; exact ⟨fun _ => rfl, fun _ => rfl⟩
    · have nb : ¬ Int32.ofNat b = 1000000 := by rw [i_eqL (by omega) (by omega)]; omega
      rw [z]; unfold knw; rw [if_neg nb]
      exact ⟨fun w => by rw [i_eqL (by omega) (by omega)] at w; omega, fun w => absurd w nb⟩
  have e992 : c_992 (P p) s = some (if t.2.2.1 15 p = 1000000 then 0 else 1) := by
    unfold c_992
    rw [xI_o (x := knw (t.2.2.1 15 p)) h1 rfl rfl, Option.bind_some]
    by_cases z : t.2.2.1 15 p = 1000000
    · rw [if_pos (eoff.mpr z), if_pos z]
    · rw [if_neg (fun w => z (eoff.mp w)), if_neg z]
  rw [if_pos (isK_t h1 rfl), e992]; repeat (first | rw [Option.bind_some] | rw [Sum.elim_inl] | rw [Sum.elim_inr])
  have r0 := ga_pt r 0
  by_cases hv : v2 = 0
  · rw [if_pos hv, if_pos hv, if_pos hv]; repeat (first | rw [Option.bind_some] | rw [Sum.elim_inl] | rw [Sum.elim_inr])
    by_cases z : t.2.2.1 15 p = 1000000
    · have z16 : t.2.2.1 16 p = 0 := by
        rcases h15 with ⟨_, w⟩ | ⟨b, hb, w⟩
        · exact w
        · rw [w] at z
          exact absurd z (by rw [i_eqL (by omega) (by omega)]; omega)
      have ex : wh (S := TS × Int32) (X := TS) (joT p) (ptI t 0 0, 0) = some (ptI t 0 0) := wh_inr (by
        unfold joT
        dsimp only
        rw [rdI_n (by omega) (by omega), Option.bind_some, show (ptI t 0 0).2.2.1 16 p = 0 from z16]; rfl)
      unfold joT at ex
      rw [if_pos z, if_pos rfl]; repeat (first | rw [Option.bind_some] | rw [Sum.elim_inl] | rw [Sum.elim_inr])
      rw [xI_o (x := knw (t.2.2.1 15 p)) h1 rfl rfl]; repeat (first | rw [Option.bind_some] | rw [Sum.elim_inl] | rw [Sum.elim_inr])
      rw [xP_c (fs' := [.int (Int32.ofNat p), .ref (G p), .int (t.2.2.1 7 p), .int (t.2.2.1 8 p), .int (cxP t p), .int (cyP t p), .int (flB t p), .int (t.2.2.1 12 p), .int (t.2.2.1 13 p), .int (t.2.2.1 14 p), .int (knw (t.2.2.1 15 p)), .ref (D p), .ref (L p)]) h1 rfl (by simp) rfl, ex]; repeat (first | rw [Option.bind_some] | rw [Sum.elim_inl] | rw [Sum.elim_inr])
      rw [rdI_n (by omega) (by omega), stI_n (by omega) (by omega)]; repeat (first | rw [Option.bind_some] | rw [Sum.elim_inl] | rw [Sum.elim_inr])
      rw [stI_n (by omega) (by omega)]; repeat (first | rw [Option.bind_some] | rw [Sum.elim_inl] | rw [Sum.elim_inr])
      have T3 : ∀ c j, (wrI (wrI (ptI t 0 0) 16 p 0) 15 p 1000000).2.2.1 c j = t.2.2.1 c j := fun c j => by
        show (if c = 15 ∧ j = p then (1000000 : Int32) else if c = 16 ∧ j = p then 0 else t.2.2.1 c j) = _
        by_cases w : c = 15 ∧ j = p
        · rw [if_pos w, w.1, w.2, z]
        · rw [if_neg w]
          by_cases w : c = 16 ∧ j = p
          · rw [if_pos w, w.1, w.2, z16]
          · rw [if_neg w]
      refine Rg.mono (ga_pend (x := 0) (T := wrI (wrI (ptI t 0 0) 16 p 0) 15 p 1000000) hw r hp rfl (fun Z h4 h9 => by rw [rt_wrI (by show (4 : Nat) ≠ Z; omega), rt_wrI (by show (4 : Nat) ≠ Z; omega), ptI_rt h9]) (fun c hc => if_neg hc) (fun c j hh => T3 c j) ?_ ?_ ?_ ?_ ?_ ?_) (by omega) (by omega)
      · rw [T3]; exact h12
      · rw [T3]; exact h13
      · rw [T3]; exact h14
      · rw [T3]; exact h15
      · unfold porC cxP cyP flB
        simp only [T3]
      · rw [show (ptI t 0 0).2.2.1 16 p = 0 from z16]
    · rw [if_neg z, if_neg (show ¬ (1 : Int32) = 0 by decide)]
      obtain ⟨x, y, e1, e2, e3, own', a', F', f1, f2, f3, f4, f5, f6, f7, f8⟩ := off_loop (t := ptI t 0 0) hw hs hK r0 hbu hnw h101 h2 hp z n2 n1
      unfold joT at e2
      rw [e1, e2]; repeat (first | rw [Option.bind_some] | rw [Sum.elim_inl] | rw [Sum.elim_inr])
      obtain ⟨oD, lD0⟩ := (rs_in (r.2.2.2.2.2.2.1.2.2.2.1 p hp).2.2.2.2.2.2.2.2.2.2.1.choose_spec.2.2.1).symm
      obtain ⟨dP0, oP⟩ := rs_in (r.2.2.2.2.2.2.1.2.2.2.1 p hp).1
      have lD := wf_lt hw lD0
      have lP := wf_lt hw dP0
      have nDP : P p ≠ D p := apart dP0 lD0 (by show (80 : Nat) ≠ 1004; decide)
      have dP1 : x.1.1 (P p) = _ := (lU_in (f1.2.2.2.2.2.2.1.2.2.2.1 p hp).1 nDP).1
      have epor : porC y G D L p = porC t G D L p := by
        unfold porC cxP cyP flB
        rw [f6 7 (by omega) (by omega), f6 8 (by omega) (by omega), f6 9 (by omega) (by omega), f6 11 (by omega) (by omega), f6 12 (by omega) (by omega), f6 13 (by omega) (by omega), f6 14 (by omega) (by omega), f6 15 (by omega) (by omega), f6 50 (by omega) (by omega), f6 51 (by omega) (by omega), f6 52 (by omega) (by omega)]
        rfl
      rw [xP_c (fs' := [.int (Int32.ofNat p), .ref (G p), .int (y.2.2.1 7 p), .int (y.2.2.1 8 p), .int (cxP y p), .int (cyP y p), .int (flB y p), .int (y.2.2.1 12 p), .int (y.2.2.1 13 p), .int (y.2.2.1 14 p), .int 2147483647, .ref (D p), .ref (L p)]) dP1 rfl (by simp [porC]) rfl]; repeat (first | rw [Option.bind_some] | rw [Sum.elim_inl] | rw [Sum.elim_inr])
      rw [rdI_n (by omega) (by omega), stI_n (by omega) (by omega)]; repeat (first | rw [Option.bind_some] | rw [Sum.elim_inl] | rw [Sum.elim_inr])
      rw [stI_n (by omega) (by omega)]; repeat (first | rw [Option.bind_some] | rw [Sum.elim_inl] | rw [Sum.elim_inr])
      have y16 : y.2.2.1 16 p = Int32.ofNat n := by rw [f6 16 (by omega) (by omega)]; exact n2
      have T3 : ∀ c j, (wrI (wrI y 16 p 0) 15 p 1000000).2.2.1 c j = if c = 15 ∧ j = p then (1000000 : Int32) else if c = 16 ∧ j = p then 0 else y.2.2.1 c j := fun c j => rfl
      have oD' : own' (D p) = 4 := (f2.2.1 _ lD).trans oD
      have oP' : own' (P p) = 4 := (f2.2.1 _ lP).trans oP
      have hpc : porC (wrI (wrI y 16 p 0) 15 p 1000000) G D L p = (true, false, 80, [.int (Int32.ofNat p), .ref (G p), .int (y.2.2.1 7 p), .int (y.2.2.1 8 p), .int (cxP y p), .int (cyP y p), .int (flB y p), .int (y.2.2.1 12 p), .int (y.2.2.1 13 p), .int (y.2.2.1 14 p), .int 2147483647, .ref (D p), .ref (L p)]) := by
        unfold porC cxP cyP flB
        simp [T3, knw]
      rw [← hpc]
      refine Or.inl ⟨Int32.ofNat n, cup x.1 (P p) (porC (wrI (wrI y 16 p 0) 15 p 1000000) G D L p), wrI (wrI y 16 p 0) 15 p 1000000, own', ?_, by rw [y16], ?_, fun Z h4 h9 => ?_, f2.trans (frm_cup f2.2.2.2.2 (wf_lt f2.2.2.2.2 dP1) oP'), ⟨_, _, _, _, _, _, _, _, _, _, _, _, _, _, _, _, _, _, _, _, _, _, _, _, _, R4_end (p := p) f1 hp (fun q c h6 h7 h8 => ?_) rfl (fun c j hh => ?_) ?_ ?_ ?_ ?_⟩, f7, f8⟩
      · rw [e3]
      · exact f5 0 (by omega)
      · rw [rt_wrI (by show (4 : Nat) ≠ Z; omega), rt_wrI (by show (4 : Nat) ≠ Z; omega), f4 Z h4 h9, ptI_rt h9]
      · rw [lU_ne0 _ _ h6] at h8
        exact rs_keep f2.2.2.2.2 (fun _ _ => rfl) h8 (cup_ne h7)
      · rw [T3, if_neg (by omega), if_neg (by omega)]
      · rw [T3, if_pos ⟨rfl, rfl⟩]
      · rw [T3, if_neg (by omega), if_pos ⟨rfl, rfl⟩]
      · exact rs_some.mpr ⟨oD', (cup_ne nDP.symm).trans f3⟩
      · exact rs_some.mpr ⟨oP', cup_eq ..⟩
  · rw [if_neg hv, if_neg hv, if_neg hv, if_pos (isK_t h1 rfl)]; repeat (first | rw [Option.bind_some] | rw [Sum.elim_inl] | rw [Sum.elim_inr])
    rw [rdI_n (by omega) (by omega)]; repeat (first | rw [Option.bind_some] | rw [Sum.elim_inl] | rw [Sum.elim_inr])
    rw [show (ptI t 0 0).2.2.1 15 p = t.2.2.1 15 p from rfl]
    have g45 : t.1 45 = Int32.ofNat nT := r.2.2.1.1
    have hE : ∃ v, (t.2.2.1 15 p = 1000000 → v = t.1 45) ∧ (¬ t.2.2.1 15 p = 1000000 → v = t.2.2.1 15 p) ∧ Option.bind (if t.2.2.1 15 p = 1000000 then some ((ptI t 0 0).1 45) else some (t.2.2.1 15 p)) (fun v29 => Option.bind (stI (ptI t 0 0) 15 1400 (Int32.ofNat p) v29) (fun s24 => some ((0 : Int32), s24))) = some (0, wrI (ptI t 0 0) 15 p v) ∧ (∀ {A : Type} (f : Int32 → Option A), Option.bind (Option.bind (if (if t.2.2.1 15 p = 1000000 then (0 : Int32) else 1) = 0 then Option.bind (xI s [(89, 9)] 108) (fun x12 => some (Sum.inr (α := Unit) x12)) else some (.inl ())) (Sum.elim (fun v18 => Option.bind (xI s [(80, 10)] (P p)) (fun x13 => some x13)) (fun z => some z))) f = f v) ∧ bel v (nT + 1) := by
      rw [xI_o (x := t.1 45) g rfl rfl, xI_o (x := knw (t.2.2.1 15 p)) h1 rfl rfl]
      by_cases z : t.2.2.1 15 p = 1000000
      · refine ⟨t.1 45, fun _ => rfl, fun w => absurd z w, ?_, fun f => ?_, ⟨nT, by omega, g45⟩⟩
        · rw [if_pos z, Option.bind_some, stI_n (by omega) (by omega)]; rfl
        · rw [if_pos z, if_pos rfl]; rfl
      · refine ⟨t.2.2.1 15 p, fun w => absurd w z, fun _ => rfl, ?_, fun f => ?_, ?_⟩
        · rw [if_neg z, Option.bind_some, stI_n (by omega) (by omega)]; rfl
        · rw [if_neg z, if_neg (by decide)]
          unfold knw
          rw [if_neg z]; rfl
        · rcases h15 with w | w
          · exact absurd w.1 z
          · exact w
    obtain ⟨v, _, _, hE1, hE2, hE3⟩ := hE
    rw [hE1, hE2, xP_c (fs' := [.int (Int32.ofNat p), .ref (G p), .int (t.2.2.1 7 p), .int (t.2.2.1 8 p), .int (cxP t p), .int (cyP t p), .int (flB t p), .int (t.2.2.1 12 p), .int (t.2.2.1 13 p), .int (t.2.2.1 14 p), .int v, .ref (D p), .ref (L p)]) h1 rfl (by simp [porC]) rfl]; repeat (first | rw [Option.bind_some] | rw [Sum.elim_inl] | rw [Sum.elim_inr])
    have T3 : ∀ c j, (wrI (ptI t 0 0) 15 p v).2.2.1 c j = if c = 15 ∧ j = p then v else t.2.2.1 c j := fun c j => rfl
    refine Rg.mono (ga_pend (x := 0) (T := wrI (ptI t 0 0) 15 p v) hw r hp rfl (fun Z h4 h9 => by rw [rt_wrI (by show (4 : Nat) ≠ Z; omega), ptI_rt h9]) (fun c hc => if_neg hc) (fun c j hh => by rw [T3, if_neg (by omega)]) ?_ ?_ ?_ ?_ ?_ rfl) (by omega) (by omega)
    · rw [T3, if_neg (by omega)]; exact h12
    · rw [T3, if_neg (by omega)]; exact h13
    · rw [T3, if_neg (by omega)]; exact h14
    · rw [T3, if_pos ⟨rfl, rfl⟩]; exact Or.inr hE3
    · have hk : knw v = v := by
        obtain ⟨b, hb, e⟩ := hE3
        unfold knw
        rw [if_neg (by rw [e, i_eqL (by omega) (by omega)]; omega)]
      have : porC (wrI (ptI t 0 0) 15 p v) G D L p = (true, false, 80, [.int (Int32.ofNat p), .ref (G p), .int (t.2.2.1 7 p), .int (t.2.2.1 8 p), .int (cxP t p), .int (cyP t p), .int (flB t p), .int (t.2.2.1 12 p), .int (t.2.2.1 13 p), .int (t.2.2.1 14 p), .int v, .ref (D p), .ref (L p)]) := by
        unfold porC cxP cyP flB
        simp [T3, hk]
      rw [this]
end
