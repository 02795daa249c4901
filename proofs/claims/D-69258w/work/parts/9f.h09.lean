/-! the gate: two, stands -/
theorem R4_por {h h' : lHeap} {t T : TS} {K zn nr nS nT nC nR nP nL a p : Nat} {rel : Int32} {S C CS' CM CT E RS RM' RT P G D L F : Nat → Nat} {RW : Nat → Nat → Nat} (r : R4x h t K zn nr nS nT nC nR nP nL a rel S C CS' CM CT E RS RM' RT P G D L F RW) (hp : p < nP) (hh : ∀ q c, q ≠ P p → h q = some c → h' q = some c) (h1 : ∀ c, c ≠ 0 → T.1 c = t.1 c) (h3 : ∀ c j, ¬ (12 ≤ c ∧ c ≤ 15 ∧ j = p) → T.2.2.1 c j = t.2.2.1 c j) (k12 : v01 (T.2.2.1 12 p)) (k13 : v01 (T.2.2.1 13 p)) (k14 : bel (T.2.2.1 14 p) 6001) (k15 : (T.2.2.1 15 p = 1000000 ∧ t.2.2.1 16 p = 0) ∨ bel (T.2.2.1 15 p) (nT + 1)) (hc : h' (P p) = some (porC T G D L p)) : R4x h' T K zn nr nS nT nC nR nP nL a rel S C CS' CM CT E RS RM' RT P G D L F RW := by
  obtain ⟨v0, v1, v2t, v2c, v2r, v2d, v3, v4, v5, v6⟩ := r
  have hP := (v3.2.2.2.1 p hp).1
  have hH : ∀ X : Nat → lCell → Prop, (∀ c, X (P p) c → c.2.2.1 = 80 → False) → hS h h' X := fun X hx => hS_mk hP hh hx
  have nP : ∀ q, q = 108 ∨ q = 110 ∨ q = 111 ∨ q = 112 ∨ q = 113 ∨ q = 114 → P p ≠ q := fun q hq z => by have := (v3.2.2.2.1 p hp).2.1; omega
  have T3 : ∀ c, ¬ (12 ≤ c ∧ c ≤ 15) → T.2.2.1 c = t.2.2.1 c := fun c hc => funext (fun j => h3 c j (by omega))
  have eq : ∀ l : List Nat, (∀ c ∈ l, ¬ (12 ≤ c ∧ c ≤ 15)) → eqR t T l := fun l hl c hc => T3 c (hl c hc)
  refine ⟨V0_cg v0 (hH _ (fun c z1 z2 => by rcases z1 with z | z; exact nP 108 (by omega) z; omega)) (h1 1 (by omega)) (h1 9 (by omega)) (h1 49 (by omega)) (h1 45 (by omega)) (T3 64 (by omega)), V1_cg v1 (hH _ (fun c z1 z2 => by rcases z1 with z | z; exact nP 111 (by omega) z; omega)) (h1 27 (by omega)) (h1 9 (by omega)) (eq _ (by decide)), ⟨by rw [h1 45 (by omega)]; exact v2t.1, by rw [T3 39 (by omega)]; exact v2t.2⟩, V2c_cg v2c (hH _ (fun c z1 z2 => by rcases z1 with z | z | z | z; exact nP 112 (by omega) z; all_goals omega)) (h1 36 (by omega)) (eq _ (by decide)), V2r_cg v2r (hH _ (fun c z1 z2 => by rcases z1 with z | z | z | z; exact nP 113 (by omega) z; all_goals omega)) (h1 39 (by omega)) (eq _ (by decide)), v2d, ?_, V4_cg v4 (hH _ (fun c z1 z2 => by rcases z1 with z | z; exact nP 114 (by omega) z; omega)) (h1 49 (by omega)) (eq _ (by decide)), v5, by rw [h1 1 (by omega)]; exact v6⟩
  obtain ⟨⟨mc, x1⟩, x2, x3, x4, x5, x6, x7, x8, x9⟩ := v3
  refine ⟨⟨mc, hh _ _ (nP 110 (by omega)).symm x1⟩, by rw [h1 10 (by omega)]; exact x2, x3, fun p' hp' => ?_, x5, x6, x7, by rw [h1 24 (by omega)]; exact x8, by rw [T3 20 (by omega), T3 21 (by omega)]; exact x9⟩
  obtain ⟨y1, y2, y3⟩ := x4 p' hp'
  refine ⟨?_, y2, ?_⟩
  · by_cases z : p' = p
    · rw [z]; exact hc
    · have : porC T G D L p' = porC t G D L p' := by
        unfold porC cxP cyP flB
        rw [T3 7 (by omega), T3 8 (by omega), T3 9 (by omega), T3 11 (by omega), T3 50 (by omega), T3 51 (by omega), T3 52 (by omega), h3 12 p' (by omega), h3 13 p' (by omega), h3 14 p' (by omega), h3 15 p' (by omega)]
      rw [this]
      exact hh _ _ (fun w => z (x5 p' p hp' hp w)) y1
  · have hg : hS h h' (fun _ c => c.2.2.1 = 79 ∨ c.2.2.1 = 1004 ∨ c.2.2.1 = 86 ∨ c.2.2.1 = 1003) := hH _ (fun c z1 z2 => by rcases z1 with z | z | z | z <;> omega)
    obtain ⟨a1, ⟨x, y, a2⟩, a3, a4, a5, a6, a7, a8, ⟨n, a9, a10, a11, a12⟩, xs, a13, a14⟩ := y3
    have q2 := hg _ _ (Or.inl rfl) a2
    unfold V3p okPor xIn yIn cxP cyP flB rowG lok at *
    rw [h1 9 (by omega), T3 7 (by omega), T3 8 (by omega), T3 9 (by omega), T3 10 (by omega), T3 11 (by omega), T3 16 (by omega), T3 17 (by omega), T3 18 (by omega), T3 19 (by omega), T3 20 (by omega), T3 21 (by omega), T3 50 (by omega), T3 51 (by omega), T3 52 (by omega)]
    have rest : (∃ n : Nat, n ≤ 20 ∧ t.2.2.1 16 p' = Int32.ofNat n ∧ h' (D p') = some (true, false, 1004, rowC (fun i => .ref (RW p' i)) n) ∧ ∀ i, i < n → h' (RW p' i) = some (true, false, 86, [.ref (C (bN (t.2.2.1 17 (20 * p' + i)))), .int (t.2.2.1 18 (20 * p' + i)), .int (t.2.2.1 19 (20 * p' + i))]) ∧ 179 ≤ RW p' i ∧ bel (t.2.2.1 17 (20 * p' + i)) nC ∧ (t.2.2.1 18 (20 * p' + i) = t.2.2.1 7 p' ∨ t.2.2.1 18 (20 * p' + i) = t.2.2.1 8 p') ∧ bel (t.2.2.1 19 (20 * p' + i)) 101) := ⟨n, a9, a10, hg _ _ (Or.inr (Or.inl rfl)) a11, fun i hi => ⟨hg _ _ (Or.inr (Or.inr (Or.inl rfl))) (a12 i hi).1, (a12 i hi).2⟩⟩
    by_cases z : p' = p
    · subst z
      exact ⟨by rw [q2]; simp, ⟨x, y, q2⟩, a3, a4, k12, k13, k14, k15, rest, xs, hg _ _ (Or.inr (Or.inr (Or.inr rfl))) a13, a14⟩
    · rw [h3 12 p' (by omega), h3 13 p' (by omega), h3 14 p' (by omega), h3 15 p' (by omega)]
      exact ⟨by rw [q2]; simp, ⟨x, y, q2⟩, a3, a4, a5, a6, a7, a8, rest, xs, hg _ _ (Or.inr (Or.inr (Or.inr rfl))) a13, a14⟩
section
variable {own : Nat → Nat} {s : CS} {t : TS} {K : Nat}
/-- a portal's cell is changed: the operation's end -/
theorem ga_pend {T : TS} {zn nr nS nT nC nR nP nL a p : Nat} {rel x : Int32} {S C CS' CM CT E RS RM' RT P G D L F : Nat → Nat} {RW : Nat → Nat → Nat} (hw : wfS s) (r : R4x (rs s.1 own 4) t K zn nr nS nT nC nR nP nL a rel S C CS' CM CT E RS RM' RT P G D L F RW) (hp : p < nP) (h0 : T.1 0 = 0) (hrt : ∀ Z, Z ≠ 4 → Z ≠ 99 → rt T Z = rt t Z) (h1 : ∀ c, c ≠ 0 → T.1 c = t.1 c) (h3 : ∀ c j, ¬ (12 ≤ c ∧ c ≤ 15 ∧ j = p) → T.2.2.1 c j = t.2.2.1 c j) (k12 : v01 (T.2.2.1 12 p)) (k13 : v01 (T.2.2.1 13 p)) (k14 : bel (T.2.2.1 14 p) 6001) (k15 : (T.2.2.1 15 p = 1000000 ∧ t.2.2.1 16 p = 0) ∨ bel (T.2.2.1 15 p) (nT + 1)) {c : Option (Sum (Int32 × CS) (Nat × CS))} {d : Option (Int32 × TS)} (hc : c = some (.inl (x, cup s (P p) (porC T G D L p)))) (hd : d = some (x, T)) : Rg thr0 (fun X => X = 4) 4 (fun H t => R4 (H 4) t (K + 1)) own s t 0 0 c d := by
  have hP := (r.2.2.2.2.2.2.1.2.2.2.1 p hp).1
  have o := rs_in hP
  have l := wf_lt hw o.1
  refine Or.inl ⟨x, _, T, own, hc, hd, h0, hrt, frm_cup hw l o.2, R4_K ⟨zn, nr, nS, nT, nC, nR, nP, nL, a, rel, S, C, CS', CM, CT, E, RS, RM', RT, P, G, D, L, F, RW, R4_por r hp (fun q c hq hqc => rs_keep hw (fun _ _ => rfl) hqc (cup_ne hq)) h1 h3 k12 k13 k14 k15 (rs_some.mpr ⟨o.2, cup_eq ..⟩)⟩ (Nat.le_succ K), Nat.le_refl _, Nat.le_refl _⟩
theorem fitB1 {x : Int32} (h : v01 x) : fits .boolean (.int x) = true := by
  rcases h with rfl | rfl <;> rfl
theorem and1 {x : Int32} (h : v01 x) : x &&& 1 = x := by
  rcases h with rfl | rfl <;> rfl
theorem ga_two (hw : wfS s) (r : R4 (rs s.1 own 4) t K) (v1 v2 : Int32) (hv : v01 v2) : Rg thr0 (fun X => X = 4) 4 (fun H t => R4 (H 4) t (K + 1)) own s t 0 0 (c_1034 108 v1 v2 s) (t_601 v1 v2 t) := by
  obtain ⟨zn, nr, nS, nT, nC, nR, nP, nL, a, rel, S, C, CS', CM, CT, E, RS, RM', RT, P, G, D, L, F, RW, r⟩ := r
  have q := R4_raw r
  have hR := ga_ex r
  have q' := q
  obtain ⟨⟨g, _⟩, _, _, _, _, _, ⟨_, q10, qn, q4, _⟩, _, _, z0⟩ := q'
  have k89 : isK s [89] 108 = true := isK_t g rfl
  unfold c_1034 t_601
  rw [if_pos k89, ga_por q, q10, isInB, Option.bind_some]
  cases hb : inB v1 (Int32.ofNat nP) with
  | true =>
    obtain ⟨p, hp, rfl⟩ := inB_nat nP (by omega) hb
    have hbu : ¬ t.1 1 = 0 := fun z => by have := (z0 z).2.2.2.2.1; omega
    obtain ⟨h1, h2, h3⟩ := q4 p hp
    obtain ⟨_, _, _, _, h12, h13, h14, h15, _⟩ := h3
    rw [if_pos rfl, if_pos rfl, Option.bind_some, Sum.elim_inl, bN_of (by omega), goes_1 t hbu]; repeat (first | rw [Option.bind_some] | rw [Sum.elim_inl] | rw [Sum.elim_inr] | rw [if_neg (show ¬ (1 : Int32) = 0 by decide)] | rw [if_pos (show (0 : Int32) = 0 from rfl)] | rw [if_pos (show true = true from rfl)] | rw [if_neg (show ¬ false = true by decide)] | dsimp only)
    rw [xI_o (x := t.2.2.1 12 p) h1 rfl rfl, rdI_n (by omega) (by omega), stI_n (by omega) (by omega), and1 hv]; repeat (first | rw [Option.bind_some] | rw [Sum.elim_inl] | rw [Sum.elim_inr])
    rw [if_pos (fitB1 hv), xP_c (fs' := [.int (Int32.ofNat p), .ref (G p), .int (t.2.2.1 7 p), .int (t.2.2.1 8 p), .int (cxP t p), .int (cyP t p), .int (flB t p), .int v2, .int (t.2.2.1 13 p), .int (t.2.2.1 14 p), .int (knw (t.2.2.1 15 p)), .ref (D p), .ref (L p)]) h1 rfl (by simp) rfl]; repeat (first | rw [Option.bind_some] | rw [Sum.elim_inl] | rw [Sum.elim_inr])
    rw [if_pos (fitB1 h12), if_pos (show (ptI t 0 0).2.2.1 12 p = 0 ∨ (ptI t 0 0).2.2.1 12 p = 1 from h12)]
    have T3 : ∀ c j, (wrI (ptI t 0 0) 12 p v2).2.2.1 c j = if c = 12 ∧ j = p then v2 else t.2.2.1 c j := fun _ _ => rfl
    refine ga_pend (T := wrI (ptI t 0 0) 12 p v2) hw r hp rfl (fun Z h4 h9 => by rw [rt_wrI (by show (4 : Nat) ≠ Z; omega), ptI_rt h9]) (fun c hc => if_neg hc) (fun c j hh => by rw [T3, if_neg (by omega)]) ?_ ?_ ?_ ?_ ?_ rfl
    · rw [T3, if_pos ⟨rfl, rfl⟩]; exact hv
    · rw [T3, if_neg (by omega)]; exact h13
    · rw [T3, if_neg (by omega)]; exact h14
    · rw [T3, if_neg (by omega)]; exact h15
    · unfold porC cxP cyP flB
      simp [T3, pt_2]
  | false =>
    exact Rg.arg (x := 0) (a := 0) (b := 0) hw hR rfl (by simp [goes_0]) (by omega) (by omega)
theorem ga_stands (hw : wfS s) {nw : Nat} (hnw : nw ≤ 6000) (h101 : s.1 101 = some (true, false, 56, [.int (t.1 2)])) (h2 : t.1 2 = Int32.ofNat nw) (r : R4 (rs s.1 own 4) t K) (v1 v2 : Int32) (hv : v01 v2) : Rg thr0 (fun X => X = 4) 4 (fun H t => R4 (H 4) t (K + 1)) own s t 0 0 (c_1036 108 v1 v2 s) (t_604 v1 v2 t) := by
  obtain ⟨zn, nr, nS, nT, nC, nR, nP, nL, a, rel, S, C, CS', CM, CT, E, RS, RM', RT, P, G, D, L, F, RW, r⟩ := r
  have q := R4_raw r
  have hR := ga_ex r
  have q' := q
  obtain ⟨⟨g, _⟩, _, _, _, _, _, ⟨_, q10, qn, q4, _⟩, _, _, z0⟩ := q'
  have k89 : isK s [89] 108 = true := isK_t g rfl
  unfold c_1036 t_604
  rw [if_pos k89, ga_por q, q10, isInB, Option.bind_some]
  cases hb : inB v1 (Int32.ofNat nP) with
  | true =>
    obtain ⟨p, hp, rfl⟩ := inB_nat nP (by omega) hb
    have hbu : ¬ t.1 1 = 0 := fun z => by have := (z0 z).2.2.2.2.1; omega
    obtain ⟨h1, h2', h3⟩ := q4 p hp
    obtain ⟨_, _, _, _, h12, h13, h14, h15, _⟩ := h3
    rw [if_pos rfl, if_pos rfl, Option.bind_some, Sum.elim_inl, bN_of (by omega), goes_1 t hbu]; repeat (first | rw [Option.bind_some] | rw [Sum.elim_inl] | rw [Sum.elim_inr] | rw [if_neg (show ¬ (1 : Int32) = 0 by decide)] | rw [if_pos (show (0 : Int32) = 0 from rfl)] | rw [if_pos (show true = true from rfl)] | rw [if_neg (show ¬ false = true by decide)] | dsimp only)
    rw [xN_o (b := 101) g rfl rfl]; repeat (first | rw [Option.bind_some] | rw [Sum.elim_inl] | rw [Sum.elim_inr])
    rw [xI_o (x := t.1 2) h101 rfl rfl, xI_o (x := t.2.2.1 14 p) h1 rfl rfl, xI_o (x := t.2.2.1 13 p) h1 rfl rfl, rdI_n (by omega) (by omega), rdI_n (by omega) (by omega)]; repeat (first | rw [Option.bind_some] | rw [Sum.elim_inl] | rw [Sum.elim_inr])
    have ex : ∀ {A : Type} {f : Int32 → Option A}, Option.bind (if t.2.2.1 13 p = v2 then some (t.2.2.1 14 p) else some (t.1 2)) f = f (if t.2.2.1 13 p = v2 then t.2.2.1 14 p else t.1 2) := fun {A f} => by split <;> rfl
    rw [ex, show (if (ptI t 0 0).2.2.1 13 p = v2 then some ((ptI t 0 0).2.2.1 14 p) else some ((ptI t 0 0).1 2)) = (if t.2.2.1 13 p = v2 then some (t.2.2.1 14 p) else some (t.1 2)) from rfl, ex, stI_n (by omega) (by omega)]; repeat (first | rw [Option.bind_some] | rw [Sum.elim_inl] | rw [Sum.elim_inr])
    rw [stI_n (by omega) (by omega), and1 hv, xP_c (fs' := [.int (Int32.ofNat p), .ref (G p), .int (t.2.2.1 7 p), .int (t.2.2.1 8 p), .int (cxP t p), .int (cyP t p), .int (flB t p), .int (t.2.2.1 12 p), .int (t.2.2.1 13 p), .int (if t.2.2.1 13 p = v2 then t.2.2.1 14 p else t.1 2), .int (knw (t.2.2.1 15 p)), .ref (D p), .ref (L p)]) h1 rfl (by simp) rfl]; repeat (first | rw [Option.bind_some] | rw [Sum.elim_inl] | rw [Sum.elim_inr])
    rw [if_pos (fitB1 hv), xP_c (fs' := [.int (Int32.ofNat p), .ref (G p), .int (t.2.2.1 7 p), .int (t.2.2.1 8 p), .int (cxP t p), .int (cyP t p), .int (flB t p), .int (t.2.2.1 12 p), .int v2, .int (if t.2.2.1 13 p = v2 then t.2.2.1 14 p else t.1 2), .int (knw (t.2.2.1 15 p)), .ref (D p), .ref (L p)]) (cup_eq ..) rfl (by simp) rfl, cupU]; repeat (first | rw [Option.bind_some] | rw [Sum.elim_inl] | rw [Sum.elim_inr])
    have T3 : ∀ c j, (wrI (wrI (ptI t 0 0) 14 p (if t.2.2.1 13 p = v2 then t.2.2.1 14 p else t.1 2)) 13 p v2).2.2.1 c j = if c = 13 ∧ j = p then v2 else if c = 14 ∧ j = p then (if t.2.2.1 13 p = v2 then t.2.2.1 14 p else t.1 2) else t.2.2.1 c j := fun _ _ => rfl
    refine ga_pend (x := t.1 2 - t.2.2.1 14 p) (T := wrI (wrI (ptI t 0 0) 14 p (if t.2.2.1 13 p = v2 then t.2.2.1 14 p else t.1 2)) 13 p v2) hw r hp rfl (fun Z h4 h9 => by rw [rt_wrI (by show (4 : Nat) ≠ Z; omega), rt_wrI (by show (4 : Nat) ≠ Z; omega), ptI_rt h9]) (fun c hc => if_neg hc) (fun c j hh => by rw [T3, if_neg (by omega), if_neg (by omega)]) ?_ ?_ ?_ ?_ ?_ rfl
    · rw [T3, if_neg (by omega), if_neg (by omega)]; exact h12
    · rw [T3, if_pos ⟨rfl, rfl⟩]; exact hv
    · rw [T3, if_neg (show ¬ ((14 : Nat) = 13 ∧ p = p) by omega), if_pos (show (14 : Nat) = 14 ∧ p = p from ⟨rfl, rfl⟩)]
      by_cases z : t.2.2.1 13 p = v2
      · rw [if_pos z]; exact h14
      · rw [if_neg z]; exact ⟨nw, by omega, h2⟩
    · rw [T3, if_neg (by omega), if_neg (by omega)]; exact h15
    · unfold porC cxP cyP flB
      simp [T3, pt_2]
  | false =>
    exact Rg.arg (x := 0) (a := 0) (b := 0) hw hR rfl (by simp [goes_0]) (by omega) (by omega)
end
