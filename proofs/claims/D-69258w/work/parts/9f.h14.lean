/-! the gate: refused -/
theorem hitE (A B : Prop) [Decidable A] [Decidable B] (α β k : Int32) (hα : v01 α) (hβ : v01 β) : Option.bind (if A then (if β = 0 then some (0 : Int32) else some 1) else some 0) (fun v89 => Option.bind (if v89 = 0 then (if B then (if α = 0 then some (0 : Int32) else some 6) else some 0) else some 6) (fun v109 => some (Sum.inl (β := Int32) (v109, k)))) = some (.inl (if (A ∧ β = 1) ∨ (B ∧ α = 1) then 6 else 0, k)) := by
  rcases hα with rfl | rfl <;> rcases hβ with rfl | rfl <;> by_cases a : A <;> by_cases b : B <;> simp [a, b]
section
variable {s : CS} {t : TS} {K zn nr nS nT nC nR nP nL a : Nat} {rel : Int32} {S C CS' CM CT E RS RM' RT P G D L F : Nat → Nat} {RW : Nat → Nat → Nat}
theorem t_lkd (hK : K < 1000) (r : R4x s.1 t K zn nr nS nT nC nR nP nL a rel S C CS' CM CT E RS RM' RT P G D L F RW) {p : Nat} (hp : p < nP) (i0 : Int32) : Tr (wh (S := Int32 × Int32) (X := Int32) (fun p66 => (if p66.2 < (t.1 24) then (if p66.1 = 0 then Option.bind (rdI t 20 4100 p66.2) (fun x10 => Option.bind ((if x10 = Int32.ofNat p then Option.bind (rdI t 21 4100 p66.2) (fun x11 => Option.bind (rdI t 13 1400 x11) (fun x12 => (if x12 = 0 then some (0 : Int32) else some 1))) else some 0)) (fun v89 => Option.bind ((if v89 = 0 then Option.bind (rdI t 21 4100 p66.2) (fun x13 => (if x13 = Int32.ofNat p then Option.bind (rdI t 20 4100 p66.2) (fun x14 => Option.bind (rdI t 13 1400 x14) (fun x15 => (if x15 = 0 then some (0 : Int32) else some 6))) else some 0)) else some 6)) (fun v109 => some (.inl (v109, p66.2 + 1))))) else some (.inr p66.1)) else some (.inr p66.1))) (i0, 0)) (fun x => if i0 = 0 then (x = 6 ∧ lkd t nL p) ∨ (x = 0 ∧ ¬ lkd t nL p) else x = i0) := by
  obtain ⟨_, _, _, _, _, _, ⟨_, q10, qn, q4, _, _, _, q24, qp⟩, _, ⟨_, nlK, _⟩, _⟩ := r
  by_cases hi : i0 = 0
  · subst hi
    refine Tr.mono (P := fun x => (x = 6 ∧ lkd t nL p) ∨ (x = 0 ∧ ¬ lkd t nL p)) ?_ (fun x h => by rw [if_pos rfl]; exact h)
    have hit : ∀ j, j < nL → ∀ (x y : Nat), x < 1400 → y < 1400 → t.2.2.1 20 j = Int32.ofNat x → t.2.2.1 21 j = Int32.ofNat y → ((x = p ∧ t.2.2.1 13 y = 1) ∨ (y = p ∧ t.2.2.1 13 x = 1)) → lkd t nL p := by
      intro j hj x y hx hy e1 e2 h
      rcases h with ⟨h1, h2⟩ | ⟨h1, h2⟩
      · exact ⟨y, hy, ⟨j, hj, Or.inl ⟨by rw [e1, h1], e2⟩⟩, h2⟩
      · exact ⟨x, hx, ⟨j, hj, Or.inr ⟨e1, by rw [e2, h1]⟩⟩, h2⟩
    refine wh_cnt nL (fun k a => a.2 = Int32.ofNat k ∧ ((a.1 = 6 ∧ lkd t nL p) ∨ (a.1 = 0 ∧ ∀ j, j < k → ∀ (x y : Nat), x < 1400 → y < 1400 → t.2.2.1 20 j = Int32.ofNat x → t.2.2.1 21 j = Int32.ofNat y → ¬ ((x = p ∧ t.2.2.1 13 y = 1) ∨ (y = p ∧ t.2.2.1 13 x = 1))))) ?_ ?_ ⟨rfl, Or.inr ⟨rfl, fun _ h => absurd h (by omega)⟩⟩
    · rintro k ⟨o, p2⟩ hk ⟨rfl, h⟩
      dsimp only at h ⊢
      rw [q24, if_pos ((i_lt (by omega) (by omega)).mpr hk)]
      rcases h with ⟨rfl, h⟩ | ⟨rfl, h⟩
      · exact Or.inl ⟨6, by rw [if_neg (show ¬ (6 : Int32) = 0 by decide)], Or.inl ⟨rfl, h⟩⟩
      · rw [if_pos rfl]
        obtain ⟨⟨x, hx, ex⟩, ⟨y, hy, ey⟩, _⟩ := qp k hk
        have v13 : ∀ z, z < nP → v01 (t.2.2.1 13 z) := fun z hz => (q4 z hz).2.2.2.2.2.2.2.1
        rw [rdI_n (by omega) (by omega), rdI_n (by omega) (by omega), ex, ey]
        simp only [Option.bind_some]
        rw [rdI_n (show y < 1400 by omega) (by omega), rdI_n (show x < 1400 by omega) (by omega)]
        simp only [Option.bind_some]
        have ixp : Int32.ofNat x = Int32.ofNat p ↔ x = p := i_inj (by omega) (by omega)
        have iyp : Int32.ofNat y = Int32.ofNat p ↔ y = p := i_inj (by omega) (by omega)
        simp only [ixp, iyp]
        have hx1 := v13 x hx
        have hy1 := v13 y hy
        rw [hitE _ _ _ _ _ hx1 hy1]
        by_cases hh : (x = p ∧ t.2.2.1 13 y = 1) ∨ (y = p ∧ t.2.2.1 13 x = 1)
        · rw [if_pos hh]
          exact Or.inr ⟨(6, Int32.ofNat k + 1), rfl, i_suc k, Or.inl ⟨rfl, hit k hk x y (by omega) (by omega) ex ey hh⟩⟩
        · rw [if_neg hh]
          refine Or.inr ⟨(0, Int32.ofNat k + 1), rfl, i_suc k, Or.inr ⟨rfl, fun j hj x' y' h1 h2 h3 h4 => ?_⟩⟩
          · by_cases z : j = k
            · subst z
              rw [ex] at h3
              rw [ey] at h4
              have := (i_inj (by omega) (by omega)).mp h3
              have := (i_inj (by omega) (by omega)).mp h4
              subst_vars
              exact hh
            · exact h j (by omega) x' y' h1 h2 h3 h4
    · rintro ⟨o, p2⟩ ⟨rfl, h⟩
      dsimp only at h ⊢
      refine ⟨o, by rw [q24, if_neg (by rw [i_lt (by omega) (by omega)]; omega)], ?_⟩
      rcases h with h | ⟨rfl, h⟩
      · exact Or.inl h
      · refine Or.inr ⟨rfl, fun ⟨q, w1, ⟨j, w2, w3⟩, w4⟩ => ?_⟩
        obtain ⟨⟨x, hx, ex⟩, ⟨y, hy, ey⟩, _⟩ := qp j w2
        refine h j w2 x y (by omega) (by omega) ex ey ?_
        rw [ex, ey, i_inj (by omega) (by omega), i_inj (by omega) (by omega), i_inj (by omega) (by omega), i_inj (by omega) (by omega)] at w3
        rcases w3 with ⟨u1, u2⟩ | ⟨u1, u2⟩
        · exact Or.inl ⟨u1, by rw [u2]; exact w4⟩
        · exact Or.inr ⟨u2, by rw [u1]; exact w4⟩
  · refine ⟨i0, wh_inr ?_, by dsimp only; rw [if_neg hi]⟩
    dsimp only
    rw [if_neg hi]
    split <;> rfl
theorem c_ref (hK : K < 1000) (r : R4x s.1 t K zn nr nS nT nC nR nP nL a rel S C CS' CM CT E RS RM' RT P G D L F RW) (hbu : ¬ t.1 1 = 0) {nw : Nat} (hnw : nw ≤ 6000) (h101 : s.1 101 = some (true, false, 56, [.int (t.1 2)])) (h2 : t.1 2 = Int32.ofNat nw) (hrel : t_608 t = some rel) {c p q : Nat} (hc : c < nC) (hp : p < nP) (hq : Int32.ofNat q = t.2.2.1 7 p ∨ Int32.ofNat q = t.2.2.1 8 p) (hqn : q ≤ nr) : ∃ v n, n ≤ 17 ∧ (v = 0 ∨ (0 : Int32) < v) ∧ c_1043 108 (C c) (P p) (Int32.ofNat q) s = some (v, chg s n n) ∧ t_607 (Int32.ofNat c) (Int32.ofNat p) (Int32.ofNat q) t = some v := by
  have hnT : nT ≤ K := r.2.2.2.2.2.2.2.2.1.1
  have r0 := r
  have hlk := c_lkd r hp
  have htl := fun i0 => t_lkd hK r hp i0
  obtain ⟨⟨g, g2, g3, g4, g5, g6⟩, v1, v2t, v2c, _, _, ⟨_, q10, qn, q4, _⟩, _⟩ := r0
  obtain ⟨d1, _, _, _, ⟨pn, hpn, e30⟩, _⟩ := v2c.2.2.2.1 c hc
  have hS40 := v1.2.2.1
  have hbp : bN (t.2.2.1 30 c) = pn := by rw [e30, bN_of (by omega)]
  have d1 : s.1 (C c) = some (true, false, 82, [.int (Int32.ofNat c), .ref (S pn), .int (t.2.2.1 31 c), .int (Int32.ofNat (CT c)), .ref (CS' c)]) := by rw [d1]; unfold carD; rw [hbp]
  have hS40 := v1.2.2.1
  have hC60 := v2c.2.2.1
  obtain ⟨dS, okS, _⟩ := v1.2.2.2.1 pn hpn
  obtain ⟨h1, _, h3⟩ := q4 p hp
  obtain ⟨_, _, _, ok, _, _, _, h15, _⟩ := h3
  have k89 : isK s [89] 108 = true := isK_t g rfl
  have e994 : c_994 (P p) (Int32.ofNat q) s = some (if t.2.2.1 7 p = Int32.ofNat q then t.2.2.1 8 p else t.2.2.1 7 p) := by
    unfold c_994
    rw [xI_o (x := t.2.2.1 7 p) h1 rfl rfl, xI_o (x := t.2.2.1 8 p) h1 rfl rfl]; repeat (first | rw [Option.bind_some] | rw [Sum.elim_inl] | rw [Sum.elim_inr])
    split <;> rfl
  have eo : (if Int32.ofNat q = t.2.2.1 7 p then some (t.2.2.1 8 p) else some (t.2.2.1 7 p)) = some (if t.2.2.1 7 p = Int32.ofNat q then t.2.2.1 8 p else t.2.2.1 7 p) := by
    by_cases z : Int32.ofNat q = t.2.2.1 7 p
    · rw [if_pos z, if_pos z.symm]
    · rw [if_neg z, if_neg (fun w => z w.symm)]
  have ho : ¬ (if t.2.2.1 7 p = Int32.ofNat q then t.2.2.1 8 p else t.2.2.1 7 p) < 0 := by
    obtain ⟨⟨x, hx, ex⟩, ⟨y, hy, ey⟩, _⟩ := ok
    have hb9 : bN (t.1 9) = nr := by rw [g4, bN_of (by omega)]
    rw [hb9] at hx hy
    split
    · rw [ey]; exact i_nlt0 (by omega)
    · rw [ex]; exact i_nlt0 (by omega)
  unfold c_1043 t_607
  rw [xN_o (b := S pn) d1 rfl rfl, rdI_n (by omega) (by omega), rdI_n (by omega) (by omega), rdI_n (by omega) (by omega), e30]; repeat (first | rw [Option.bind_some] | rw [Sum.elim_inl] | rw [Sum.elim_inr])
  rw [eo, xI_o (x := t.2.2.1 27 pn) dS rfl rfl]; repeat (first | rw [Option.bind_some] | rw [Sum.elim_inl] | rw [Sum.elim_inr])
  rw [rdI_n (by omega) (by omega)]; repeat (first | rw [Option.bind_some] | rw [Sum.elim_inl] | rw [Sum.elim_inr])
  generalize hoo : (if t.2.2.1 7 p = Int32.ofNat q then t.2.2.1 8 p else t.2.2.1 7 p) = o at *
  rcases okS.2.1 with z27 | z27
  · rw [if_pos z27, if_pos (show t.2.2.1 27 pn < 0 by rw [z27]; decide), xI_o (x := t.2.2.1 24 pn) dS rfl rfl]; repeat (first | rw [Option.bind_some] | rw [Sum.elim_inl] | rw [Sum.elim_inr])
    rw [if_pos (isK_t h1 rfl), e994, hrel]; repeat (first | rw [Option.bind_some] | rw [Sum.elim_inl] | rw [Sum.elim_inr])
    rw [xI_o (x := rel) g rfl rfl, rdI_n (by omega) (by omega)]; repeat (first | rw [Option.bind_some] | rw [Sum.elim_inl] | rw [Sum.elim_inr])
    have e17 : (if t.2.2.1 24 pn = o then some (0 : Int32) else some 1) = some (if t.2.2.1 24 pn = o then 0 else 1) := by split <;> rfl
    rw [e17]; repeat (first | rw [Option.bind_some] | rw [Sum.elim_inl] | rw [Sum.elim_inr])
    rcases g3 with hr0 | hr1
    · rw [hr0, if_pos rfl, if_pos rfl, xN_o (b := 101) g rfl rfl]; repeat (first | rw [Option.bind_some] | rw [Sum.elim_inl] | rw [Sum.elim_inr])
      rw [if_pos (isK_t h101 rfl)]
      have e823 : ∀ n, c_823 101 (chg s n n) = some (Int32.ofNat (nw / 60)) := fun n => by
        unfold c_823
        rw [xI_o (s := chg s n n) (x := t.1 2) h101 rfl rfl, Option.bind_some, h2, i_divL (by omega) (by omega)]
      rw [show c_823 101 s = _ from e823 0]; repeat (first | rw [Option.bind_some] | rw [Sum.elim_inl] | rw [Sum.elim_inr])
      rw [xI_o (x := knw (t.2.2.1 15 p)) h1 rfl rfl]; repeat (first | rw [Option.bind_some] | rw [Sum.elim_inl] | rw [Sum.elim_inr])
      rw [if_pos k89]
      -- known
      obtain ⟨bc, bt, hbc, hbt, ebc, ebt, emin, eoff⟩ : ∃ bc bt, bc < 2147483648 ∧ bt < 2147483648 ∧ knw (t.2.2.1 15 p) = Int32.ofNat bc ∧ t.2.2.1 15 p = Int32.ofNat bt ∧ min bc nT = min bt nT ∧ (knw (t.2.2.1 15 p) = 2147483647 ↔ t.2.2.1 15 p = 1000000) := by
        rcases h15 with ⟨z, _⟩ | ⟨b, hb, z⟩
        · refine ⟨2147483647, 1000000, by omega, by omega, ?_, z, by omega, ?_⟩
          · rw [z]; rfl
          · rw [z]; exact ⟨fun _ => rfl, fun _ => rfl⟩
        · have nb : ¬ Int32.ofNat b = 1000000 := by rw [i_eqL (by omega) (by omega)]; omega
          refine ⟨b, b, by omega, by omega, ?_, z, rfl, ?_⟩
          · rw [z]; unfold knw; rw [if_neg nb]
          · rw [z]; unfold knw; rw [if_neg nb]
            exact ⟨fun w => by rw [i_eqL (by omega) (by omega)] at w; omega, fun w => absurd w nb⟩
      obtain ⟨n1, hn1, ec⟩ := c_bar hK r hc (m := nw / 60) hbc (by omega)
      rw [ebc, ec]; repeat (first | rw [Option.bind_some] | rw [Sum.elim_inl] | rw [Sum.elim_inr])
      dsimp only
      have hd2 : ∀ n, (chg s n n).1 (P p) = some (porC t G D L p) := fun n => h1
      -- the twin's answer
      have hf : ∃ (f : Option Int32) (v5 : Int32), ((f = none ∧ v5 < 0) ∨ (f = some v5 ∧ ¬ v5 < 0)) ∧ (if t.2.2.1 15 p = 1000000 then some o else some (-1)) = some v5 ∧ (t.2.2.1 15 p = 1000000 → f = some o) ∧ (¬ t.2.2.1 15 p = 1000000 → f = none) := by
        by_cases z : t.2.2.1 15 p = 1000000
        · exact ⟨some o, o, Or.inr ⟨rfl, ho⟩, if_pos z, fun _ => rfl, fun w => absurd z w⟩
        · exact ⟨none, -1, Or.inl ⟨rfl, by decide⟩, if_neg z, fun w => absurd w z, fun _ => rfl⟩
      obtain ⟨f, v5, hf1, hf2, hf3, hf4⟩ := hf
      have tw := t_why hK r hbu hc hqn (m := nw / 60) hbt (by omega) f v5 hf1
      rw [hf2]; repeat (first | rw [Option.bind_some] | rw [Sum.elim_inl] | rw [Sum.elim_inr])
      rw [ebt, h2, show Int32.ofNat nw / 60 = Int32.ofNat (nw / 60) from i_divL (by omega) (by omega), tw]; repeat (first | rw [Option.bind_some] | rw [Sum.elim_inl] | rw [Sum.elim_inr])
      rw [← emin]
      -- fin: the twin's loop
      have tfin : ∀ v, (rgV t CT RT nR nr c q (nw / 60) (min bc nT) f ≠ 0 ∧ v = rgV t CT RT nR nr c q (nw / 60) (min bc nT) f) ∨ (rgV t CT RT nR nr c q (nw / 60) (min bc nT) f = 0 ∧ ((v = 6 ∧ lkd t nL p) ∨ (v = 0 ∧ ¬ lkd t nL p))) → Option.bind (wh (S := Int32 × Int32) (X := Int32) (fun p66 => (if p66.2 < (t.1 24) then (if p66.1 = 0 then Option.bind (rdI t 20 4100 p66.2) (fun x10 => Option.bind ((if x10 = Int32.ofNat p then Option.bind (rdI t 21 4100 p66.2) (fun x11 => Option.bind (rdI t 13 1400 x11) (fun x12 => (if x12 = 0 then some (0 : Int32) else some 1))) else some 0)) (fun v89 => Option.bind ((if v89 = 0 then Option.bind (rdI t 21 4100 p66.2) (fun x13 => (if x13 = Int32.ofNat p then Option.bind (rdI t 20 4100 p66.2) (fun x14 => Option.bind (rdI t 13 1400 x14) (fun x15 => (if x15 = 0 then some (0 : Int32) else some 6))) else some 0)) else some 6)) (fun v109 => some (.inl (v109, p66.2 + 1))))) else some (.inr p66.1)) else some (.inr p66.1))) (rgV t CT RT nR nr c q (nw / 60) (min bc nT) f, 0)) (fun v112 => some v112) = some v := by
        intro v hv
        obtain ⟨x, e1, e2⟩ := htl (rgV t CT RT nR nr c q (nw / 60) (min bc nT) f)
        rw [e1, Option.bind_some]
        rcases hv with ⟨w1, w2⟩ | ⟨w1, w2⟩
        · rw [if_neg w1] at e2; rw [e2, w2]
        · rw [if_pos w1] at e2
          rcases e2 with ⟨u1, u2⟩ | ⟨u1, u2⟩ <;> rcases w2 with ⟨u3, u4⟩ | ⟨u3, u4⟩
          · rw [u1, u3]
          · exact absurd u2 u4
          · exact absurd u4 u2
          · rw [u1, u3]
      have hrg : rgV t CT RT nR nr c q (nw / 60) (min bc nT) f = if ¬ barV t CT c (nw / 60) (min bc nT) = 0 then barV t CT c (nw / 60) (min bc nT) else if elsB t c f = true then 4 else if rgtB t RT nR nr (min bc nT) pn q (nw / 60) = true then 0 else 5 := by
        unfold rgV
        rw [hbp]
        by_cases x1 : CT c < min bc nT
        · rw [if_neg (show ¬ ¬ CT c < min bc nT from fun w => w x1)]
          by_cases x2 : t.2.2.1 31 c < Int32.ofNat (nw / 60)
          · have hb : barV t CT c (nw / 60) (min bc nT) = 2 := by
              unfold barV
              rw [if_neg (show ¬ ¬ CT c < min bc nT from fun w => w x1), if_pos x2]
            rw [hb, if_pos x2]; rfl
          · rw [if_neg x2]
            cases hso : soB t 3 c (min bc nT) (nw / 60) with
            | true =>
              have hb : barV t CT c (nw / 60) (min bc nT) = 3 := by
                unfold barV
                rw [if_neg (show ¬ ¬ CT c < min bc nT from fun w => w x1), if_neg x2, hso]; rfl
              rw [hb]; rfl
            | false =>
              have hb : barV t CT c (nw / 60) (min bc nT) = 0 := by
                unfold barV
                rw [if_neg (show ¬ ¬ CT c < min bc nT from fun w => w x1), if_neg x2, hso]; rfl
              rw [hb]; simp
        · have hb : barV t CT c (nw / 60) (min bc nT) = 1 := by
            unfold barV
            rw [if_pos x1]
          rw [hb, if_pos x1]; rfl
      by_cases hb0 : barV t CT c (nw / 60) (min bc nT) = 0
      · rw [if_pos hb0, if_pos (isK_t (hd2 n1) rfl)]
        have e992 : c_992 (P p) (chg s n1 n1) = some (if t.2.2.1 15 p = 1000000 then 0 else 1) := by
          unfold c_992
          rw [xI_o (x := knw (t.2.2.1 15 p)) (hd2 n1) rfl rfl, Option.bind_some]
          by_cases z : t.2.2.1 15 p = 1000000
          · rw [if_pos (eoff.mpr z), if_pos z]
          · rw [if_neg (fun w => z (eoff.mp w)), if_neg z]
        rw [e992]; repeat (first | rw [Option.bind_some] | rw [Sum.elim_inl] | rw [Sum.elim_inr])
        have hels : elsB t c f = (decide (t.2.2.1 15 p = 1000000) && decide (¬ t.2.2.1 24 pn = o)) := by
          unfold elsB
          by_cases z : t.2.2.1 15 p = 1000000
          · rw [hf3 z, hbp]; simp [z]
          · rw [hf4 z]; simp [z]
        have e47 : (if (if t.2.2.1 15 p = 1000000 then (0 : Int32) else 1) = 0 then (if (if t.2.2.1 24 pn = o then (0 : Int32) else 1) = 0 then some (Sum.inl (β := Int32 × CS) ()) else some (.inr (4, chg s n1 n1))) else some (.inl ())) = some (if elsB t c f = true then .inr (4, chg s n1 n1) else .inl ()) := by
          rw [hels]
          by_cases z : t.2.2.1 15 p = 1000000 <;> by_cases w : t.2.2.1 24 pn = o <;> simp [z, w]
        rw [e47]; repeat (first | rw [Option.bind_some] | rw [Sum.elim_inl] | rw [Sum.elim_inr])
        cases hE : elsB t c f with
        | true =>
          rw [if_pos rfl, Sum.elim_inr]
          exact ⟨4, n1, by omega, Or.inr (by decide), rfl, tfin 4 (Or.inl (by rw [hrg, if_neg (fun w => w hb0), if_pos hE]; exact ⟨by decide, rfl⟩))⟩
        | false =>
          rw [if_neg (show ¬ false = true by decide)]; repeat (first | rw [Option.bind_some] | rw [Sum.elim_inl] | rw [Sum.elim_inr])
          have hd1 : (chg s n1 n1).1 (C c) = _ := d1
          have hg1 : (chg s n1 n1).1 108 = _ := g
          have h1011 : (chg s n1 n1).1 101 = _ := h101
          rw [xN_o (b := S pn) hd1 rfl rfl]; repeat (first | rw [Option.bind_some] | rw [Sum.elim_inl] | rw [Sum.elim_inr])
          rw [xN_o (b := 101) hg1 rfl rfl]; repeat (first | rw [Option.bind_some] | rw [Sum.elim_inl] | rw [Sum.elim_inr])
          rw [if_pos (isK_t h1011 rfl), e823 n1]; repeat (first | rw [Option.bind_some] | rw [Sum.elim_inl] | rw [Sum.elim_inr])
          obtain ⟨n2, hn2, ec2⟩ := c_rgt (s := chg s n1 n1) hK r hbu hpn hqn (m := nw / 60) hbc (by omega)
          rw [xI_o (x := knw (t.2.2.1 15 p)) (hd2 n1) rfl rfl]; repeat (first | rw [Option.bind_some] | rw [Sum.elim_inl] | rw [Sum.elim_inr])
          rw [if_pos (isK_t hg1 rfl), ebc, ec2]; repeat (first | rw [Option.bind_some] | rw [Sum.elim_inl] | rw [Sum.elim_inr])
          dsimp only
          have ecc : chg (chg s n1 n1) n2 n2 = chg s (n1 + n2) (n1 + n2) := by
            unfold chg
            exact Prod.ext rfl (Prod.ext rfl (Prod.ext (Nat.add_assoc ..) (Nat.add_assoc ..)))
          rw [ecc]
          cases hR : rgtB t RT nR nr (min bc nT) pn q (nw / 60) with
          | false =>
            rw [if_neg (show ¬ false = true by decide), if_pos rfl]
            exact ⟨5, n1 + n2, by omega, Or.inr (by decide), rfl, tfin 5 (Or.inl (by rw [hrg, if_neg (fun w => w hb0), hE, hR]; exact ⟨by decide, rfl⟩))⟩
          | true =>
            rw [if_pos rfl, if_neg (show ¬ (1 : Int32) = 0 by decide)]
            have hg2 : (chg s (n1 + n2) (n1 + n2)).1 108 = _ := g
            rw [if_pos (isK_t hg2 rfl)]
            obtain ⟨x, ex1, ex2⟩ := c_lkd (s := chg s (n1 + n2) (n1 + n2)) r hp
            rw [ex1]; repeat (first | rw [Option.bind_some] | rw [Sum.elim_inl] | rw [Sum.elim_inr])
            have hz : rgV t CT RT nR nr c q (nw / 60) (min bc nT) f = 0 := by rw [hrg, if_neg (fun w => w hb0), hE, hR]; rfl
            rcases ex2 with ⟨rfl, u⟩ | ⟨rfl, u⟩
            · rw [if_neg (show ¬ (1 : Int32) = 0 by decide)]
              exact ⟨6, n1 + n2, by omega, Or.inr (by decide), rfl, tfin 6 (Or.inr ⟨hz, Or.inl ⟨rfl, u⟩⟩)⟩
            · rw [if_pos rfl]
              exact ⟨0, n1 + n2, by omega, Or.inl rfl, rfl, tfin 0 (Or.inr ⟨hz, Or.inr ⟨rfl, u⟩⟩)⟩
      · rw [if_neg hb0]
        have hpos : (0 : Int32) < barV t CT c (nw / 60) (min bc nT) := by
          revert hb0
          unfold barV
          split
          · intro _; decide
          · split
            · intro _; decide
            · split
              · intro _; decide
              · intro w; exact absurd rfl w
        exact ⟨_, n1, by omega, Or.inr hpos, rfl, tfin _ (Or.inl (by rw [hrg, if_pos hb0]; exact ⟨hb0, rfl⟩))⟩
    · rw [hr1, if_neg (show ¬ (1 : Int32) = 0 by decide), if_neg (show ¬ (1 : Int32) = 0 by decide)]
      rw [rdI_n (by omega) (by omega)]; repeat (first | rw [Option.bind_some] | rw [Sum.elim_inl] | rw [Sum.elim_inr])
      by_cases z : t.2.2.1 24 pn = o
      · exact ⟨0, 0, by omega, Or.inl rfl, by rw [if_pos z]; rfl, by rw [if_pos z]⟩
      · exact ⟨4, 0, by omega, Or.inr (by decide), by rw [if_neg z]; rfl, by rw [if_neg z]⟩
  · rw [if_neg (fun z => z27 (by rw [z]; decide)), if_neg z27]
    exact ⟨9, 0, by omega, Or.inr (by decide), rfl, rfl⟩
end
