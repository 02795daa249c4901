/-! cells: one steps, whole -/
section
variable {own : Nat → Nat} {s : CS} {T : TS} {nl nr nd sm : Nat} {W : Nat → Nat} {e q g wn : Nat → Int32} {sc : Nat → Nat}
theorem ce_step {K zn nr' nS nT nC nR nP nL a nw' pn c : Nat} {rel : Int32} {S C CS' CM CT E RS RM' RT P G D L F : Nat → Nat} {RW : Nat → Nat → Nat} (hw : wfS s) (hK : K9 s.1) (r : R9x (rs s.1 own 9) T nl nr nd sm W e q g wn sc) (p : R4x (rs s.1 own 4) T K zn nr' nS nT nC nR nP nL a rel S C CS' CM CT E RS RM' RT P G D L F RW) (hb : T.1 1 ≠ 0) (h101 : s.1 101 = some (true, false, 56, [.int (T.1 2)])) (ho : own 101 ≠ 4) (h2 : T.1 2 = Int32.ofNat nw') (hnw : nw' ≤ 6000) (hcn : cntR T wn sc) (hpn : pn < nS) (hc : c < 576) (hx : T.2.2.1 25 pn = cX c) (hy : T.2.2.1 26 pn = cY c) (hn : 0 < T.2.2.1 46 c) : by classical exact (∃ s' T' wn' sc', c_553 170 (S pn) (T.2.2.1 46 c) (T.1 9) s = some s' ∧ t_671 (Int32.ofNat pn) T = some T' ∧ R4x (rs s'.1 own 4) T' K zn nr' nS nT nC nR nP nL a rel S C CS' CM CT E RS RM' RT P G D L F RW ∧ R9x (rs s'.1 own 9) T' nl nr nd sm W e q g wn' sc' ∧ cntR T' wn' sc' ∧ Frm (fun X => X = 4 ∨ X = 9) own own s s' ∧ s'.2 = s.2 ∧ T'.1 = T.1 ∧ (∀ c j, c ≠ 48 → ¬ (24 ≤ c ∧ c ≤ 29 ∧ j = pn) → T'.2.2.1 c j = T.2.2.1 c j) ∧ (∀ Z, Z ≠ 4 → Z ≠ 9 → rt T' Z = rt T Z) ∧ (∀ a, a ≠ 177 → a ≠ 178 → a ≠ S pn → s'.1 a = s.1 a)) := by
  classical
  have pr := R4_raw p
  have nS40 := pr.2.1.2.2.1
  obtain ⟨dS, okS, S179⟩ := pr.2.1.2.2.2.1 pn hpn
  have oS := rs_in (p.2.1.2.2.2.1 pn hpn).1
  have lS := wf_lt hw oS.1
  have rr := R9_raw r
  obtain ⟨b1, b2, b3, b4, b5, b6, b7⟩ := rr.2.2.2.2.1 hb
  obtain ⟨⟨a1, a2, _⟩, _⟩ := rr
  have g9 := pr.1.2.2.2.1
  have hnr := pr.1.2.2.2.2.1
  have enr : nr' = nr := by rw [b2] at g9; exact ((i_inj (by omega) (by omega)).mp g9).symm
  subst enr
  have o7 := (rs_in r.1.2.2.2.2.2.2.1).2
  have o8 := (rs_in r.1.2.2.2.2.2.2.2).2
  obtain ⟨x, y, f1, f2, f3⟩ := st_loop hw hK r hb h101 h2 hnw hcn (by omega) hc hx hy hn
  unfold c_553 t_671
  rw [xI_o (x := T.2.2.1 26 pn) dS rfl rfl, xI_o (x := T.2.2.1 25 pn) dS rfl rfl, hx, hy, Option.bind_some, Option.bind_some, f1]
  rw [rdI_n (show pn < 40 by omega) (by omega), rdI_n (show pn < 40 by omega) (by omega), hx, hy, Option.bind_some, Option.bind_some, Option.bind_some, cXY, rdI_n hc (by omega), Option.bind_some, f2]
  rcases f3 with ⟨rfl, rfl⟩ | ⟨d, s1, T1, hd, rfl, rfl, wn', sc', k1, k2, k3, k4, k5, k6, k7, k8⟩
  · exact ⟨s, T, wn, sc, rfl, rfl, p, r, hcn, Frm.refl hw, rfl, rfl, fun _ _ _ _ => rfl, fun _ _ _ => rfl, fun _ _ _ _ => rfl⟩
  repeat (first | rw [Option.bind_some] | rw [Sum.elim_inl] | rw [Sum.elim_inr] | rw [if_neg (show ¬ (1 : Int32) = 0 by decide)] | rw [if_pos (show (0 : Int32) = 0 from rfl)] | rw [if_pos (show true = true from rfl)] | rw [if_neg (show ¬ false = true by decide)] | dsimp only)
  have hbl := bsd_le (d := d) hc
  have dS1 : s1.1 (S pn) = some (perC T pn) := (k3 _ (by omega) (by omega)).trans dS
  have a1' : s1.1 170 = _ := (k3 170 (by omega) (by omega)).trans a1
  have a2' : s1.1 171 = _ := (k3 171 (by omega) (by omega)).trans a2
  have h101' : s1.1 101 = _ := (k3 101 (by omega) (by omega)).trans h101
  rw [xI_o (x := T.2.2.1 28 pn) dS1 rfl rfl, Option.bind_some]
  rw [xP_c (fs' := [.int (Int32.ofNat pn), .int (T.2.2.1 22 pn), .int (T.2.2.1 23 pn), .int (T.2.2.1 24 pn), .int (T.2.2.1 25 pn), .int (T.2.2.1 26 pn), .int (T.2.2.1 27 pn), .int (T.2.2.1 28 pn + 1), .int (T.2.2.1 29 pn)]) dS1 rfl (by simp [perC]) rfl, Option.bind_some]
  generalize hS2 : cup s1 (S pn) (true, false, 81, [.int (Int32.ofNat pn), .int (T.2.2.1 22 pn), .int (T.2.2.1 23 pn), .int (T.2.2.1 24 pn), .int (T.2.2.1 25 pn), .int (T.2.2.1 26 pn), .int (T.2.2.1 27 pn), .int (T.2.2.1 28 pn + 1), .int (T.2.2.1 29 pn)]) = s2
  have z1 : s2.1 (S pn) = some (true, false, 81, [.int (Int32.ofNat pn), .int (T.2.2.1 22 pn), .int (T.2.2.1 23 pn), .int (T.2.2.1 24 pn), .int (T.2.2.1 25 pn), .int (T.2.2.1 26 pn), .int (T.2.2.1 27 pn), .int (T.2.2.1 28 pn + 1), .int (T.2.2.1 29 pn)]) := by rw [← hS2]; exact cup_eq ..
  have z2 : ∀ q, q ≠ S pn → s2.1 q = s1.1 q := fun q hq => by rw [← hS2]; exact cup_ne hq
  have z3 : ∀ x, cup s2 (S pn) x = cup s1 (S pn) x := fun x => by rw [← hS2, cupU]
  have c1 : s2.1 170 = _ := (z2 170 (by omega)).trans a1'
  have c2 : s2.1 171 = _ := (z2 171 (by omega)).trans a2'
  have c3 : s2.1 101 = _ := (z2 101 (by omega)).trans h101'
  have hval : ∃ rm xx yy : Int32, (∀ {A : Type} (f : Int32 → Option A), Option.bind (if (if ouT T (bsd c d) then (1 : Int32) else 0) = 0 then Option.bind (xN s2 [(50, 2)] 170) (fun a17 => Option.bind (aI s2 [0, 12] a17 (if bsd c d = 576 then -1 else Int32.ofNat (bsd c d))) (fun x18 => some x18)) else some (T.1 9)) f = f rm) ∧ (if (if ouT T (bsd c d) then (1 : Int32) else 0) = 0 then some ((if bsd c d = 576 then -1 else Int32.ofNat (bsd c d)) - (if bsd c d = 576 then -1 else Int32.ofNat (bsd c d)) / (24 : Int32) * (24 : Int32)) else some (-1)) = some xx ∧ (if (if ouT T (bsd c d) then (1 : Int32) else 0) = 0 then some ((if bsd c d = 576 then -1 else Int32.ofNat (bsd c d)) / 24) else some (-1)) = some yy ∧ (∀ {A : Type} (f : Int32 → Option A), Option.bind (if (if ouT T (bsd c d) then (1 : Int32) else 0) = 0 then Option.bind (rdI T1 47 576 (24 * (Int32.ofNat (c / 24) + dY d) + (Int32.ofNat (c % 24) + dX d))) (fun x15 => some x15) else some (T1.1 9)) f = f rm) ∧ (if (if ouT T (bsd c d) then (1 : Int32) else 0) = 0 then some (Int32.ofNat (c % 24) + dX d) else some (-1)) = some xx ∧ (if (if ouT T (bsd c d) then (1 : Int32) else 0) = 0 then some (Int32.ofNat (c / 24) + dY d) else some (-1)) = some yy ∧ ((rm = T.1 9 ∧ xx = -1 ∧ yy = -1) ∨ (bel rm (bN (T.1 9)) ∧ bel xx 24 ∧ bel yy 24)) := by
    by_cases o : ouT T (bsd c d)
    · rw [if_pos o, if_neg (show ¬ (1 : Int32) = 0 by decide), if_neg (show ¬ (1 : Int32) = 0 by decide), if_neg (show ¬ (1 : Int32) = 0 by decide), if_neg (show ¬ (1 : Int32) = 0 by decide), if_neg (show ¬ (1 : Int32) = 0 by decide), if_neg (show ¬ (1 : Int32) = 0 by decide)]
      exact ⟨T.1 9, -1, -1, fun f => rfl, rfl, rfl, fun f => by rw [k6]; rfl, rfl, rfl, Or.inl ⟨rfl, rfl, rfl⟩⟩
    · have hz : bsd c d ≠ 576 := fun z => o (Or.inl z)
      obtain ⟨g1, g2, g3⟩ := (grd hc hd).2 hz
      rw [if_neg o, if_pos rfl, if_pos rfl, if_pos rfl, if_pos rfl, if_pos rfl, if_pos rfl, if_neg hz, i_modL (by omega) (by omega), i_divL (by omega) (by omega), nx_at hc hd hz, g1, g2]
      refine ⟨T.2.2.1 47 (bsd c d), Int32.ofNat (bsd c d % 24), Int32.ofNat (bsd c d / 24), fun f => ?_, rfl, rfl, fun f => ?_, rfl, rfl, Or.inr ⟨?_, ⟨_, by omega, rfl⟩, ⟨_, by omega, rfl⟩⟩⟩
      · rw [xN_o (b := 171) c1 rfl rfl, Option.bind_some, aI_r c2 (by omega) rfl g3 (by omega) rfl]; rfl
      · rw [rdI_n g3 (by omega), k7 47 (by omega)]; rfl
      · rcases b4 _ g3 with w | w
        · exact absurd (Or.inr (by rw [w]; decide)) o
        · rw [b2, bN_of (by omega)]; exact w
  obtain ⟨rm, xx, yy, v1, v2, v3, v4, v5, v6, v7⟩ := hval
  rw [v1, v2, Option.bind_some, v3, Option.bind_some, xN_o (b := 101) c1 rfl rfl, Option.bind_some, xI_o (x := T.1 2) c3 rfl rfl, Option.bind_some, if_pos (isK_t z1 rfl)]
  unfold c_996
  rw [xP_c z1 rfl (by simp) rfl, Option.bind_some, xP_c (cup_eq ..) rfl (by simp) rfl, cupU, Option.bind_some, xP_c (cup_eq ..) rfl (by simp) rfl, cupU, Option.bind_some, xP_c (fs' := [.int (Int32.ofNat pn), .int (T.2.2.1 22 pn), .int (T.2.2.1 23 pn), .int rm, .int xx, .int yy, .int (T.2.2.1 27 pn), .int (T.2.2.1 28 pn + 1), .int (T.1 2)]) (cup_eq ..) rfl (by simp) rfl, cupU, z3]
  rw [v4, v5, v6, stI_n (show pn < 40 by omega) (by omega)]; repeat (first | rw [Option.bind_some] | rw [Sum.elim_inl] | rw [Sum.elim_inr])
  rw [stI_n (show pn < 40 by omega) (by omega)]; repeat (first | rw [Option.bind_some] | rw [Sum.elim_inl] | rw [Sum.elim_inr])
  rw [stI_n (show pn < 40 by omega) (by omega)]; repeat (first | rw [Option.bind_some] | rw [Sum.elim_inl] | rw [Sum.elim_inr])
  rw [rdI_n (show pn < 40 by omega) (by omega)]; repeat (first | rw [Option.bind_some] | rw [Sum.elim_inl] | rw [Sum.elim_inr])
  rw [stI_n (show pn < 40 by omega) (by omega)]; repeat (first | rw [Option.bind_some] | rw [Sum.elim_inl] | rw [Sum.elim_inr])
  rw [stI_n (show pn < 40 by omega) (by omega)]; repeat (first | rw [Option.bind_some] | rw [Sum.elim_inl] | rw [Sum.elim_inr])
  have e28 : (wrI (wrI (wrI T1 24 pn rm) 25 pn xx) 26 pn yy).2.2.1 28 pn = T.2.2.1 28 pn := congrFun (k7 28 (by omega)) pn
  have e2 : (wrI (wrI (wrI (wrI T1 24 pn rm) 25 pn xx) 26 pn yy) 28 pn (T.2.2.1 28 pn + 1)).1 2 = T.1 2 := by show T1.1 2 = _; rw [k6]
  rw [e28, e2]
  generalize hT' : wrI (wrI (wrI (wrI (wrI T1 24 pn rm) 25 pn xx) 26 pn yy) 28 pn (T.2.2.1 28 pn + 1)) 29 pn (T.1 2) = T'
  have T3 : ∀ c j, T'.2.2.1 c j = if c = 29 ∧ j = pn then T.1 2 else if c = 28 ∧ j = pn then T.2.2.1 28 pn + 1 else if c = 26 ∧ j = pn then yy else if c = 25 ∧ j = pn then xx else if c = 24 ∧ j = pn then rm else T1.2.2.1 c j := fun c j => by rw [← hT']; rfl
  have T1' : T'.1 = T1.1 := by rw [← hT']; rfl
  have Trt : ∀ Z, Z ≠ 4 → rt T' Z = rt T1 Z := fun Z h4 => by
    rw [← hT', rt_wrI (by show (4 : Nat) ≠ Z; omega), rt_wrI (by show (4 : Nat) ≠ Z; omega), rt_wrI (by show (4 : Nat) ≠ Z; omega), rt_wrI (by show (4 : Nat) ≠ Z; omega), rt_wrI (by show (4 : Nat) ≠ Z; omega)]
  have p1 : R4x (rs s1.1 own 4) T1 K zn nr' nS nT nC nR nP nL a rel S C CS' CM CT E RS RM' RT P G D L F RW := R4x_cg p (fun q c h => rs_keep hw (fun _ _ => rfl) h (k3 q (fun z => by have := (rs_in h).2; rw [z, o7] at this; omega) (fun z => by have := (rs_in h).2; rw [z, o8] at this; omega))) (by rw [k6]) (k8 4 (by decide)) (fun c hc => k7 c (by simp at hc; omega))
  have hper : (true, false, 81, [.int (Int32.ofNat pn), .int (T.2.2.1 22 pn), .int (T.2.2.1 23 pn), .int rm, .int xx, .int yy, .int (T.2.2.1 27 pn), .int (T.2.2.1 28 pn + 1), .int (T.1 2)]) = perC T' pn := by
    unfold perC
    simp [T3, k7]
  rw [hper]
  have lS1 : S pn < s1.2.1 := by rw [k4]; exact lS
  refine ⟨cup s1 (S pn) (perC T' pn), T', wn', sc', rfl, rfl, R4_per p1 hpn (fun q c hq hqc => rs_keep k5 (fun _ _ => rfl) hqc (cup_ne hq)) (fun c _ => by rw [T1']) (fun c j hh => by rw [T3, if_neg (by omega), if_neg (by omega), if_neg (by omega), if_neg (by omega), if_neg (by omega)]) ?_ (rs_some.mpr ⟨oS.2, cup_eq ..⟩), ?_, ?_, ⟨by show s.2.1 ≤ s1.2.1; rw [k4]; exact Nat.le_refl _, fun _ _ => rfl, fun a ha hxa => (cup_ne (fun z => hxa (Or.inl (by rw [z]; exact oS.2)))).trans (k3 a (fun z => hxa (Or.inr (by rw [z]; exact o7))) (fun z => hxa (Or.inr (by rw [z]; exact o8)))), fun a h1 h2 => ?_, wf_cup k5 lS1⟩, k4, T1'.trans k6, fun c j h1 h2 => ?_, fun Z h4 h9 => (Trt Z h4).trans (k8 Z h9), fun a h1 h2 h3 => (cup_ne h3).trans (k3 a h1 h2)⟩
  · obtain ⟨u1, u2, u3, u4, u5⟩ := okS
    have x24 : T'.2.2.1 24 pn = rm := by simp [T3]
    have x25 : T'.2.2.1 25 pn = xx := by simp [T3]
    have x26 : T'.2.2.1 26 pn = yy := by simp [T3]
    have x29 : T'.2.2.1 29 pn = T.1 2 := by simp [T3]
    have x27 : T'.2.2.1 27 pn = T.2.2.1 27 pn := by simp [T3, k7]
    have x22 : T'.2.2.1 22 pn = T.2.2.1 22 pn := by simp [T3, k7]
    have x23 : T'.2.2.1 23 pn = T.2.2.1 23 pn := by simp [T3, k7]
    unfold okPer
    rw [x24, x25, x26, x27, x29, x22, x23, T1', k6]
    exact ⟨v7, u2, ⟨nw', by omega, h2⟩, u4, u5⟩
  · have : rs (cup s1 (S pn) (perC T' pn)).1 own 9 = rs s1.1 own 9 := rs_out (by rw [oS.2]; decide)
    rw [this]
    exact R9x_cg k1 (fun _ _ h => h) (by rw [T1']) (by rw [T1']) (by rw [T1']) (Trt 9 (by decide)) (fun _ => Trt 2 (by decide))
  · intro i hi
    have x48 : T'.2.2.1 48 i = T1.2.2.1 48 i := by rw [T3, if_neg (by omega), if_neg (by omega), if_neg (by omega), if_neg (by omega), if_neg (by omega)]
    rw [T1', x48]
    exact k2 i hi
  · have h2' : a < s1.2.1 := h2
    rw [k4] at h2'
    omega
  · rw [T3, if_neg (by omega), if_neg (by omega), if_neg (by omega), if_neg (by omega), if_neg (by omega), k7 c h1]
end
