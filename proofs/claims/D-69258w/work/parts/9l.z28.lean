/-! the house: a second, whole -/
section
variable {s : CS} {own : Nat → Nat} {t : TS} {K N : Nat}
theorem st5_o5 {s S : CS} {own own' : Nat → Nat} {X : Nat → Prop} (h : own 115 = 5 ∧ 115 < s.2.1) (hF : Frm X own own' s S) (hX : ¬ X 5) : st5 S = st5 s ∧ own' 115 = 5 ∧ 115 < S.2.1 :=
  ⟨st5_eq (hF.2.2.1 115 h.2 (by rw [h.1]; exact hX)), by rw [hF.2.1 115 h.2]; exact h.1, by have := hF.1; omega⟩
/-- numbers that a second leaves -/
def secN (c : Nat) : Prop := c = 0 ∨ c = 1 ∨ c = 2 ∨ c = 9 ∨ c = 300 ∨ c = 301 ∨ c = 612
theorem sec_all {n : Nat} (r : RH s own t K N) (hb : t.1 1 ≠ 0) (h2 : t.1 2 = Int32.ofNat n) (h6 : n + 1 ≤ 6000) (hNn : N ≤ 30 * n) : ∃ S T own', c_473 100 s = some S ∧ t_663 t = some T ∧ RH S own' T K (N + 30) ∧ Frm HP own own' s S ∧ T.1 0 = t.1 0 ∧ T.1 1 = t.1 1 ∧ T.1 2 = Int32.ofNat (n + 1) ∧ S.2.2.1 + PHc S T (N + 30) ≤ s.2.2.1 + PHc s t N + 93 + (if (n + 1) % 10 = 0 then 12 else 0) ∧ S.2.2.2 + PHs S T (N + 30) ≤ s.2.2.2 + PHs s t N + 644 + (if (n + 1) % 10 = 0 then 190 else 0) := by
  -- the numbers at the start
  obtain ⟨nr, h9, hnr⟩ : ∃ nr, t.1 9 = Int32.ofNat nr ∧ nr ≤ 40 := by
    obtain ⟨zn, nr, nS, nT, nC, nR, nP, nL, a, rel, S', C, CS', CM, CT, E, RS, RM', RT, P, G, D, L, F, RW, q⟩ := r.r4
    exact ⟨nr, q.1.2.2.2.1, q.1.2.2.2.2.1⟩
  have hp : t.1 300 = Int32.ofNat (nr + 10) := by
    rw [r.nn.np hb, h9, show (10 : Int32) = Int32.ofNat 10 from rfl, i_add]
  obtain ⟨n5, h4, h40⟩ : ∃ n5, t.1 400 = Int32.ofNat n5 ∧ n5 ≤ 40 := by
    obtain ⟨n5, B, o, od, nw, q⟩ := r.r5
    exact ⟨n5, q.1.2.2.2.2.1, q.1.2.2.2.2.2.1⟩
  obtain ⟨n15, B, o, od, nw, q5⟩ := id r.r5
  have o5 : own 115 = 5 ∧ 115 < s.2.1 := ⟨(rs_in q5.1.1).2, wf_lt r.wf (rs_in q5.1.1).1⟩
  obtain ⟨nl, nr9, nd, sm, W, e, q, g, wn, sc, r9⟩ := id r.r9
  have hlt := (R9_clk r9 h2 h6).2
  -- the steps
  obtain ⟨S1, a1, r1, f1, z1⟩ := sec_clk r h2 h6 r9
  have n1 : ∀ c, (clkT t (n + 1)).1 c = if c = 612 ∨ c = 301 ∨ c = 2 then Int32.ofNat (n + 1) else t.1 c := clk_1 t (n + 1)
  have k1 : ∀ Z, Z ≠ 1 → Z ≠ 7 → Z ≠ 8 → rt (clkT t (n + 1)) Z = rt t Z := fun Z => clk_rt t (n + 1)
  generalize hT1 : clkT t (n + 1) = T1 at r1 n1 k1
  have b1 : T1.1 1 ≠ 0 := by rw [n1, if_neg (by omega)]; exact hb
  obtain ⟨S2, T2, own2, sm2, a2, d2, r2, f2, e2, k2, z2, w2⟩ := sec_smk r1 b1 (m := n + 1) (by rw [n1, if_pos (by omega)]) h6
  have N2 : ∀ c, T2.1 c = if c = 612 ∨ c = 301 ∨ c = 2 then Int32.ofNat (n + 1) else t.1 c := fun c => by rw [e2]; exact n1 c
  have b2 : T2.1 1 ≠ 0 := by rw [N2, if_neg (by omega)]; exact hb
  have b137 : B137 T2 := fun k hk => by
    rw [rt_row (c := 137) ((k2 5 (by omega)).trans (k1 5 (by omega) (by omega) (by omega))) rfl]; exact r.nn.b5 k hk
  obtain ⟨S3a, S3, T3, a3, a3b, d3, r3, f3, z3, e3, k3⟩ := sec_det (nr := nr) (n5 := n5) r2 (by omega) b2 (by rw [N2, if_neg (by omega)]; exact h9) hnr (by rw [N2, if_neg (by omega)]; exact hp) (by rw [N2, if_neg (by omega)]; exact h4) h40 b137
  have N3 : ∀ c, T3.1 c = if c = 612 ∨ c = 301 ∨ c = 2 then Int32.ofNat (n + 1) else t.1 c := fun c => by rw [e3]; exact N2 c
  obtain ⟨S4, T4, own4, a4, d4, r4, f4, e4, k4, z4, w4⟩ := sec_wa r3 C9_x h6 (by rw [N3, if_pos (by omega)])
  have N4 : ∀ c, c ≠ 330 → T4.1 c = if c = 612 ∨ c = 301 ∨ c = 2 then Int32.ofNat (n + 1) else t.1 c := fun c hc => by rw [e4 c hc]; exact N3 c
  obtain ⟨zn, nr', nS, nT, nC, nR, nP, nL, a, rel, S', C, CS', CM, CT, E, RS, RM', RT, P, G, D, L, F, RW, q4⟩ := r4.g4
  obtain ⟨v5, _, p5, p5'⟩ := ga_insd q4
  obtain ⟨S5, a5, r5, f5, z5⟩ := sec_pt r4 C7_7 C9_x (k := 0) (by omega) (Int32.ofNat v5)
  have p6 := r5.done (v := -1) (Or.inl rfl)
  obtain ⟨S6, a6, r6, f6, z6⟩ := sec_pt r5 C7_7 C9_x (k := 1) (by omega) (Int32.ofNat (dnC (wrI T4 136 0 (Int32.ofNat v5)) (-1)))
  obtain ⟨v7, _, p7, p7'⟩ := ce_all (R9_raw r6.r9)
  obtain ⟨S7, a7, r7, f7, z7⟩ := sec_pt r6 C7_7 C9_x (k := 2) (by omega) (Int32.ofNat v7)
  obtain ⟨nc8, nk8, C8, D8, M8, b8, q8⟩ := id r7.r8
  obtain ⟨p8, p8'⟩ := li_open q8
  obtain ⟨S8, a8, r8, f8, z8⟩ := sec_pt r7 C7_7 C9_x (k := 3) (by omega) (Int32.ofNat (opn (wrI (wrI (wrI T4 136 0 (Int32.ofNat v5)) 136 1 (Int32.ofNat (dnC (wrI T4 136 0 (Int32.ofNat v5)) (-1)))) 136 2 (Int32.ofNat v7)) nk8))
  generalize hU5 : wrI T4 136 0 (Int32.ofNat v5) = U5 at *
  generalize hU6 : wrI U5 136 1 (Int32.ofNat (dnC U5 (-1))) = U6 at *
  generalize hU7 : wrI U6 136 2 (Int32.ofNat v7) = U7 at *
  generalize hU8 : wrI U7 136 3 (Int32.ofNat (opn U7 nk8)) = U8 at *
  have eU : U8.1 = T4.1 := by rw [← hU8, ← hU7, ← hU6, ← hU5]; rfl
  have kU : ∀ Z, Z ≠ 10 → rt U8 Z = rt T4 Z := fun Z hZ => by
    have h : ∀ (T : TS) (k : Nat) (v : Int32), rt (wrI T 136 k v) Z = rt T Z := fun T k v => rt_wrI (by show 10 ≠ Z; exact fun w => hZ w.symm)
    rw [← hU8, h, ← hU7, h, ← hU6, h, ← hU5, h]
  obtain ⟨S9, T9, own9, a9, d9, r9', f9, e9, k9, s9, w9, z9, y9⟩ := sec_tick r8 C7_7 C9_x (U8.1 2 / 60)
  have N9 : ∀ c, c ≠ 330 → c ≠ 418 → c ≠ 414 → T9.1 c = if c = 612 ∨ c = 301 ∨ c = 2 then Int32.ofNat (n + 1) else t.1 c := fun c h1 h2 h3 => by rw [e9 c h2 h3, eU]; exact N4 c h1
  obtain ⟨S10, T10, a10, d10, r10, f10, k10, z10, y10⟩ := sec_bus r9' C7_7 C9_x (by omega)
  have N10 : ∀ c, c ≠ 330 → c ≠ 418 → c ≠ 414 → mI c ≠ 6 → mI c ≠ 10 → T10.1 c = if c = 612 ∨ c = 301 ∨ c = 2 then Int32.ofNat (n + 1) else t.1 c := fun c h1 h2 h3 h4 h5 => by rw [rt_num (k10 (mI c) h4 h5) rfl]; exact N9 c h1 h2 h3
  obtain ⟨S11, T11, a11, d11, r11, f11, z11, e11, k11⟩ := sec_catch r10 C7_7 (nw := n + 1) (by rw [N10 2 (by omega) (by omega) (by omega) (by decide) (by decide), if_pos (by omega)]) h6
  have p12 := r11.done (v := 4) (Or.inr (by decide))
  -- the last: who leaves
  obtain ⟨S12, T12, own12, wn12, sc12, a12, d12, r12, f12, e12, k12, z12, y12⟩ : ∃ S T own' wn' sc', (if 0 < Int32.ofNat (dnC T11 4) then c_551 170 111 (T11.1 9) S11 else some S11) = some S ∧ (if 0 < Int32.ofNat (dnC T11 4) then t_669 T11 else some T11) = some T ∧ RG R7 (fun h t => R9x h t nl nr9 nd sm2 W e q g wn' sc') S own' T K (N + 30) ∧ Frm (fun X => X = 4 ∨ X = 9) own9 own' S11 S ∧ T.1 = T11.1 ∧ (∀ Z, Z ≠ 4 → Z ≠ 9 → rt T Z = rt T11 Z) ∧ S.2.2.1 ≤ S11.2.2.1 + 3 ∧ S.2.2.2 ≤ S11.2.2.2 + 44 := by
    by_cases z : (0 : Int32) < Int32.ofNat (dnC T11 4)
    · rw [if_pos z, if_pos z]
      exact sec_leave r11 C7_7 (by rw [e11, N10 1 (by omega) (by omega) (by omega) (by decide) (by decide), if_neg (by omega)]; exact hb) (nw := n + 1) (by rw [e11, N10 2 (by omega) (by omega) (by omega) (by decide) (by decide), if_pos (by omega)]) h6 hlt
    · rw [if_neg z, if_neg z]
      exact ⟨S11, T11, own9, wn, sc, rfl, rfl, r11, Frm.refl r11.wf, rfl, fun _ _ _ => rfl, by omega, by omega⟩
  have N12 : ∀ c, secN c → T12.1 c = if c = 612 ∨ c = 301 ∨ c = 2 then Int32.ofNat (n + 1) else t.1 c := fun c hc => by
    rw [e12, e11]
    refine N10 c ?_ ?_ ?_ ?_ ?_ <;> rcases hc with rfl | rfl | rfl | rfl | rfl | rfl | rfl <;> decide
  have a5 : aPut S4 0 118 0 (.int (Int32.ofNat v5)) = some S5 := a5
  have a6 : aPut S5 0 118 1 (.int (Int32.ofNat (dnC U5 (-1)))) = some S6 := a6
  have a7 : aPut S6 0 118 2 (.int (Int32.ofNat v7)) = some S7 := a7
  have a8 : aPut S7 0 118 3 (.int (Int32.ofNat (opn U7 nk8))) = some S8 := a8
  have c823 : c_823 101 S8 = some (U8.1 2 / 60) := by unfold c_823; rw [xI_o r8.c101.1 rfl rfl]; rfl
  have e301 : T3.1 2 = T3.1 301 := by rw [N3, N3, if_pos (by omega), if_pos (by omega)]
  have hc : ptI (ptI (ptI t 2 (t.1 2 + 1)) 301 ((ptI t 2 (t.1 2 + 1)).1 2)) 612 ((ptI (ptI t 2 (t.1 2 + 1)) 301 ((ptI t 2 (t.1 2 + 1)).1 2)).1 2) = T1 := by
    rw [← hT1]; unfold clkT; rw [h2, i_suc]; rfl
  have C : c_473 100 s = some S12 := by
    unfold c_473
    rw [show xR s [(45, 0)] 100 = some (some 101) from xR_o r.c100 rfl rfl, Option.bind_some, Option.bind_some, xI_o r.c101.1 rfl rfl, Option.bind_some, a1, Option.bind_some, xN_o r1.c100 rfl rfl, Option.bind_some, if_pos (isK_t (rs_in r1.r9.1.1).1 rfl), a2, Option.bind_some, a3, Option.bind_some, a3b, Option.bind_some, r3.m7.1, Option.bind_some, xN_o r3.c100 rfl rfl, Option.bind_some, xI_o r3.c101.1 rfl rfl, Option.bind_some, if_pos r3.m7.2, e301, a4, Option.bind_some]
    rw [r4.m5.1, Option.bind_some, r4.m5.2.2.1, Option.bind_some, r4.m4.1, Option.bind_some, if_pos r4.m4.2.1, p5, Option.bind_some, a5, Option.bind_some]
    rw [r5.m5.1, Option.bind_some, r5.m5.2.2.1, Option.bind_some, r5.m7'.1, Option.bind_some, if_pos r5.m7'.2, p6.1, Option.bind_some, a6, Option.bind_some]
    rw [r6.m5.1, Option.bind_some, r6.m5.2.2.1, Option.bind_some, xN_o r6.c100 rfl rfl, Option.bind_some, if_pos (isK_t (rs_in r6.r9.1.1).1 rfl), p7, Option.bind_some, a7, Option.bind_some]
    rw [r7.m5.1, Option.bind_some, r7.m5.2.2.1, Option.bind_some, r7.m8.1, Option.bind_some, if_pos r7.m8.2, p8, Option.bind_some, a8, Option.bind_some]
    rw [r8.m5.1, Option.bind_some, xN_o r8.c100 rfl rfl, Option.bind_some, if_pos (isK_t r8.c101.1 rfl), c823, Option.bind_some, if_pos r8.m5.2.1, a9, Option.bind_some]
    rw [r9'.m6.1, Option.bind_some, if_pos r9'.m6.2, a10, Option.bind_some]
    rw [xN_o r10.c100 rfl rfl, Option.bind_some, r10.m4.1, Option.bind_some, r10.m4.2.2, Option.bind_some, if_pos (isK_t (rs_in r10.r9.1.1).1 rfl), a11, Option.bind_some]
    rw [r11.m7'.1, Option.bind_some, if_pos r11.m7'.2, p12.1, Option.bind_some]
    by_cases z : (0 : Int32) < Int32.ofNat (dnC T11 4)
    · obtain ⟨zn, nr', nS, nT, nC, nR, nP, nL, a, rel, S', C, CS', CM, CT, E, RS, RM', RT, P, G, D, L, F, RW, q11⟩ := r11.g4
      have b11 : ¬ T11.1 1 = 0 := by rw [e11, N10 1 (by omega) (by omega) (by omega) (by decide) (by decide), if_neg (by omega)]; exact hb
      rw [if_pos z] at a12 ⊢
      rw [xN_o r11.c100 rfl rfl, Option.bind_some, r11.m4.1, Option.bind_some, r11.m4.2.2, Option.bind_some, Option.bind_some, if_pos r11.m4.2.1, ga_rooms q11, if_neg b11, Option.bind_some, if_pos (isK_t (rs_in r11.r9.1.1).1 rfl), a12]
      rfl
    · rw [if_neg z] at a12 ⊢
      exact a12
  have D : t_663 t = some T12 := by
    unfold t_663
    rw [Option.bind_some, Option.bind_some, Option.bind_some, hc, d2, Option.bind_some, d3, Option.bind_some]
    cases hy : t_793 0 T3 with
    | none => rw [hy] at d4; cases d4
    | some y =>
      rw [hy, Option.bind_some] at d4
      have st : ∀ (T : TS) (k : Nat) (v : Int32), k < 10 → stI T 136 10 (Int32.ofNat k) v = some (wrI T 136 k v) := fun T k v hk => stI_n hk (by omega)
      have t5 : stI T4 136 10 0 (Int32.ofNat v5) = some U5 := by rw [← hU5]; exact st T4 0 _ (by omega)
      have t6 : stI U5 136 10 1 (Int32.ofNat (dnC U5 (-1))) = some U6 := by rw [← hU6]; exact st U5 1 _ (by omega)
      have t7 : stI U6 136 10 2 (Int32.ofNat v7) = some U7 := by rw [← hU7]; exact st U6 2 _ (by omega)
      have t8 : stI U7 136 10 3 (Int32.ofNat (opn U7 nk8)) = some U8 := by rw [← hU8]; exact st U7 3 _ (by omega)
      rw [Option.bind_some, d4, Option.bind_some, p5', Option.bind_some, t5, Option.bind_some, p6.2, Option.bind_some, t6, Option.bind_some, p7', Option.bind_some, t7, Option.bind_some, p8', Option.bind_some, t8, Option.bind_some, Option.bind_some, d9, Option.bind_some, d10, Option.bind_some, d11, Option.bind_some, p12.2, Option.bind_some]
      by_cases z : (0 : Int32) < Int32.ofNat (dnC T11 4)
      · rw [if_pos z] at d12 ⊢
        rw [d12]; rfl
      · rw [if_neg z] at d12 ⊢
        exact d12
  have N1 := N12 1 (Or.inr (Or.inl rfl))
  have N2' := N12 2 (Or.inr (Or.inr (Or.inl rfl)))
  refine ⟨S12, T12, own12, C, D, ?_, ?_, N12 0 (Or.inl rfl), N1, N2', ?_, ?_⟩
  · refine r12.rh ⟨by rw [N1, if_neg (by omega)]; exact r.nn.v1, ⟨n + 1, by rw [N2', if_pos (by omega)], h6, by omega⟩, ?_, ?_, fun z => ?_, fun _ => ?_, fun k hk => ?_⟩ r12.r7 ⟨nl, nr9, nd, sm2, W, e, q, g, wn12, sc12, r12.r9⟩
    · rw [N2', N12 301 (by unfold secN; omega), if_pos (by omega), if_pos (by omega)]
    · rw [N2', N12 612 (by unfold secN; omega), if_pos (by omega), if_pos (by omega)]
    · rw [N1, if_neg (by omega)] at z; exact absurd z hb
    · rw [N12 300 (by unfold secN; omega), N12 9 (by unfold secN; omega), if_neg (by omega), if_neg (by omega)]; exact r.nn.np hb
    · have h3 : T9.2.2.1 137 = T2.2.2.1 137 := by
        rw [w9, rt_row (c := 137) (kU 5 (by omega)) rfl, rt_row (c := 137) (k4 5 (by omega) (by omega) (by omega) (by omega)) rfl, rt_row (c := 137) (k3 5 (by omega)) rfl]
      rw [rt_row (c := 137) (k12 5 (by omega) (by omega)) rfl, rt_row (c := 137) (k11 5 (by omega) (by omega)) rfl, rt_row (c := 137) (k10 5 (by omega) (by omega)) rfl, h3]
      exact b137 k hk
  · have u : ∀ {X : Nat → Prop} {o o' : Nat → Nat} {a b : CS}, Frm X o o' a b → (∀ Z, X Z → 1 ≤ Z ∧ Z ≤ 10) → Frm HP o o' a b := fun h hx => frm_up h (fun Z hZ => Or.inl (hx Z hZ))
    exact (u f1 (fun Z h => by omega)).trans ((u f2 (fun Z h => by omega)).trans ((u f3 (fun Z h => by omega)).trans ((u f4 (fun Z h => by omega)).trans ((u f5 (fun Z h => by omega)).trans ((u f6 (fun Z h => by omega)).trans ((u f7 (fun Z h => by omega)).trans ((u f8 (fun Z h => by omega)).trans ((u f9 (fun Z h => by omega)).trans ((u f10 (fun Z h => by omega)).trans ((u f11 (fun Z h => by omega)).trans (u f12 (fun Z h => by omega))))))))))))
  all_goals
    have x1 := st5_o5 o5 f1 (by omega)
    have x2 := st5_o5 x1.2 f2 (by omega)
    have x3 := st5_o5 x2.2 f3 (by omega)
    have x4 := st5_o5 x3.2 f4 (by omega)
    have x5 := st5_o5 x4.2 f5 (by omega)
    have x6 := st5_o5 x5.2 f6 (by omega)
    have x7 := st5_o5 x6.2 f7 (by omega)
    have x8 := st5_o5 x7.2 f8 (by omega)
    have x9 : own9 115 = 5 ∧ 115 < S9.2.1 := ⟨by rw [f9.2.1 115 x8.2.2]; exact x8.2.1, by have := f9.1; have := x8.2.2; omega⟩
    have x10 := st5_o5 x9 f10 (by omega)
    have x11 := st5_o5 x10.2 f11 (by omega)
    have x12 := st5_o5 x11.2 f12 (by omega)
    have kp : KpN t T9 ∨ True := Or.inr trivial
    have ePc : Pc T9 N = Pc t N ∧ Ps T9 N = Ps t N := by
      have h516 := N9 516 (by omega) (by omega) (by omega)
      have h517 := N9 517 (by omega) (by omega) (by omega)
      have h528 := N9 528 (by omega) (by omega) (by omega)
      have h503 := N9 503 (by omega) (by omega) (by omega)
      rw [if_neg (by omega)] at h516 h517 h528 h503
      obtain ⟨y1, y2⟩ := pot_cg (t := t) (t' := T9) (N := N) h516 h517 h528
      unfold Pc Ps
      rw [y1, y2, h503]
      exact ⟨rfl, rfl⟩
    have ePd : Pc T12 (N + 30) = Pc T10 (N + 30) ∧ Ps T12 (N + 30) = Ps T10 (N + 30) := by
      have hh : T12.1 = T10.1 := e12.trans e11
      unfold Pc Ps potc pots
      rw [hh]
      exact ⟨rfl, rfl⟩
    have g1 : S1.2.2 = s.2.2 := z1
    have g3 : S3.2.2 = S2.2.2 := congrArg Prod.snd z3
    have g5 : S8.2.2 = S4.2.2 := by rw [z8, z7, z6, z5]
    have g11 : S11.2.2 = S10.2.2 := congrArg Prod.snd z11
    rw [g1] at z2 w2
    rw [g3] at z4 w4
    rw [g5] at z9 y9
    rw [g11] at z12 y12
  · unfold PHc
    rw [x12.1, x11.1, x10.1, s9, ePd.1]
    have : st5 S8 = st5 s := by rw [x8.1, x7.1, x6.1, x5.1, x4.1, x3.1, x2.1, x1.1]
    rw [this] at z9
    rw [ePc.1] at z10
    omega
  · unfold PHs
    rw [x12.1, x11.1, x10.1, s9, ePd.2]
    have : st5 S8 = st5 s := by rw [x8.1, x7.1, x6.1, x5.1, x4.1, x3.1, x2.1, x1.1]
    rw [this] at y9
    rw [ePc.2] at y10
    omega
end
