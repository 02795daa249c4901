/-! permits: the whole text, both readers -/
section
variable {s S : CS} {t T U V : TS} {x : List Nat} {rd rl k k' : Nat} {dp mc : Int32} {F : List ClD}
theorem RzF_0 {nr nc n0 : Nat} (f : RzF nr nc n0 t T) : RzF 0 0 0 t T := by
  refine ⟨f.1, f.2.1, fun c j => ?_, fun c j => ?_⟩
  · rcases f.2.2.1 c j with (h | h | h | h) | h
    · exact Or.inl (Or.inl h)
    · exact Or.inl (Or.inr (Or.inl ⟨h.1, by omega⟩))
    · exact Or.inl (Or.inr (Or.inr (Or.inl ⟨h.1, by omega⟩)))
    · exact Or.inl (Or.inr (Or.inr (Or.inr ⟨h.1, by omega⟩)))
    · exact Or.inr h
  · rcases f.2.2.2 c j with (h | h) | h
    · exact Or.inl (Or.inl ⟨h.1, by omega⟩)
    · exact Or.inl (Or.inr ⟨h.1, by omega⟩)
    · exact Or.inr h
theorem rdr_loop : ∀ (N : Nat) {S : CS} {T : TS} {k : Nat} {F : List ClD} {Rs : List RuD} {mc : Int32}, 122 - k ≤ N → RuI S T rd rl x k F Rs mc → (∃ S' T' k' F' Rs' mc', wh (rdLp rd) S = some (.inl S') ∧ wh rdTp T = some T' ∧ RuI S' T' rd rl x k' F' Rs' mc' ∧ k ≤ k' ∧ JY (fun p => p = rd ∨ p = rl) S S' (6 * (k' - k)) ∧ RzF 0 0 0 T T') ∨ ∃ S' e T', wh (rdLp rd) S = some (.inr (.inr (e, S'))) ∧ wh rdTp T = some T' ∧ RzF 0 0 0 T T' ∧ RuX (fun p => p = rd ∨ p = rl) S k S' e T' := by
  intro N
  induction N with
  | zero =>
    intro S T k F Rs mc hN I
    have := k121 I.1.1
    omega
  | succ N ih =>
    intro S T k F Rs mc hN I
    have R := I.1.1
    have Q := I.1.2.1
    have k12 := k121 R
    obtain ⟨y, ey⟩ := tkW_y R
    have ok : tkO (tkC y) = true := by rw [← ey]; exact R.2.2.2.2.1
    obtain ⟨kl, k0, _, _⟩ := kd_lt ok
    have k59 := kd_1 ok (c := 59) (by decide)
    rw [← ey] at kl k0 k59
    have q231 : T.1 231 = 0 := Q.2.2.2.2.2.2
    have q228 : T.1 228 = Int32.ofNat (tkK (tkW x k)) := Q.2.2.2.1
    have n0 : Int32.ofNat (tkK (tkW x k)) = 0 ↔ tkW x k = [] := (i_inj (j := tkK (tkW x k)) (k := 0) (by omega) (by decide)).trans k0
    have n59 : Int32.ofNat (tkK (tkW x k)) = 59 ↔ tkW x k = [59] := (i_inj (j := tkK (tkW x k)) (k := 59) (by omega) (by decide)).trans k59
    have is0 := c_isT R (v := 63) (ys := []) (by decide)
    have is1 := c_isT R (v := 64) (ys := [59]) (by decide)
    have Ard : (fun p => p = rd ∨ p = rl) rd := Or.inl rfl
    have tout : ∀ {T' : TS}, T'.1 231 = 1 → wh rdTp T' = some T' := fun {T'} h => wh_inr (by
      unfold rdTp
      rw [h, if_neg (by decide)])
    by_cases z0 : tkW x k = []
    · left
      refine ⟨S, T, k, F, Rs, mc, wh_inr ?_, wh_inr ?_, I, Nat.le_refl _, JY_le (JY_0 R.1) (by omega), RzF_st ⟨fun _ _ _ _ _ _ => rfl, fun _ _ => rfl, rfl⟩⟩
      · unfold rdLp
        rw [if_pos (RdC_68 R), is0, Option.bind_some, if_pos z0, if_neg (by decide)]
      · unfold rdTp
        rw [q231, if_pos rfl, q228, if_pos (n0.mpr z0)]
    have et : ∀ {o}, Option.bind (t_741 (if tkW x k = [59] then 1 else 0) T) (fun x9 => (if (x9.1 231) = 0 then (if (x9.1 228) = 0 then some (.inl x9) else Option.bind (t_739 x9) (fun x10 => some (.inl x10))) else some (.inl x9))) = o → rdTp T = o := by
      intro o ho
      unfold rdTp
      rw [q231, if_pos rfl, q228, if_neg (fun w => z0 (n0.mp w))]
      have e : (if Int32.ofNat (tkK (tkW x k)) = 59 then some (1 : Int32) else some 0) = some (if tkW x k = [59] then 1 else 0) := by
        by_cases z : tkW x k = [59]
        · rw [if_pos (n59.mpr z), if_pos z]
        · rw [if_neg (fun w => z (n59.mp w)), if_neg z]
      rw [e, Option.bind_some]
      exact ho
    by_cases z : tkW x k = [59]
    rotate_left
    · right
      rw [if_neg z, t_take0 q231, Option.bind_some, if_neg (show ¬ (ptI T 231 1).1 231 = 0 from (by decide : ¬ (1 : Int32) = 0))] at et
      obtain ⟨bb, JB⟩ := rd_badR (T := ptI T 231 1) R Q.2.1 rfl
      refine ⟨_, _, _, wh_inr ?_, (wh_inl (et rfl)).trans (tout rfl), RzF_231 1, bb, k, Nat.le_refl _, k12, JY_le (JY_x JB Ard) (by omega)⟩
      unfold rdLp
      rw [if_pos (RdC_68 R), is0, Option.bind_some, if_neg z0, if_pos rfl, if_pos (RdC_68 R), is1, Option.bind_some, if_pos (RdC_68 R), rd_bad R, if_neg z, if_pos rfl, Option.bind_some, Sum.elim_inr]
    have ec : ∀ {o}, Option.bind (c_931 rd S) (Sum.elim (fun x9 => (if isK x9 [68] rd = true then Option.bind (c_938 rd 63 x9) (fun x11 => (if x11 = 0 then (if isK x9 [68] rd = true then Option.bind (c_936 rd x9) (Sum.elim (fun x12 => some (.inl x12)) (fun q13 => some (.inr (.inr (.inr (q13.1, q13.2)))))) else none) else some (.inl x9))) else none)) (fun q10 => some (.inr (.inr (.inr (q10.1, q10.2)))))) = o → rdLp rd S = o := by
      intro o ho
      unfold rdLp
      rw [if_pos (RdC_68 R), is0, Option.bind_some, if_neg z0, if_pos rfl, if_pos (RdC_68 R), is1, Option.bind_some, if_pos (RdC_68 R), rd_bad R, if_pos z, if_neg (show ¬ (1 : Int32) = 0 by decide), Option.bind_some, Sum.elim_inl, if_pos (RdC_68 R)]
      exact ho
    rw [if_pos z] at et
    rcases rd_step R Q z0 with ⟨S1, T1, eC, eT, R1, Q1, J1, F1⟩ | ⟨S1, e, T1, eC, eT, b1, J1, F1⟩
    rotate_left
    · right
      have e2 := ec (o := some (.inr (.inr (.inr (e, S1))))) (by rw [eC, Option.bind_some, Sum.elim_inr])
      have e3 := et (o := some (.inl T1)) (by rw [eT, Option.bind_some, b1.1, if_neg (by decide)])
      exact ⟨S1, e, T1, wh_inr e2, (wh_inl e3).trans (tout b1.1), RzF_st F1, b1, k, Nat.le_refl _, k12, JY_le (JY_x J1 Ard) (by omega)⟩
    have I1 : RuI S1 T1 rd rl x (k + 1) F Rs mc := RuI_st I R1 Q1 J1 F1 (by omega)
    obtain ⟨y1, ey1⟩ := tkW_y R1
    have ok1 : tkO (tkC y1) = true := by rw [← ey1]; exact R1.2.2.2.2.1
    obtain ⟨kl1, k01, _, _⟩ := kd_lt ok1
    rw [← ey1] at kl1 k01
    have n01' : Int32.ofNat (tkK (tkW x (k + 1))) = 0 ↔ tkW x (k + 1) = [] := (i_inj (j := tkK (tkW x (k + 1))) (k := 0) (by omega) (by decide)).trans k01
    have is01 := c_isT R1 (v := 63) (ys := []) (by decide)
    have p228 : T1.1 228 = Int32.ofNat (tkK (tkW x (k + 1))) := Q1.2.2.2.1
    have p231 : T1.1 231 = 0 := Q1.2.2.2.2.2.2
    by_cases z1 : tkW x (k + 1) = []
    · have e2 := ec (o := some (.inl S1)) (by rw [eC, Option.bind_some, Sum.elim_inl, if_pos (RdC_68 R1), is01, Option.bind_some, if_pos z1, if_neg (by decide)])
      have e3 := et (o := some (.inl T1)) (by rw [eT, Option.bind_some, p231, if_pos rfl, p228, if_pos (n01'.mpr z1)])
      rw [wh_inl e2, wh_inl e3]
      rcases ih (by omega) I1 with ⟨S', T', k', F', Rs', mc', r1, r2, r3, r4, r5, r6⟩ | ⟨S', e, T', r1, r2, r3, r4⟩
      · exact Or.inl ⟨S', T', k', F', Rs', mc', r1, r2, r3, by omega, JY_tr (JY_x J1 Ard) r5 (by omega), RzF_tr (RzF_st F1) r6⟩
      · exact Or.inr ⟨S', e, T', r1, r2, RzF_tr (RzF_st F1) r3, RuX_le r4 (by omega) (JY_le (JY_x J1 Ard) (by omega))⟩
    · rcases ru_next I1 with ⟨S2, T2, k2, F2, u, c1, c2, I2, kk, J2, Fr2⟩ | ⟨S2, e, T2, c1, c2, Fr2, X2⟩
      · have e2 := ec (o := some (.inl S2)) (by rw [eC, Option.bind_some, Sum.elim_inl, if_pos (RdC_68 R1), is01, Option.bind_some, if_neg z1, if_pos rfl, if_pos (RdC_68 R1), c1, Option.bind_some, Sum.elim_inl])
        have e3 := et (o := some (.inl T2)) (by rw [eT, Option.bind_some, p231, if_pos rfl, p228, if_neg (fun w => z1 (n01'.mp w)), c2, Option.bind_some])
        rw [wh_inl e2, wh_inl e3]
        rcases ih (by omega) I2 with ⟨S', T', k', F', Rs', mc', r1, r2, r3, r4, r5, r6⟩ | ⟨S', e, T', r1, r2, r3, r4⟩
        · exact Or.inl ⟨S', T', k', F', Rs', mc', r1, r2, r3, by omega, JY_tr (JY_tr (JY_x J1 Ard) J2 (Nat.le_refl _)) r5 (by omega), RzF_tr (RzF_tr (RzF_st F1) (RzF_0 Fr2)) r6⟩
        · exact Or.inr ⟨S', e, T', r1, r2, RzF_tr (RzF_tr (RzF_st F1) (RzF_0 Fr2)) r3, RuX_le r4 (by omega) (JY_tr (JY_x J1 Ard) J2 (by omega))⟩
      · right
        have e2 := ec (o := some (.inr (.inr (.inr (e, S2))))) (by rw [eC, Option.bind_some, Sum.elim_inl, if_pos (RdC_68 R1), is01, Option.bind_some, if_neg z1, if_pos rfl, if_pos (RdC_68 R1), c1, Option.bind_some, Sum.elim_inr])
        have e3 := et (o := some (.inl T2)) (by rw [eT, Option.bind_some, p231, if_pos rfl, p228, if_neg (fun w => z1 (n01'.mp w)), c2, Option.bind_some])
        exact ⟨S2, e, T2, wh_inr e2, (wh_inl e3).trans (tout X2.1.1), RzF_tr (RzF_st F1) (RzF_0 Fr2), RuX_le X2 (by omega) (JY_le (JY_x J1 Ard) (by omega))⟩
/-- the whole text -/
theorem rd_read (hw : wfS s) (K : KS s) (X : TxC x s) (Y : TxR x t) (h : s.1 rd = some (rdCell rl .null 0 0 0 0)) (hl : s.1 rl = some (true, false, 1013, [.int 0])) : (∃ S T k F Rs mc, c_930 rd s = some (.inl (some rl, S)) ∧ t_733 t = Option.bind (t_748 T) (fun x11 => Option.bind (some (ptI x11 201 0)) (fun s12 => Option.bind (some (ptI s12 218 (-1))) (fun s13 => some (s13.1 205, s13)))) ∧ RuI S T rd rl x k F Rs mc ∧ JY (fun p => p = rd ∨ p = rl) s S 740 ∧ RzF 0 0 0 t T) ∨ ∃ S e T, c_930 rd s = some (.inr (e, S)) ∧ t_733 t = some ((-1) - (T.1 226), T) ∧ WrO S e (T.1 226) ∧ JY (fun p => p = rd ∨ p = rl) s S 740 ∧ RzF 0 0 0 t T := by
  obtain ⟨s6, hs6⟩ : ∃ s6, s6 = ptI (ptI (ptI (ptI (ptI (ptI t 227 0) 230 0) 231 0) 232 0) 233 0) 234 0 := ⟨_, rfl⟩
  have F6 : RzF 0 0 0 t s6 := by
    rw [hs6]
    exact ⟨fun c a1 a2 a3 a4 a5 a6 a7 a8 a9 => (if_neg a8).trans ((if_neg a7).trans ((if_neg a6).trans ((if_neg a5).trans ((if_neg a4).trans (if_neg a2))))), fun _ _ => rfl, fun _ _ => Or.inr rfl, fun _ _ => Or.inr rfl⟩
  have Y6 : TxR x s6 := by rw [hs6]; exact Y
  have tq : t_733 t = Option.bind (t_734 s6) (fun x7 => Option.bind (t_739 x7) (fun x8 => Option.bind (wh rdTp x8) (fun v46 => (if (v46.1 231) = 0 then Option.bind (t_748 v46) (fun x11 => Option.bind (some (ptI x11 201 0)) (fun s12 => Option.bind (some (ptI s12 218 (-1))) (fun s13 => some (s13.1 205, s13)))) else some ((-1) - (v46.1 226), v46))))) := by
    rw [t_733_eq, hs6]; rfl
  have i68 : isK s [68] rd = true := isK_t h rfl
  have Ard : (fun p => p = rd ∨ p = rl) rd := Or.inl rfl
  have tbad : ∀ {Z : TS}, Z.1 231 = 1 → Option.bind (t_739 Z) (fun x8 => Option.bind (wh rdTp x8) (fun v46 => (if (v46.1 231) = 0 then Option.bind (t_748 v46) (fun x11 => Option.bind (some (ptI x11 201 0)) (fun s12 => Option.bind (some (ptI s12 218 (-1))) (fun s13 => some (s13.1 205, s13)))) else some ((-1) - (v46.1 226), v46)))) = some ((-1) - Z.1 226, ptI Z 231 1) := by
    intro Z hZ
    rw [t_739_eq, hZ, if_neg (by decide), Option.bind_some, n01 (Or.inr rfl), Option.bind_some, if_neg (show ¬ (ptI Z 231 1).1 231 = 0 from (by decide : ¬ (1 : Int32) = 0)), Option.bind_some]
    have e : wh rdTp (ptI Z 231 1) = some (ptI Z 231 1) := wh_inr (by
      unfold rdTp
      exact if_neg (show ¬ (1 : Int32) = 0 by decide))
    rw [e, Option.bind_some]
    exact if_neg (show ¬ (1 : Int32) = 0 by decide)
  have tbad2 : ∀ {Z : TS}, Z.1 231 = 1 → (if (Z.1 231) = 0 then Option.bind (t_748 Z) (fun x11 => Option.bind (some (ptI x11 201 0)) (fun s12 => Option.bind (some (ptI s12 218 (-1))) (fun s13 => some (s13.1 205, s13)))) else some ((-1) - (Z.1 226), Z)) = some ((-1) - Z.1 226, Z) := fun {Z} hZ => by
    rw [hZ]; exact if_neg (by decide)
  rw [tq, c_930_eq, if_pos i68]
  rcases rd_step0 (k := 0) (p := 0) (n := 0) hw K X Y6 h rfl rfl (by omega) (by rw [hs6]; rfl) (by rw [hs6]; rfl) (by rw [hs6]; rfl) with ⟨S1, T1, eC, eT, R1, Q1, J1, F1⟩ | ⟨S1, e, T1, eC, eT, b1, J1, F1⟩
  rotate_left
  · right
    rw [eC, Option.bind_some, Sum.elim_inr, eT, Option.bind_some, tbad b1.1]
    exact ⟨S1, e, ptI T1 231 1, rfl, rfl, b1.2, JY_le (JY_x J1 Ard) (by omega), RzF_tr F6 (RzF_tr (RzF_st F1) (RzF_231 1))⟩
  rw [eC, Option.bind_some, Sum.elim_inl, eT, Option.bind_some, if_pos (RdC_68 R1)]
  have hl1 := JX_ne J1 hw h (by show 1013 ≠ 68; decide) hl
  have f1 : ∀ c, c = 232 ∨ c = 233 ∨ c = 234 → T1.1 c = 0 := fun c hc => by
    rw [F1.1 c (by omega) (by omega) (by omega) (by omega) (by omega), hs6]
    rcases hc with rfl | rfl | rfl <;> rfl
  have I1 : RuI S1 T1 rd rl x 1 [] [] 0 := ⟨⟨R1, Q1, f1 233 (by decide), f1 234 (by decide), by show 0 + 2 ≤ 2 * 1; decide, by show 3 * 0 + 1 ≤ 1; decide, fun c hc => absurd hc (Nat.not_lt_zero _)⟩, hl1, f1 232 (by decide), Nat.zero_le _, fun j hj => absurd hj (Nat.not_lt_zero _), rfl, fun i j hj => absurd hj (Nat.not_lt_zero _), fun j hj => absurd hj (Nat.not_lt_zero _)⟩
  have F01 : RzF 0 0 0 t T1 := RzF_tr F6 (RzF_st F1)
  rcases ru_next I1 with ⟨S2, T2, k2, F2, u, c1, c2, I2, kk, J2, Fr2⟩ | ⟨S2, e, T2, c1, c2, Fr2, b2, k2, q1, q2, J2⟩
  rotate_left
  · right
    have e3 : wh rdTp T2 = some T2 := wh_inr (by
      unfold rdTp
      rw [b2.1, if_neg (by decide)])
    rw [c1, Option.bind_some, Sum.elim_inr, c2, Option.bind_some, e3, Option.bind_some, tbad2 b2.1]
    exact ⟨S2, e, T2, rfl, rfl, b2.2, JY_tr (JY_x J1 Ard) J2 (by omega), RzF_tr F01 (RzF_0 Fr2)⟩
  rw [c1, Option.bind_some, Sum.elim_inl, c2, Option.bind_some]
  rcases rdr_loop (122 - k2) (Nat.le_refl _) I2 with ⟨S', T', k', F', Rs', mc', r1, r2, r3, r4, r5, r6⟩ | ⟨S', e, T', r1, r2, r3, b3, k3, q1, q2, J3⟩
  · left
    have k12 := k121 r3.1.1
    have xr : xR S' [(68, 1)] rd = some (some rl) := by
      obtain ⟨_, _, _, _, _, b, fl, n, h1, _⟩ := r3.1.1
      exact xR_o h1 rfl rfl
    rw [r1, Option.bind_some, Sum.elim_inl, xr, Option.bind_some, r2, Option.bind_some, show T'.1 231 = 0 from r3.1.2.1.2.2.2.2.2.2, if_pos rfl]
    exact ⟨S', T', k', F', Rs', mc', rfl, rfl, r3, JY_tr (JY_tr (JY_x J1 Ard) J2 (Nat.le_refl _)) r5 (by omega), RzF_tr F01 (RzF_tr (RzF_0 Fr2) r6)⟩
  · right
    rw [r1, Option.bind_some, Sum.elim_inr, r2, Option.bind_some, tbad2 b3.1]
    exact ⟨S', e, T', rfl, rfl, b3.2, JY_tr (JY_tr (JY_x J1 Ard) J2 (Nat.le_refl _)) J3 (by omega), RzF_tr F01 (RzF_tr (RzF_0 Fr2) r3)⟩
end
