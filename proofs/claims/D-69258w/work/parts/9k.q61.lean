/-! permits: say, both sides: whole -/
section
variable {s S : CS} {t T : TS} {own : Nat → Nat}
theorem chr_id : ∀ b : Fin 128, ((Int32.ofNat b.val).toUInt32 % 65536).toInt32 = Int32.ofNat b.val := by decide +kernel
theorem sb_row {f : Nat → Value} {m : Nat} (h : S.1 105 = some (true, false, 1035, rowC f m)) : sbCt S 105 = some (rowC f m) ∧ sbLen S 105 = some (Int32.ofNat m) := by
  have e : sbCt S 105 = some (rowC f m) := by
    unfold sbCt cc
    rw [h]
    exact if_pos rfl
  refine ⟨e, ?_⟩
  unfold sbLen
  rw [e, Option.bind_some, rowC_len]
theorem pm_say (hw : wfS s) (r : R3 (rs s.1 own 3) t) (v1 : Int64) : Rg thr0 (fun X => X = 3) 3 (fun H t => R3 (H 3) t) own s t 16 192 (c_971 104 v1 s) (t_574 v1 t) := by
  have r0 := r
  obtain ⟨nf, n, nr, rl, mc, ru, q, bb, D, r1, rD, ⟨x1, x2, x3, x4⟩, rF, _⟩ := r
  have g : ∀ {p c}, rs s.1 own 3 p = some c → s.1 p = some c := fun h => (rs_some.mp h).2
  have o105 : own 105 = 3 := (rs_some.mp x1).1
  have l105 := wf_lt hw (g x1)
  have c8 := cnD_8 (bytN v1) 8
  by_cases al : allB v1 = true
  rotate_left
  · refine Rg.arg (x := (0 : Int32)) (a := 0) (b := 0) hw r0 ?_ ?_ (by omega) (by omega)
    · unfold c_971
      rw [c_char, if_neg al, Option.bind_some, Sum.elim_inr]; rfl
    · unfold t_574
      rw [t_char, if_neg al, Option.bind_some, if_pos (by decide), Option.bind_some]
      have : ∃ u : Int32, (if 800 < t.1 201 + -1 then some (0 : Int32) else some 1) = some u := by
        by_cases z : 800 < t.1 201 + -1
        · exact ⟨0, if_pos z⟩
        · exact ⟨1, if_neg z⟩
      obtain ⟨u, hu⟩ := this
      rw [hu, Option.bind_some, goes_0, Option.bind_some]
      exact if_pos rfl
  have nn : (if (800 : Int32) < Int32.ofNat (n + cnD (bytN v1) 8) then some (0 : Int32) else some 1) = some (if n + cnD (bytN v1) 8 ≤ 800 then 1 else 0) := by
    by_cases z : n + cnD (bytN v1) 8 ≤ 800
    · rw [if_neg (show ¬ (800 : Int32) < Int32.ofNat (n + cnD (bytN v1) 8) from fun w => by have := (i_lt (j := 800) (by decide) (by omega)).mp w; omega), if_pos z]
    · rw [if_pos (show (800 : Int32) < Int32.ofNat (n + cnD (bytN v1) 8) from (i_lt (j := 800) (by decide) (by omega)).mpr (by omega)), if_neg z]
  have tt : t_574 v1 t = Option.bind (t_558 1 (if n + cnD (bytN v1) 8 ≤ 800 then 1 else 0) t) (fun x2 => (if x2.1 = 0 then some (0, x2.2) else Option.bind (t_732 v1 x2.2) (fun x3 => some (x3.1, x3.2)))) := by
    unfold t_574
    rw [t_char, if_pos al, Option.bind_some, if_neg (i_nlt0 (by rw [← cnDU]; omega)), Option.bind_some, x2, i_add, ← cnDU, nn, Option.bind_some]
  by_cases z : n + cnD (bytN v1) 8 ≤ 800
  rotate_left
  · refine Rg.sta (x := (0 : Int32)) (a := 0) (b := 0) hw r0 ?_ ?_ (by omega) (by omega)
    · unfold c_971
      rw [c_char, if_pos al, Option.bind_some, Sum.elim_inl, xN_o (g r1) rfl rfl, Option.bind_some, if_pos (isK_t (g x1) rfl), (sb_row (g x1)).2, Option.bind_some, i_add, nn, if_neg z, Option.bind_some, may_eq, if_pos rfl, Option.bind_some, Sum.elim_inr]; rfl
    · rw [tt, if_neg z, goes_2, Option.bind_some]
      exact if_pos rfl
  have okb := allB_i.mp al
  obtain ⟨t0, ht0⟩ : ∃ t0, t0 = ptI t 0 0 := ⟨_, rfl⟩
  have key : ∃ x y, wh (S := CS × Int32) (X := CS) (fun p50 => (if p50.2 < 0 then some (.inr p50.1) else Option.bind ((if (((v1 >>> ((8 * p50.2).toInt64 &&& 63)) &&& 255).toInt32) = 0 then some p50.1 else Option.bind (xN p50.1 [(78, 0)] 104) (fun a7 => (if isK p50.1 [35] a7 = true then Option.bind (sbC p50.1 a7 (((((v1 >>> ((8 * p50.2).toInt64 &&& 63)) &&& 255).toInt32).toUInt32 % 65536).toInt32)) (fun s8 => some s8) else none)))) (fun v69 => some (.inl (v69, p50.2 - 1))))) (s, 7) = some x ∧ wh (S := TS × Int32) (X := TS) (fun p2 => (if p2.2 < 0 then some (.inr p2.1) else Option.bind (t_731 v1 p2.2 p2.1) (fun x1 => Option.bind ((if 0 < x1 then Option.bind (t_731 v1 p2.2 p2.1) (fun x2 => Option.bind (stI p2.1 76 800 (p2.1.1 201) x2) (fun s3 => Option.bind (some (ptI s3 201 ((s3.1 201) + 1))) (fun s4 => some s4))) else some p2.1)) (fun v22 => some (.inl (v22, p2.2 - 1)))))) (t0, 7) = some y ∧ x.1 105 = some (true, false, 1035, rowC (fun i => .int (y.2.2.1 76 i)) (n + cnD (bytN v1) 8)) ∧ y.1 201 = Int32.ofNat (n + cnD (bytN v1) 8) ∧ (∀ i, i < n + cnD (bytN v1) 8 → ∃ u, 32 ≤ u ∧ u ≤ 126 ∧ y.2.2.1 76 i = Int32.ofNat u) ∧ (∀ p, p ≠ 105 → x.1 p = s.1 p) ∧ wfS x ∧ x.2.1 = s.2.1 ∧ x.2.2.1 ≤ s.2.2.1 + 2 * 8 ∧ x.2.2.2 ≤ s.2.2.2 + 24 * 8 ∧ (∀ c, c ≠ 201 → y.1 c = t0.1 c) ∧ y.2.1 = t0.2.1 ∧ (∀ c, c ≠ 76 → y.2.2.1 c = t0.2.2.1 c) ∧ y.2.2.2 = t0.2.2.2 := by
    refine wh_two 8 (fun j (a : CS × Int32) (b : TS × Int32) => a.2 = kI j ∧ b.2 = kI j ∧ a.1.1 105 = some (true, false, 1035, rowC (fun i => .int (b.1.2.2.1 76 i)) (n + cnD (bytN v1) j)) ∧ b.1.1 201 = Int32.ofNat (n + cnD (bytN v1) j) ∧ (∀ i, i < n + cnD (bytN v1) j → ∃ u, 32 ≤ u ∧ u ≤ 126 ∧ b.1.2.2.1 76 i = Int32.ofNat u) ∧ (∀ p, p ≠ 105 → a.1.1 p = s.1 p) ∧ wfS a.1 ∧ a.1.2.1 = s.2.1 ∧ a.1.2.2.1 ≤ s.2.2.1 + 2 * j ∧ a.1.2.2.2 ≤ s.2.2.2 + 24 * j ∧ (∀ c, c ≠ 201 → b.1.1 c = t0.1 c) ∧ b.1.2.1 = t0.2.1 ∧ (∀ c, c ≠ 76 → b.1.2.2.1 c = t0.2.2.1 c) ∧ b.1.2.2.2 = t0.2.2.2) ?_ ?_ ⟨rfl, rfl, by rw [ht0]; exact g x1, by rw [ht0]; exact x2, fun i hi => by rw [ht0]; exact x4 i hi, fun _ _ => rfl, hw, rfl, Nat.le_refl _, Nat.le_refl _, fun _ _ => rfl, rfl, fun _ _ => rfl, rfl⟩
    · rintro j ⟨S, _⟩ ⟨T, _⟩ hj ⟨rfl, rfl, g1, g2, g3, g4, g5, g6, g7, g8, g9, g10, g11, g12⟩
      right
      dsimp only at g1 g2 g3 g4 g5 g6 g7 g8 g9 g10 g11 g12 ⊢
      have bl := bytN_lt v1 (7 - j)
      have ob := okB_i.mp (okb (7 - j) (by omega))
      have ks := kI_s ⟨j, hj⟩
      dsimp only at ks
      have p0 : Int32.ofNat (bytN v1 (7 - j)) = 0 ↔ bytN v1 (7 - j) = 0 := i_inj (k := 0) (by omega) (by decide)
      have p0' : (0 : Int32) < Int32.ofNat (bytN v1 (7 - j)) ↔ 0 < bytN v1 (7 - j) := i_lt (j := 0) (by decide) (by omega)
      have cs : cnD (bytN v1) (j + 1) = cnD (bytN v1) j + (if bytN v1 (7 - j) = 0 then 0 else 1) := rfl
      have cm := cnD_le (bytN v1) (show j + 1 ≤ 8 by omega)
      unfold t_731
      rw [ks, kI_lt hj, if_neg (i_nlt0 (by omega)), if_neg (i_nlt0 (by omega)), bytN_e, Option.bind_some]
      by_cases z0 : bytN v1 (7 - j) = 0
      · rw [if_pos z0, Nat.add_zero] at cs
        rw [if_pos (p0.mpr z0), Option.bind_some, if_neg (fun w => by have := p0'.mp w; omega), Option.bind_some]
        refine ⟨_, _, rfl, rfl, rfl, rfl, ?_, ?_, ?_, g4, g5, g6, by dsimp only; omega, by dsimp only; omega, g9, g10, g11, g12⟩
        · rw [cs]; exact g1
        · rw [cs]; exact g2
        · rw [cs]; exact g3
      · rw [if_neg z0] at cs
        have S104 := (g4 104 (by decide)).trans (g r1)
        have cid := chr_id ⟨bytN v1 (7 - j), by omega⟩
        dsimp only at cid
        have l105' := wf_lt g5 g1
        have app : sbC S 105 (Int32.ofNat (bytN v1 (7 - j))) = some (cput S 1035 105 2 24 (rowC (fun i => .int (T.2.2.1 76 i)) (n + cnD (bytN v1) j) ++ [.int (Int32.ofNat (bytN v1 (7 - j)))])) := by
          unfold sbC sbApp
          rw [if_pos ⟨i_nlt0 (by omega), (i_lt (k := 128) (by omega) (by decide)).mpr (by omega)⟩, (sb_row g1).1, Option.bind_some, rowC_len, if_pos (by show _ + 1 < 100000; omega)]
          rfl
        rw [if_neg (fun w => z0 (p0.mp w)), xN_o S104 rfl rfl, Option.bind_some, if_pos (isK_t g1 rfl), cid, app, Option.bind_some, Option.bind_some, if_pos (p0'.mpr (by omega)), Option.bind_some, g2, stI_n (by omega) (by decide), Option.bind_some, Option.bind_some, Option.bind_some]
        obtain ⟨m, hm⟩ : ∃ m, m = n + cnD (bytN v1) j := ⟨_, rfl⟩
        have hm' : n + cnD (bytN v1) (j + 1) = m + 1 := by rw [cs]; omega
        rw [hm', ← hm]
        rw [← hm] at g1 g2 g3
        have w76 : ∀ i, (ptI (wrI T 76 m (Int32.ofNat (bytN v1 (7 - j)))) 201 ((wrI T 76 m (Int32.ofNat (bytN v1 (7 - j)))).1 201 + 1)).2.2.1 76 i = if i = m then Int32.ofNat (bytN v1 (7 - j)) else T.2.2.1 76 i := fun i => by
          show (wrI T 76 m _).2.2.1 76 i = _
          rw [wrIe]
        refine ⟨_, _, rfl, rfl, rfl, rfl, ?_, ?_, fun i hi => ?_, fun p hp => (cput_ne hp).trans (g4 p hp), wf_chg (wf_cup g5 l105'), g6, by show S.2.2.1 + 2 ≤ _; omega, by show S.2.2.2 + 24 ≤ _; omega, fun c hc => (if_neg hc).trans (g9 c hc), g10, fun c hc => ?_, g12⟩
        · refine (cput_eq ..).trans ?_
          rw [rowC_app]
          congr 5
          funext i
          by_cases zi : i = m
          · rw [if_pos zi]
            show _ = Value.int ((wrI T 76 m _).2.2.1 76 i)
            rw [wrIe]
            dsimp only
            rw [if_pos zi]
          · rw [if_neg zi]
            show _ = Value.int ((wrI T 76 m _).2.2.1 76 i)
            rw [wrIe]
            dsimp only
            rw [if_neg zi]
        · show (wrI T 76 m _).1 201 + 1 = _
          show T.1 201 + 1 = _
          rw [g2, i_suc]
        · rw [w76]
          by_cases zi : i = m
          · rw [if_pos zi]
            exact ⟨bytN v1 (7 - j), by omega, by omega, rfl⟩
          · rw [if_neg zi]
            exact g3 i (by omega)
        · show (wrI T 76 m _).2.2.1 c = _
          rw [wrIq _ _ _ hc]
          exact g11 c hc
    · rintro ⟨S, _⟩ ⟨T, _⟩ ⟨rfl, rfl, g1⟩
      dsimp only at g1 ⊢
      rw [kI_8, if_pos (by decide), if_pos (by decide)]
      exact ⟨S, T, rfl, rfl, g1⟩
  obtain ⟨S, T, eC, eT, g1, g2, g3, g4, g5, g6, g7, g8, g9, g10, g11, g12⟩ := key
  have S104 := (g4 104 (by decide)).trans (g r1)
  have N0 : ∀ c, c ≠ 0 → c ≠ 201 → T.1 c = t.1 c := fun c h1 h2 => by rw [g9 c h2, ht0]; exact if_neg h1
  have NL : T.2.1 = t.2.1 := by rw [g10, ht0]; rfl
  have NI : ∀ c, c ≠ 76 → T.2.2.1 c = t.2.2.1 c := fun c hc => by rw [g11 c hc, ht0]; rfl
  have NQ : T.2.2.2 = t.2.2.2 := by rw [g12, ht0]; rfl
  refine Or.inl ⟨Int32.ofNat (n + cnD (bytN v1) 8), S, T, own, ?_, ?_, (g9 0 (by decide)).trans (by rw [ht0]; rfl), fun Z h1 h2 => ?_, ?_, ?_, by omega, by omega⟩
  · unfold c_971
    rw [c_char, if_pos al, Option.bind_some, Sum.elim_inl, xN_o (g r1) rfl rfl, Option.bind_some, if_pos (isK_t (g x1) rfl), (sb_row (g x1)).2, Option.bind_some, i_add, nn, if_pos z, Option.bind_some, may_eq, if_neg (by decide), Option.bind_some, Sum.elim_inl, eC, Option.bind_some, xN_o S104 rfl rfl, Option.bind_some, if_pos (isK_t g1 rfl), (sb_row g1).2, Option.bind_some]
  · rw [tt, if_pos z, goes_1 _ (by decide), Option.bind_some, if_neg (show ¬ (1 : Int32) = 0 by decide), ← ht0]
    unfold t_732
    rw [eT, Option.bind_some, Option.bind_some, g2]
  · unfold rt
    refine Prod.ext ?_ (Prod.ext ?_ (Prod.ext ?_ ?_)) <;> dsimp only
    · funext c
      by_cases w : mI c = Z
      · rw [if_pos w, if_pos w]
        exact N0 c (fun e => h2 (by rw [← w, e]; decide)) (fun e => h1 (by rw [← w, e]; decide))
      · rw [if_neg w, if_neg w]
    · rw [NL]
    · funext c j
      by_cases w : mR c = Z
      · rw [if_pos w, if_pos w, NI c (fun e => h1 (by rw [← w, e]; decide))]
      · rw [if_neg w, if_neg w]
    · rw [NQ]
  · exact frm_pt (fun p => p = 105) (fun p hp h => by rw [h]; exact o105) (fun p hp h => g4 p h) (Nat.le_of_eq g6.symm) (fun _ _ => rfl) (fun p h1 h2 => by omega) g5
  · refine R3_upq (nf' := nf) (n' := n + cnD (bytN v1) 8) (fun p c h1 _ hc => ?_) ⟨fun c hc => N0 c (by omega) (by omega), fun c hc => NI c (by omega), fun c hc => by rw [NQ], fun c hc => NI c (by omega), by rw [NQ]⟩ ⟨rs_some.mpr ⟨o105, g1⟩, g2, z, g3⟩ (R3f_cg (t := t) (N0 202 (by decide) (by decide)) (by rw [NQ]) (NI 78 (by decide)) (R3f_up rF (fun c hc => ?_))) r0
    · obtain ⟨o, hc'⟩ := rs_some.mp hc
      refine rs_some.mpr ⟨o, (g4 p (fun w => ?_)).trans hc'⟩
      rw [w, g x1] at hc'
      rw [← Option.some.inj hc'] at h1
      exact h1 rfl
    · obtain ⟨o, hc'⟩ := rs_some.mp hc
      exact rs_some.mpr ⟨o, (g4 107 (by decide)).trans hc'⟩
end
