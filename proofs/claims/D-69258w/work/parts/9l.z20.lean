/-! the house: measure, whole -/
section
variable {α : Type} {s S : CS} {own own1 : Nat → Nat} {t t1 : TS} {K N N1 : Nat}
theorem RH.part0 {Y : Nat} {s' : CS} {own' : Nat → Nat} {T : TS} (r : RH s own t K N) (hY : 2 ≤ Y ∧ Y ≤ 10) (h4 : Y ≠ 4) (hF : Frm (fun X => X = Y) own own' s s') (hrt : ∀ Z, Z ≠ Y → Z ≠ 99 → rt T Z = rt t Z) (k : KpN t T) (p : RYs Y K N (fun Z => rs s'.1 own' Z) t T) : RH s' own' T K N := by
  obtain ⟨p2, p3, p4, p5, p6, p7, p8, p9, p10⟩ := p
  have hb : B137 T := by
    by_cases z : Y = 5
    · exact (p5 z).2
    · intro k hk
      rw [rt_row (c := 137) (hrt 5 (fun w => z w.symm) (by omega)) rfl]; exact r.nn.b5 k hk
  refine RH.keep (X := fun X => X = Y) (Y := fun Z => Z = Y) r hF (fun Z h => ⟨Or.inl (by omega), by omega⟩) (fun Z h _ w => h w) hrt (r.nn.kp k (fun h c h1 h2 => ?_) hb) (hrt 1 (by omega) (by omega)) (k.h 9 (by decide)) (fun h => ?_) (fun z => (p2 z.symm).1) (fun z => p3 z.symm) (fun z => absurd z.symm h4) (fun _ => Nat.le_refl _) (fun z => (p5 z.symm).1) (fun z => p6 z.symm) (fun _ => rfl) (fun z => p7 z.symm) (fun z => p8 z.symm) (fun z => p9 z.symm) (fun z => p10 z.symm)
  · exact rt_row (hrt 4 (fun w => h4 w.symm) (by omega)) (by unfold mR; split <;> (try split) <;> omega)
  · by_cases z : Y = 2
    · exact (p2 z).2.resolve_left h
    · exact hrt 2 (fun w => z w.symm) (by omega)
theorem Hr.pre {E : Nat → Int32 → Prop} {c : Option (Sum (α × CS) (Nat × CS))} {d : Option (α × TS)} {n m a b n' m' : Nat} (hF : Frm HP own own1 s S) (hn : S.2.2.1 + PHc S t1 N1 ≤ s.2.2.1 + PHc s t N + a) (hm : S.2.2.2 + PHs S t1 N1 ≤ s.2.2.2 + PHs s t N + b) (h : Hr E own1 S t1 K N1 n m c d) (h1 : a + n ≤ n') (h2 : b + m ≤ m') : Hr E own s t K N n' m' c d := by
  obtain ⟨x, t', s', own', K', N', a1, a2, a3, a4, a5, a6, a7⟩ := h
  exact ⟨x, t', s', own', K', N', a1, a2, a3, hF.trans a4, by omega, by omega, a7⟩
theorem RH.vok {n : Nat} (r : RH s own t K N) (v : VOk s S n) : RH S (own3 own s.2.1) t K N ∧ S.2.2.1 + PHc S t N ≤ s.2.2.1 + PHc s t N + 3 * n ∧ S.2.2.2 + PHs S t N ≤ s.2.2.2 + PHs s t N + 9 * n ∧ Frm HP own (own3 own s.2.1) s S := by
  have hF := frm_v (own := own) v
  have e := st5_frm r hF (by omega)
  refine ⟨r.part0 (Y := 3) (by omega) (by omega) hF (fun _ _ _ => rfl) KpN.rf (RY3 (H := fun Z => rs S.1 (own3 own s.2.1) Z) (T := t) (R3_up (rs_v r.wf v 3) Ag3_0 r.r3)), ?_, ?_, frm_up hF (fun Z h => Or.inl (by omega))⟩
  · unfold PHc; rw [e]; have := v.2.2.2.1; omega
  · unfold PHs; rw [e]; have := v.2.2.2.2; omega
theorem rng_ok {n : Nat} (hn : n ≤ 100000) : (if Int32.ofNat n < (-1000000000) then some (0 : Int32) else (if 1000000000 < Int32.ofNat n then some 0 else some 1)) = some 1 := by
  have e := i_toInt (show n < 2147483648 by omega)
  have h1 : (-1000000000 : Int32).toInt = -1000000000 := rfl
  have h2 : (1000000000 : Int32).toInt = 1000000000 := rfl
  rw [if_neg (by rw [Int32.lt_iff_toInt_lt, e, h1]; omega), if_neg (by rw [Int32.lt_iff_toInt_lt, e, h2]; omega)]
theorem goes_c {a b : Int32} (ha : v01 a) : (a = 0 ∧ t_558 a b t = some (0, ptI t 0 1)) ∨ (a = 1 ∧ b = 0 ∧ t_558 a b t = some (0, ptI t 0 2)) ∨ (a = 1 ∧ ¬ b = 0 ∧ t_558 a b t = some (1, ptI t 0 0)) := by
  rcases ha with rfl | rfl
  · exact Or.inl ⟨rfl, goes_0 _ _⟩
  · by_cases z : b = 0
    · subst z; exact Or.inr (Or.inl ⟨rfl, rfl, goes_2 _⟩)
    · exact Or.inr (Or.inr ⟨rfl, z, goes_1 _ z⟩)
theorem hs_measure (r : RH s own t K N) (v1 v2 : Int32) (v3 : Int64) : Hr thr0 own s t K N 700 2600 (c_411 100 v1 v2 v3 s) (t_579 v1 v2 v3 t) := by
  obtain ⟨nf, n0, nr0, rl0, mc0, ru0, q0, bb0, D0, r1, rD, _, rF, _⟩ := id r.r3
  have h202 : t.1 202 = Int32.ofNat nf := by obtain ⟨_, _, _, _, _, _, h, _⟩ := rF; exact h
  have h40 : nf ≤ 40 := by obtain ⟨_, _, _, _, _, _, _, h, _⟩ := rF; exact h
  -- where the reference's size is asked
  obtain ⟨a, ha, e708, hsz⟩ : ∃ x1, v01 x1 ∧ t_708 v1 t = some x1 ∧ (x1 = 1 → t.1 110 ≠ 0 → ∃ n : Nat, n ≤ 100000 ∧ t_713 v1 v2 (ptI t 0 0) = some (Int32.ofNat n)) := by
    obtain ⟨L, nl, LC, LD, DC, nd, fo, be, co, fi, q⟩ := r.r2
    rcases R2_fnd q with ⟨_, a1, a2⟩ | ⟨fd, Lf, nf, nr, st, ln, lab, fL, ou, ol, mp, pid, nid, aid, si, rc, rl, sp, sl, _, a1, a2, F, _⟩
    · exact ⟨0, Or.inl rfl, t_sp0 a1 v1, fun z => absurd z (by decide)⟩
    · refine ⟨_, ?_, t_sp1 a1 (FT_117 F.1) v1, fun z _ => ?_⟩
      · split
        · exact Or.inr rfl
        · exact Or.inl rfl
      · by_cases w : inB v1 (Int32.ofNat (spn Lf nf st ln nr)) = true
        · obtain ⟨j, hj, rfl⟩ := inB_nat _ (by have := FN_le F; omega) w
          exact sz_b (FN_0 F.1) hj v2
        · rw [if_neg w] at z; exact absurd z (by decide)
  have hA : v01 (if a = 0 then (0 : Int32) else if inB v2 3 = true then 1 else 0) := by
    split
    · exact Or.inl rfl
    · split
      · exact Or.inr rfl
      · exact Or.inl rfl
  have e567 : t_567 v1 v2 t = Option.bind (t_558 (if a = 0 then (0 : Int32) else if inB v2 3 = true then 1 else 0) (t.1 110) t) (fun x3 => (if x3.1 = 0 then some (0, x3.2) else Option.bind (t_713 v1 v2 x3.2) (fun x4 => some (x4, x3.2)))) := by
    unfold t_567
    rw [e708, Option.bind_some, isInB]
    by_cases z : a = 0
    · rw [if_pos z, Option.bind_some, if_pos z]
    · rw [if_neg z, if_neg z, Option.bind_some]
      by_cases w : inB v2 3 = true
      · rw [if_pos w, if_neg (show ¬ (1 : Int32) = 0 by decide), Option.bind_some]
      · rw [if_neg w, if_pos rfl, Option.bind_some]
  have e579 : t_579 v1 v2 v3 t = Option.bind (t_558 (if (if a = 0 then (0 : Int32) else if inB v2 3 = true then 1 else 0) = 0 then 0 else if nmG v3 = true then 1 else 0) (if t.1 110 = 0 then 0 else if rmB t nf v3 = true then 1 else 0) t) (fun x5 => (if x5.1 = 0 then some (0, x5.2) else Option.bind (t_713 v1 v2 x5.2) (fun x6 => Option.bind (t_751 v3 x6 x5.2) (fun x7 => some (x6, x7.2))))) := by
    unfold t_579
    rw [e708, Option.bind_some, isInB, t_isNm, t_room h202 h40]
    have s1 : ∀ b : Bool, (if (if b = true then (1 : Int32) else 0) = 0 then (some (0 : Int32)) else some 1) = some (if b = true then 1 else 0) := fun b => by cases b <;> rfl
    have e1 : (if t.1 110 = 0 then some (0 : Int32) else Option.bind (some (if rmB t nf v3 = true then (1 : Int32) else 0)) (fun x4 => (if x4 = 0 then some 0 else some 1))) = some (if t.1 110 = 0 then 0 else if rmB t nf v3 = true then 1 else 0) := by
      rw [Option.bind_some, s1]
      by_cases z : t.1 110 = 0
      · rw [if_pos z, if_pos z]
      · rw [if_neg z, if_neg z]
    rw [e1, Option.bind_some, Option.bind_some, s1]
    by_cases z : a = 0
    · rw [if_pos z, Option.bind_some, if_pos z, if_pos rfl]; rfl
    · rw [if_neg z, if_neg z]
      by_cases w : inB v2 3 = true
      · rw [if_pos w, if_neg (show ¬ (1 : Int32) = 0 by decide), Option.bind_some, if_neg (show ¬ (1 : Int32) = 0 by decide)]; rfl
      · rw [if_neg w, if_pos rfl, Option.bind_some, if_pos rfl]; rfl
  -- the component
  obtain ⟨S, v, hS⟩ := c_hasRoom r.wf r.r3 rF v3
  obtain ⟨rS, p1, p2, fS⟩ := r.vok v
  unfold c_411
  rw [r.m3.1, Option.bind_some, if_pos r.m3.2]
  rcases hS with ⟨nm, ec⟩ | ⟨nm, ec⟩
  rotate_left
  · have rt := (rS.pt 1).mono (Nat.le_succ K)
    refine Hr.thr (x := (0 : Int32)) (kd := 11) (cd := 1) (a := 81) (b := 243) rt (Nat.le_refl _) fS (Or.inl ⟨rfl, rfl⟩) (by rw [ec]; rfl) ?_ rfl ?_ ?_ (by omega) (by omega)
    · rw [e579, if_neg nm]
      have : (if (if a = 0 then (0 : Int32) else if inB v2 3 = true then 1 else 0) = 0 then (0 : Int32) else 0) = 0 := by rcases hA with z | z <;> rw [z] <;> rfl
      rw [this, goes_0]; rfl
    · unfold PHc at p1 ⊢; rw [(Pc_kp (KpN.p0 (v := 1))).1]; omega
    · unfold PHs at p2 ⊢; rw [(Pc_kp (KpN.p0 (v := 1))).2]; omega
  rw [ec, Option.bind_some, Sum.elim_inl]
  dsimp only
  rw [rS.m2.1, Option.bind_some, if_pos rS.m2.2]
  refine Hr.pre (K := K) (a := 81) (b := 243) (n := 619) (m := 2357) fS (by omega) (by omega) ?_ (by omega) (by omega)
  have h := pl_size rS.wf rS.r2 v1 v2
  rw [if_pos nm] at e579
  have e1 : (if (if a = 0 then (0 : Int32) else if inB v2 3 = true then 1 else 0) = 0 then (0 : Int32) else 1) = (if a = 0 then (0 : Int32) else if inB v2 3 = true then 1 else 0) := by
    rcases hA with z | z <;> rw [z] <;> rfl
  rw [e1] at e579
  rcases h with ⟨x, s2, t2, own2, a1, a2, a3, a4, a5, a6, a7, a8⟩ | ⟨x, kd, cd, s2, own2, a1, a2, a3, a4, a5, a6, a7⟩
  · -- it has a size
    have ht2 : t2 = ptI t 0 0 ∧ t_713 v1 v2 (ptI t 0 0) = some x ∧ (if a = 0 then (0 : Int32) else if inB v2 3 = true then 1 else 0) = 1 ∧ ¬ t.1 110 = 0 := by
      rw [a2] at e567
      rcases goes_c (t := t) (b := t.1 110) hA with ⟨_, g⟩ | ⟨_, _, g⟩ | ⟨g1, g2, g⟩
      · rw [g, Option.bind_some, if_pos rfl] at e567
        cases e567
        exact absurd a3 (by show ¬ (1 : Int32) = 0; decide)
      · rw [g, Option.bind_some, if_pos rfl] at e567
        cases e567
        exact absurd a3 (by show ¬ (2 : Int32) = 0; decide)
      · rw [g, Option.bind_some, if_neg (show ¬ (1 : Int32) = 0 by decide)] at e567
        dsimp only at e567
        cases h3 : t_713 v1 v2 (ptI t 0 0) with
        | none => rw [h3] at e567; cases e567
        | some y =>
          rw [h3, Option.bind_some] at e567
          cases e567
          exact ⟨rfl, rfl, g1, g2⟩
    obtain ⟨rfl, h713, g1, g2⟩ := ht2
    have ha1 : a = 1 := by
      rcases ha with z | z
      · rw [if_pos z] at g1; exact absurd g1 (by decide)
      · exact z
    obtain ⟨n, hn, hx⟩ := hsz ha1 g2
    rw [h713] at hx
    cases hx
    have r2 : RH s2 own2 (ptI t 0 0) K N := rS.part0 (Y := 2) (by omega) (by omega) a5 a4 KpN.p0 (RY2 (H := fun Z => rs s2.1 own2 Z) (T := ptI t 0 0) a6)
    have e5 := st5_frm rS a5 (by omega)
    have c1 : s2.2.2.1 + PHc s2 (ptI t 0 0) N ≤ S.2.2.1 + PHc S t N + 500 := by
      unfold PHc; rw [(Pc_kp (KpN.p0 (v := 0))).1, e5]; omega
    have c2 : s2.2.2.2 + PHs s2 (ptI t 0 0) N ≤ S.2.2.2 + PHs S t N + 2000 := by
      unfold PHs; rw [(Pc_kp (KpN.p0 (v := 0))).2, e5]; omega
    have f2 : Frm HP (own3 own s.2.1) own2 S s2 := frm_up a5 (fun Z h => Or.inl (by omega))
    rw [a1, Option.bind_some, Sum.elim_inl]
    dsimp only
    rw [g1, if_neg g2] at e579
    rw [may_eq]
    by_cases rm : rmB t nf v3 = true
    · rw [if_pos rm, if_neg (show ¬ (1 : Int32) = 0 by decide), Option.bind_some, Sum.elim_inl, r2.m3.1, Option.bind_some, if_pos r2.m3.2]
      have rm0 : rmB (ptI t 0 0) nf v3 = true := by
        unfold rmB; rw [fcI_cg (t := t) (T := ptI t 0 0) rfl]; exact rm
      have ef := t_fact (t := ptI t 0 0) h202 h40 v3 (Int32.ofNat n) (rmB_i.mp rm0)
      have e577 : t_577 v3 (Int32.ofNat n) (ptI t 0 0) = t_751 v3 (Int32.ofNat n) (ptI t 0 0) := by
        unfold t_577
        rw [t_isNm, if_pos nm, Option.bind_some, if_neg (show ¬ (1 : Int32) = 0 by decide), rng_ok hn, Option.bind_some, t_room (t := ptI t 0 0) h202 h40, if_pos rm0, Option.bind_some, goes_1 _ (by decide), Option.bind_some, if_neg (show ¬ (1 : Int32) = 0 by decide), show ptI (ptI t 0 0) 0 0 = ptI t 0 0 from pt_id rfl, ef]
        rfl
      have hf := (pm_fact r2.wf r2.r3 v3 (Int32.ofNat n)).hs (n' := 91) (m' := 276) r2 (by omega) RY3 (kp_of (by omega) (pm_fact r2.wf r2.r3 v3 (Int32.ofNat n))) (fun z => absurd z (by decide)) (by decide) (by decide)
      obtain ⟨y, t3, s3, own3', K3', N3, b1, b2, b3, b4, b5, b6, b7⟩ := hf
      rw [e577, ef] at b1
      have ht3 : t3.1 0 = 0 := by
        cases b1
        exact (putT_f (t := ptI t 0 0) (nf := nf) v3 (Int32.ofNat n)).1 0 (by decide)
      rcases b7 with ⟨c7, _⟩ | ⟨kd, cd, aa, fs, z1, _, _, z2⟩
      · refine ⟨Int32.ofNat n, t3, s3, own3', K3', N3, ?_, b2, b3, f2.trans b4, by omega, by omega, Or.inl ⟨by rw [c7]; rfl, ht3⟩⟩
        rw [e579, if_pos rm, goes_1 _ (by decide), Option.bind_some, if_neg (show ¬ (1 : Int32) = 0 by decide)]
        dsimp only
        rw [h713, Option.bind_some, ef, Option.bind_some]
        cases b1
        rfl
      · rw [ht3] at z2
        rcases z1 with ⟨_, z⟩ | ⟨_, z⟩ <;> rw [z] at z2 <;> exact absurd z2 (by decide)
    · rw [if_neg rm, if_pos rfl]
      have rt := ((r2.pt 2).mono (Nat.le_succ K))
      refine Hr.thr (x := (0 : Int32)) (kd := 12) (cd := 2) (a := 500) (b := 2000) rt (Nat.le_refl _) f2 (Or.inr ⟨rfl, rfl⟩) rfl ?_ rfl ?_ ?_ (by omega) (by omega)
      · rw [e579, if_neg rm, goes_2, Option.bind_some, if_pos rfl]
        exact congrArg (fun w => some ((0 : Int32), w)) (Prod.ext (funext fun q => by by_cases z : q = 0 <;> simp [ptI, z]) rfl)
      · unfold PHc at c1 ⊢; rw [(Pc_kp (KpN.p0 (v := 2))).1]; omega
      · unfold PHs at c2 ⊢; rw [(Pc_kp (KpN.p0 (v := 2))).2]; omega
  · -- it has none
    have r2 : RH s2 own2 t K N := rS.part0 (Y := 2) (by omega) (by omega) a4 (fun _ _ _ => rfl) KpN.rf (RY2 (H := fun Z => rs s2.1 own2 Z) (T := t) a5)
    have e5 := st5_frm rS a4 (by omega)
    have f2 : Frm HP (own3 own s.2.1) own2 S s2 := frm_up a4 (fun Z h => Or.inl (by omega))
    have rt := ((r2.pt cd).mono (Nat.le_succ K))
    refine Hr.thr (x := (0 : Int32)) (kd := kd) (cd := cd) (a := 500) (b := 2000) rt (Nat.le_refl _) f2 a1 (by rw [a2]; rfl) ?_ rfl ?_ ?_ (by omega) (by omega)
    · rw [a3] at e567
      rw [e579]
      rcases goes_c (t := t) (b := t.1 110) hA with ⟨g1, g⟩ | ⟨g1, g2, g⟩ | ⟨g1, g2, g⟩
      · rw [g, Option.bind_some, if_pos rfl] at e567
        rw [g1, goes_0, Option.bind_some, if_pos rfl]
        injection e567 with e567
        injection e567 with w1 w2
        rw [w2]
      · rw [g, Option.bind_some, if_pos rfl] at e567
        rw [g1, if_pos g2, goes_2, Option.bind_some, if_pos rfl]
        injection e567 with e567
        injection e567 with w1 w2
        rw [w2]
      · rw [g, Option.bind_some, if_neg (show ¬ (1 : Int32) = 0 by decide)] at e567
        dsimp only at e567
        exfalso
        cases h3 : t_713 v1 v2 (ptI t 0 0) with
        | none => rw [h3] at e567; cases e567
        | some y =>
          rw [h3, Option.bind_some] at e567
          injection e567 with e567
          injection e567 with w1 w2
          have := congrFun (congrArg Prod.fst w2) 0
          have z2 : cd = 0 := this
          rcases a1 with ⟨_, z⟩ | ⟨_, z⟩ <;> rw [z] at z2 <;> exact absurd z2 (by decide)
    · unfold PHc; rw [(Pc_kp (KpN.p0 (v := cd))).1, e5]; omega
    · unfold PHs; rw [(Pc_kp (KpN.p0 (v := cd))).2, e5]; omega
end
