/-! the house: build -/
section
variable {s : CS} {own : Nat → Nat} {t : TS} {K N : Nat}
theorem day_v (v1 : Int32) : (if v1 < 0 then some (0 : Int32) else (if 1000000 < v1 then some 0 else some 1)) = some (if v1 < 0 ∨ 1000000 < v1 then 0 else 1) := by
  by_cases a : v1 < 0
  · rw [if_pos a, if_pos (Or.inl a)]
  · by_cases b : 1000000 < v1
    · rw [if_neg a, if_pos b, if_pos (Or.inr b)]
    · rw [if_neg a, if_neg b, if_neg (fun w => w.elim a b)]
theorem hs_build (r : RH s own t K N) (v1 : Int32) : Hr thr0 own s t K N 32110 596520 (c_414 100 v1 s) (t_583 v1 t) := by
  unfold c_414 t_583 t_581
  rw [day_v, Option.bind_some, Option.bind_some, need_eq]
  have v22 : ∃ v, (if t.1 1 = 0 then (if t.1 110 = 0 then some (0 : Int32) else (if 0 < t.1 117 then (if 40 < t.1 117 then some 0 else some 1) else some 0)) else some 0) = some v := by
    split
    · split
      · exact ⟨_, rfl⟩
      · split
        · split <;> exact ⟨_, rfl⟩
        · exact ⟨_, rfl⟩
    · exact ⟨_, rfl⟩
  by_cases hd : v1 < 0 ∨ 1000000 < v1
  · obtain ⟨v, hv⟩ := v22
    rw [if_pos hd, hv, Option.bind_some, goes_0]
    exact Hr.arg (x := 0) r (by rw [if_pos rfl]; rfl) (by rw [Option.bind_some, if_pos rfl]) (by omega) (by omega)
  have hn1 : ¬ v1 = -1 := fun w => hd (Or.inl (by rw [w]; decide))
  rw [if_neg hd, if_neg (show ¬ (1 : Int32) = 0 by decide), Option.bind_some, Sum.elim_inl, r.bu, Option.bind_some]
  by_cases hb : t.1 1 = 0
  rotate_left
  · rw [if_neg hb, if_neg hb, Option.bind_some, Option.bind_some, Sum.elim_inl, may_eq, if_pos rfl, goes_2]
    exact Hr.sta (x := 0) r (by rw [Option.bind_some]; rfl) (by rw [Option.bind_some, if_pos rfl]) (by omega) (by omega)
  rw [if_pos hb, if_pos hb, r.m2.1, Option.bind_some, if_pos r.m2.2]
  have h := pl_count r.wf r.r2 0
  have e564 : t_564 0 t = Option.bind (t_558 1 (t.1 110) t) (fun x2 => (if x2.1 = 0 then some (0, x2.2) else some (x2.2.1 117, x2.2))) := by
    unfold t_564
    rw [isInB, show inB (0 : Int32) 4 = true from by decide, if_pos rfl, Option.bind_some]
    rfl
  have h110 : v01 (t.1 110) := by
    obtain ⟨L, nl, LC, LD, DC, nd, fo, be, co, fi, x1, x2, x3, x4, _, _, x7⟩ := r.r2
    rcases x7 with ⟨_, _, w⟩ | ⟨_, _, _, w, _⟩
    · exact Or.inl w
    · exact w
  have stE : ∀ {S : CS} {own1 : Nat → Nat} {c : Option (Sum (Int32 × CS) (Nat × CS))} {d : Option (Int32 × TS)}, RH S own1 t K N → Frm (fun X => X = 2) own own1 s S → S.2.2.1 ≤ s.2.2.1 + 1 → S.2.2.2 ≤ s.2.2.2 + 4 → c = some (.inr (S.2.1, exs S 12)) → d = some (0, ptI t 0 2) → Hr thr0 own s t K N 32110 596520 c d := fun {S own1 c d} rS hF c1 c2 hc hd' => by
    have e5 := st5_frm r hF (by omega)
    refine Hr.thr (x := (0 : Int32)) (kd := 12) (cd := 2) (a := 1) (b := 4) ((rS.pt 2).mono (Nat.le_succ K)) (Nat.le_refl _) (frm_up hF (fun Z h => Or.inl (by omega))) (Or.inr ⟨rfl, rfl⟩) hc hd' rfl ?_ ?_ (by omega) (by omega)
    · unfold PHc; rw [(Pc_kp (KpN.p0 (v := 2))).1, e5]; omega
    · unfold PHs; rw [(Pc_kp (KpN.p0 (v := 2))).2, e5]; omega
  rcases h with ⟨x, S, t2, own1, a1, a2, a3, a4, a5, a6, a7, a8⟩ | ⟨x, kd, cd, S, own1, a1, a2, a3, a4, a5, a6, a7⟩
  rotate_left
  · -- nothing is found
    have hy : t.1 110 = 0 ∧ cd = 2 := by
      rw [a3] at e564
      rcases h110 with z | z
      · rw [z, goes_2, Option.bind_some, if_pos rfl] at e564
        injection e564 with e564
        injection e564 with _ w
        have := congrFun (congrArg Prod.fst w) 0
        exact ⟨z, this⟩
      · rw [z, goes_1 _ (by decide), Option.bind_some, if_neg (show ¬ (1 : Int32) = 0 by decide)] at e564
        injection e564 with e564
        injection e564 with _ w
        have := congrFun (congrArg Prod.fst w) 0
        have z2 : cd = 0 := this
        rcases a1 with ⟨_, q⟩ | ⟨_, q⟩ <;> rw [q] at z2 <;> exact absurd z2 (by decide)
    obtain ⟨hy, rfl⟩ := hy
    have hkd : kd = 12 := by
      rcases a1 with ⟨_, q⟩ | ⟨q, _⟩
      · exact absurd q (by decide)
      · exact q
    subst hkd
    have rS : RH S own1 t K N := r.part0 (Y := 2) (by omega) (by omega) a4 (fun _ _ _ => rfl) KpN.rf (RY2 (H := fun Z => rs S.1 own1 Z) (T := t) a5)
    refine stE rS a4 a6 a7 (by rw [a2]; rfl) ?_
    rw [if_pos hy, Option.bind_some, goes_2, Option.bind_some, if_pos rfl]
  -- something is found
  have hy : t.1 110 = 1 ∧ x = t.1 117 ∧ t2 = ptI t 0 0 := by
    rw [a2] at e564
    rcases h110 with z | z
    · rw [z, goes_2, Option.bind_some, if_pos rfl] at e564
      injection e564 with e564
      injection e564 with _ w
      rw [w] at a3
      exact absurd a3 (by show ¬ (2 : Int32) = 0; decide)
    · rw [z, goes_1 _ (by decide), Option.bind_some, if_neg (show ¬ (1 : Int32) = 0 by decide)] at e564
      injection e564 with e564
      injection e564 with w1 w2
      exact ⟨z, w1, w2⟩
  obtain ⟨hy, rfl, rfl⟩ := hy
  have r0 : RH S own1 (ptI t 0 0) K N := r.part0 (Y := 2) (by omega) (by omega) a5 a4 KpN.p0 (RY2 (H := fun Z => rs S.1 own1 Z) (T := ptI t 0 0) a6)
  have rS : RH S own1 t K N := by
    have h := r0.pt (t.1 0)
    have e : ptI (ptI t 0 0) 0 (t.1 0) = t := by rw [pt_pt]; exact pt_id rfl
    rw [e] at h
    exact h
  obtain ⟨L, nl, nr, st, ln, lab, LC, LD, DC, nd, fd, fL, ou, ol, mp, pid, nid, aid, si, rc, rl, sp, sl, pB⟩ := pl_bld rS.r2 hy
  have h117 : t.1 117 = Int32.ofNat (spn L nl st ln nr) := pB.2.2.2.2.2.2.2.2.2.2.2.2.2
  have hle := FN_le pB.1
  obtain ⟨fr, gfd⟩ := pB.2.1
  have c919 := c_spaces pB.1 gfd
  generalize hsp : spn L nl st ln nr = n at h117 c919 hle
  have hn4 : n < 100000 := by omega
  have lt1 : (t.1 117 < 1) ↔ n < 1 := by rw [h117]; exact i_lt (k := 1) (by omega) (by omega)
  have lt0 : (0 < t.1 117) ↔ 0 < n := by rw [h117]; exact i_lt (j := 0) (by omega) (by omega)
  have lt40 : (40 < t.1 117) ↔ 40 < n := by rw [h117]; exact i_lt (j := 40) (by omega) (by omega)
  rw [a1, Option.bind_some, Sum.elim_inl]
  dsimp only
  rw [if_neg (show ¬ t.1 110 = 0 by rw [hy]; decide)]
  by_cases hn0 : n < 1
  · rw [if_pos (lt1.mpr hn0), if_neg (fun w => by have := lt0.mp w; omega), Option.bind_some, Option.bind_some, Sum.elim_inl]
    dsimp only
    rw [may_eq, if_pos rfl, goes_2]
    exact stE rS a5 a7 a8 rfl (by rw [Option.bind_some, if_pos rfl])
  rw [if_neg (fun w => hn0 (lt1.mp w)), if_pos (lt0.mpr (by omega)), r0.m2.1, Option.bind_some, if_pos r0.m2.2, c919, Option.bind_some, ← h117]
  by_cases hn40 : 40 < n
  · rw [if_pos (lt40.mpr hn40), if_pos (lt40.mpr hn40), Option.bind_some, Option.bind_some, Sum.elim_inl]
    dsimp only
    rw [may_eq, if_pos rfl, goes_2]
    exact stE rS a5 a7 a8 rfl (by rw [Option.bind_some, if_pos rfl])
  rw [if_neg (fun w => hn40 (lt40.mp w)), if_neg (fun w => hn40 (lt40.mp w)), Option.bind_some, Option.bind_some, Sum.elim_inl]
  dsimp only
  rw [may_eq, if_neg (show ¬ (1 : Int32) = 0 by decide), goes_1 _ (by decide), Option.bind_some, Option.bind_some, Sum.elim_inl, if_neg (show ¬ (1 : Int32) = 0 by decide), r0.m3.1, Option.bind_some, if_pos r0.m3.2]
  dsimp only
  have f1 : Frm HP own own1 s S := frm_up a5 (fun Z h => Or.inl (by omega))
  have e5 := st5_frm r a5 (by omega)
  have c1 : S.2.2.1 + PHc S (ptI t 0 0) N ≤ s.2.2.1 + PHc s t N + 1 := by
    unfold PHc; rw [(Pc_kp (KpN.p0 (v := 0))).1, e5]; omega
  have c2 : S.2.2.2 + PHs S (ptI t 0 0) N ≤ s.2.2.2 + PHs s t N + 4 := by
    unfold PHs; rw [(Pc_kp (KpN.p0 (v := 0))).2, e5]; omega
  refine Hr.pre (K := K) (a := 1) (b := 4) (n := 32100) (m := 596505) f1 c1 c2 ?_ (by omega) (by omega)
  -- the rules are checked
  have e580 : t_580 v1 (ptI t 0 0) = Option.bind (t_752 v1 (ptI t 0 0)) (fun x3 => some (x3.1, x3.2)) := by
    unfold t_580 t_581
    rw [day_v, if_neg hd, Option.bind_some, goes_1 _ (by decide), Option.bind_some, if_neg (show ¬ (1 : Int32) = 0 by decide), show ptI (ptI t 0 0) 0 0 = ptI t 0 0 from pt_id rfl]
  rcases pm_check r0.wf r0.hs r0.k3 r0.r3 v1 with ⟨x, S3, t3, own3, b1, b2, b3, b4, b5, b6, b7, b8⟩ | ⟨x, kd, cd, S3, own3, b1, b2, b3, b4⟩
  rotate_left
  · exfalso
    rw [e580] at b3
    cases h7 : t_752 v1 (ptI t 0 0) with
    | none => rw [h7] at b3; cases b3
    | some y =>
      rw [h7, Option.bind_some] at b3
      injection b3 with b3
      have e := (kd_752.h y h7).2
      have e2 : y.2 = ptI (ptI t 0 0) 0 cd := congrArg Prod.snd b3
      rw [e2] at e
      have z2 : cd = 0 := e
      rcases b1 with ⟨_, q⟩ | ⟨_, q⟩ <;> rw [q] at z2 <;> exact absurd z2 (by decide)
  have h752 : t_752 v1 (ptI t 0 0) = some (x, t3) := by
    rw [e580] at b2
    cases h7 : t_752 v1 (ptI t 0 0) with
    | none => rw [h7] at b2; cases b2
    | some y =>
      rw [h7, Option.bind_some] at b2
      exact b2
  have h218 : t3.1 218 = v1 := (kd_752.h _ h752).1
  have r3 : RH S3 own3 t3 K N := r0.part0 (Y := 3) (by omega) (by omega) b5 b4 (kpn_rt (by omega) b4) (RY3 (H := fun Z => rs S3.1 own3 Z) (T := t3) b6)
  have f3 : Frm HP own1 own3 S S3 := frm_up b5 (fun Z h => Or.inl (by omega))
  have e53 := st5_frm r0 b5 (by omega)
  have ekp := Pc_kp (N := N) (kpn_rt (Y := 3) (t := ptI t 0 0) (T := t3) (by omega) b4)
  have c3 : S3.2.2.1 + PHc S3 t3 N ≤ S.2.2.1 + PHc S (ptI t 0 0) N + 1800 := by
    unfold PHc; rw [ekp.1, e53]; omega
  have c4 : S3.2.2.2 + PHs S3 t3 N ≤ S.2.2.2 + PHs S (ptI t 0 0) N + 5200 := by
    unfold PHs; rw [ekp.2, e53]; omega
  obtain ⟨o, ho, p1, p2⟩ := pm_first r3.k3 r3.r3 (by rw [h218]; exact hn1)
  rw [b1, Option.bind_some, Sum.elim_inl, h752, Option.bind_some]
  dsimp only
  rw [r3.m3.1, Option.bind_some, if_pos r3.m3.2, p1, Option.bind_some, p2, Option.bind_some]
  cases o with
  | some k =>
    have hk := ho k rfl
    have hk1 : ¬ Int32.ofNat k = -1 := fun w => by
      have := i_nlt0 (show k < 2147483648 by omega)
      rw [w] at this
      exact this (by decide)
    refine ⟨-1 - Int32.ofNat k, t3, S3, own3, K, N, ?_, r3, Nat.le_succ _, f3, by omega, by omega, Or.inl ⟨?_, b3⟩⟩
    · rfl
    · show (if Int32.ofNat k = -1 then _ else _) = _
      rw [if_neg hk1]
      rfl
  | none =>
    have q2 : rt t3 2 = rt t 2 := (b4 2 (by omega) (by omega)).trans (rt_ptI (by decide))
    have q1 : t3.1 1 = t.1 1 := (rt_num (t := ptI t 0 0) (b4 1 (by omega) (by omega)) rfl).trans rfl
    obtain ⟨W, T, own', y, d1, d2, d3, d4, d5, d6, d7⟩ := bld_core (sp0 := n) r3 (by rw [q1]; exact hb) (by rw [rt_num q2 rfl]; exact hy) (by rw [rt_num q2 rfl]; exact h117) (by omega)
    refine ⟨y, T, W, own', K, N, ?_, d3, Nat.le_succ _, f3.trans d4, by omega, by omega, Or.inl ⟨?_, by rw [d5]; exact b3⟩⟩
    · rw [← d2]
      rfl
    · rw [← d1]
      rfl
end
