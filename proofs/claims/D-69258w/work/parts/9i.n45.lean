/-! the plan: rings are sorted, loops over all of them -/
section
variable {L : PLn} {nl nr : Nat} {st ln : Nat → Nat} {lab : Int → Int → Int} {LC : Nat → Nat} {b0 : Nat} {h0 : lHeap} {s : CS} {mp RL M : Nat} {pid nid aid : Nat → Nat → Nat} {si : Nat → Nat} {Kp : Nat → lCell → Prop} {od : List Nat} {rc rl q : Nat → Nat} {mr : Int32} {rsv : Nat → Value}
/-- a map is apart from all else -/
def Map1 (b0 : Nat) (Kp : Nat → lCell → Prop) (mp RL : Nat) (od : List Nat) (rl : Nat → Nat) (M : Nat) : Prop := b0 ≤ M ∧ M ≠ mp ∧ M ≠ RL ∧ (∀ k ∈ od, M ≠ rl k) ∧ ∀ c, ¬ Kp M c
theorem SOt_put (hg : gdL L nl) (hR : RF L nl nr st ln) (hn : nr ≤ 400) (o : SOt b0 h0 Kp s L nl nr st ln LC mp RL mr pid nid aid si od rc rl q rsv) (hM : Map1 b0 Kp mp RL od rl M) {S : Nat → Prop} (r : MRs s.1 L nl nr st pid rc M S) {k n : Nat} (hk : k ∈ od) (hnk : ¬ S k) (hS : ∀ k', S k' → k' < nr ∧ cdR L nl st k' ≠ cdR L nl st k) (hnn : n < nr) (hle : ∀ mc es, s.1 M = some (true, false, 1042, .int mc :: fl es) → es.length ≤ n) :
    ∃ s', Option.bind (xN s [(66, 1)] (rc k)) (fun a9 => Option.bind (xR s [(64, 0)] a9) (fun r10 => (if isK s [42] M = true then Option.bind (tmPut s M (vR r10) (.ref (rc k))) (fun x11 => some x11.2) else none))) = some s' ∧ SOt b0 h0 Kp s' L nl nr st ln LC mp RL mr pid nid aid si od rc rl q rsv ∧ MRs s'.1 L nl nr st pid rc M (fun z => S z ∨ z = k) ∧ (∀ mc es, s'.1 M = some (true, false, 1042, .int mc :: fl es) → es.length ≤ n + 1) ∧ s'.2.1 = s.2.1 ∧ s'.2.2.1 ≤ s.2.2.1 + 1 ∧ s'.2.2.2 ≤ s.2.2.2 + 6 ∧ ∀ a, a ≠ M → s'.1 a = s.1 a := by
  have o' := o
  obtain ⟨r1, r2, r3, r4, ⟨rv, r5, r6⟩, r7, r8, r9, r10, r11⟩ := o'
  obtain ⟨a1, a2, a3, a4, a5, mc, a6⟩ := r7.2.1 k hk
  have pr := PRs_of hg hR r5
  obtain ⟨y1, y2, y3, _⟩ := GSt_sd hg r5 (hR.1 k a1).1
  have hm := r
  obtain ⟨mcM, esM, m1, _⟩ := hm
  rw [xN_o (b := nid (sX L nl (st k)) (sY L nl (st k))) a5 rfl rfl]; repeat (first | rw [Option.bind_some] | rw [Sum.elim_inl] | rw [Sum.elim_inr])
  rw [xR_o (b := pid (sX L nl (st k)) (sY L nl (st k))) y2 rfl rfl]; repeat (first | rw [Option.bind_some] | rw [Sum.elim_inl] | rw [Sum.elim_inr])
  rw [if_pos (isK_t m1 rfl)]
  obtain ⟨v, n', j, xs, t1, t2, t3, t4, es, mc', t5, t6⟩ := MRs_put hg hR r pr a1 hnk hS (fun es mc e => by have := hle mc es e; omega) hn
  rw [show vR (some (pid (sX L nl (st k)) (sY L nl (st k)))) = Value.ref (pid (sX L nl (st k)) (sY L nl (st k))) from rfl, t1]; repeat (first | rw [Option.bind_some] | rw [Sum.elim_inl] | rw [Sum.elim_inr])
  refine ⟨_, rfl, SOt_w o m1 ⟨by show ¬ (1042 : Nat) = 63; decide, by show ¬ (1042 : Nat) = 64; decide, by show ¬ (1042 : Nat) = 7; decide, by show ¬ (1042 : Nat) = 65; decide, by show ¬ (1042 : Nat) = 66; decide⟩ hM.1 hM.2.1 hM.2.2.1 hM.2.2.2.1 hM.2.2.2.2 (fun a ha => cput_ne ha) (wf_chg (wf_cup r1 (wf_lt r1 m1))) (Nat.le_refl _), t4, fun mc2 es2 e => ?_, rfl, ?_, ?_, fun a ha => cput_ne ha⟩
  · have e := (cput_eq s 1042 M n' j xs).symm.trans e
    rw [t5] at e
    have e := Option.some.inj e
    simp only [Prod.mk.injEq, List.cons.injEq, true_and] at e
    have e3 := congrArg prs e.2
    rw [prs_fl, prs_fl] at e3
    have := t6 esM mcM m1
    have := hle mcM esM m1
    rw [← e3]; omega
  · show s.2.2.1 + n' ≤ _; omega
  · show s.2.2.2 + j ≤ _; omega
theorem lnS_take (od : List Nat) {i : Nat} (hi : i < od.length) : lnS ln (od.take (i + 1)) = lnS ln (od.take i) + ln (od.getD i 0) := by
  rw [List.take_succ_eq_append_getElem hi, lnS_add, getD_lt hi]
theorem mem_take (od : List Nat) {i k : Nat} (hi : i < od.length) : k ∈ od.take (i + 1) ↔ k ∈ od.take i ∨ k = od.getD i 0 := by
  rw [List.take_succ_eq_append_getElem hi, List.mem_append, getD_lt hi]
  simp
theorem nd_take {od : List Nat} (hd : od.Nodup) {i : Nat} (hi : i < od.length) : od.getD i 0 ∉ od.take i := by
  intro h
  rw [getD_lt hi] at h
  obtain ⟨j, hj, e⟩ := List.getElem_of_mem h
  rw [List.length_take] at hj
  rw [List.getElem_take] at e
  have := List.pairwise_iff_getElem.mp hd j i (by omega) hi (by omega)
  exact this e
theorem c_sort1 (hg : gdL L nl) (hR : RF L nl nr st ln) (hl : gLab (gS L nl) (2 * nP L nl) lab) (hn : nr ≤ 400) (o : SOt b0 h0 Kp s L nl nr st ln LC mp RL mr pid nid aid si od rc rl q rsv) (hM : Map1 b0 Kp mp RL od rl M) (h0' : s.1 M = some (true, false, 1042, [.int 0])) :
    Tr (wh (S := CS × Int32) (X := CS) (fun p7 => Option.bind (alHas p7.1 RL p7.2) (fun x4 => (if x4 = 0 then some (.inr p7.1) else Option.bind (alNext p7.1 RL mr p7.2) (fun e5 => Option.bind (toN p7.1 [66] e5) (fun a6 => (if isK p7.1 [66] a6 = true then Option.bind (c_886 a6 p7.1) (fun x7 => Option.bind (xI x7 [(66, 2)] a6) (fun x8 => Option.bind ((if 0 < x8 then Option.bind (xN x7 [(66, 1)] a6) (fun a9 => Option.bind (xR x7 [(64, 0)] a9) (fun r10 => (if isK x7 [42] M = true then Option.bind (tmPut x7 M (vR r10) (.ref a6)) (fun x11 => some x11.2) else none))) else some x7)) (fun v26 => some (.inl (v26, p7.2 + 1))))) else none)))))) (s, 0)) (fun s' => SOt b0 h0 Kp s' L nl nr st ln LC mp RL mr pid nid aid si od rc rl st rsv ∧ MRs s'.1 L nl nr st pid rc M (fun k => k < nr ∧ lfB L nl st ln k = true) ∧ s'.2.2.1 ≤ s.2.2.1 + 4 * nr + 2 * nP L nl ∧ s'.2.2.2 ≤ s.2.2.2 + 25 * nr + 66 * nP L nl ∧ s.2.1 ≤ s'.2.1) := by
  have hN := nP_le hg
  have nd := o.2.2.2.2.2.1.1
  have odn : ∀ k ∈ od, k < nr := fun k hk => (o.2.2.2.2.2.1.2.1 k hk).1
  have oda := o.2.2.2.2.2.2.2.2.2
  have len : od.length ≤ nr := by
    have := nd.length_le_of_subset (fun k hk => List.mem_range.mpr (odn k hk))
    rwa [List.length_range] at this
  have ltM := wf_lt o.1 h0'
  refine wh_cnt od.length (fun i a => a.2 = Int32.ofNat i ∧ (∃ q', SOt b0 h0 Kp a.1 L nl nr st ln LC mp RL mr pid nid aid si od rc rl q' rsv ∧ ∀ k ∈ od.take i, q' k = st k) ∧ MRs a.1.1 L nl nr st pid rc M (fun k => k ∈ od.take i ∧ lfB L nl st ln k = true) ∧ (∀ mc es, a.1.1 M = some (true, false, 1042, .int mc :: fl es) → es.length ≤ i) ∧ a.1.2.2.1 ≤ s.2.2.1 + 4 * i + lnS ln (od.take i) ∧ a.1.2.2.2 ≤ s.2.2.2 + 25 * i + 33 * lnS ln (od.take i) ∧ s.2.1 ≤ a.1.2.1) ?_ ?_ ⟨rfl, ⟨q, o, fun k hk => by simp at hk⟩, ?_, fun mc es e => ?_, by simp [lnS], by simp [lnS], Nat.le_refl _⟩
  · rintro i ⟨U, _⟩ hi ⟨rfl, ⟨q', uo, uq⟩, um, ue, uc, us, un⟩
    right
    dsimp only at uo um ue uc us un ⊢
    have hRL := uo.2.2.2.2.2.2.1
    have e1 : (od.map (fun k => Value.ref (rc k)))[i]? = some (.ref (rc (od.getD i 0))) := by rw [List.getElem?_map, List.getElem?_eq_getElem hi, getD_lt hi]; rfl
    have hk : od.getD i 0 ∈ od := by rw [getD_lt hi]; exact List.getElem_mem hi
    have nt := nd_take nd hi
    have mt := fun k => mem_take od (k := k) hi
    rw [lnS_take od hi]
    generalize od.getD i 0 = k at *
    rw [alHas_l hRL (by omega) (by rw [List.length_map]; omega), List.length_map, if_neg (by omega)]; repeat (first | rw [Option.bind_some] | rw [Sum.elim_inl] | rw [Sum.elim_inr])
    rw [if_neg (by decide), alNext_l hRL e1 (by omega)]; repeat (first | rw [Option.bind_some] | rw [Sum.elim_inl] | rw [Sum.elim_inr])
    have hrc := (uo.2.2.2.2.2.1.2.1 k hk).2.2.2.2.1
    rw [toN_o hrc rfl]; repeat (first | rw [Option.bind_some] | rw [Sum.elim_inl] | rw [Sum.elim_inr])
    rw [if_pos (isK_t hrc rfl)]
    obtain ⟨U1, b1, b2, b3, b4, b5, b6⟩ := SOt_begin hg hR uo hk
    rw [b1]; repeat (first | rw [Option.bind_some] | rw [Sum.elim_inl] | rw [Sum.elim_inr])
    have hrc1 := (b2.2.2.2.2.2.1.2.1 k hk).2.2.2.2.1
    rw [xI_o (x := Int32.ofInt (gtrn (gS L nl) (rgs L nl st ln k))) hrc1 rfl rfl]; repeat (first | rw [Option.bind_some] | rw [Sum.elim_inl] | rw [Sum.elim_inr])
    rw [i_suc]
    obtain ⟨mc0, es0, m1, _⟩ := um
    have um : MRs U.1 L nl nr st pid rc M (fun k => k ∈ od.take i ∧ lfB L nl st ln k = true) := ⟨mc0, es0, m1, by assumption⟩
    have eM : U1.1 M = U.1 M := b3 M (by omega) (hM.2.2.2.1 k hk)
    obtain ⟨rv0, g0, _⟩ := uo.2.2.2.2.1
    obtain ⟨rv1, g1, _⟩ := b2.2.2.2.2.1
    have um1 := MRs_ext hg hR um eM (PRs_of hg hR g0) (PRs_of hg hR g1)
    have tb := tn_bd hg hR hl (odn k hk)
    have lfi : lfB L nl st ln k = true ↔ 0 < gtrn (gS L nl) (rgs L nl st ln k) := by unfold lfB; rw [decide_eq_true_eq]
    have q2 : ∀ k' ∈ od.take (i + 1), upd1 q' k (st k) k' = st k' := fun k' hk' => by
      by_cases e : k' = k
      · rw [upd1_eq e, e]
      · rw [upd1_ne e]; exact uq k' (((mt k').mp hk').elim id (fun z => absurd z e))
    by_cases z : lfB L nl st ln k = true
    · rw [if_pos ((i_pos tb.1 tb.2).mpr (lfi.mp z))]
      obtain ⟨U2, d1, d2, d3, d4, d5, d6, d7, d8⟩ := SOt_put (n := i) hg hR hn b2 hM um1 hk (fun w => nt w.1) (fun k' hk' => ⟨odn k' (List.mem_of_mem_take hk'.1), fun e => nt (by rw [← cdR_lf hg hR hl (odn k' (List.mem_of_mem_take hk'.1)) (odn k hk) hk'.2 z e]; exact hk'.1)⟩) (by omega) (fun mc es e => ue mc es (by rw [← eM]; exact e))
      rw [d1]; repeat (first | rw [Option.bind_some] | rw [Sum.elim_inl] | rw [Sum.elim_inr])
      refine ⟨_, rfl, rfl, ⟨_, d2, q2⟩, ?_, d4, by dsimp only; omega, by dsimp only; omega, by dsimp only; omega⟩
      have : (fun k_1 => k_1 ∈ od.take (i + 1) ∧ lfB L nl st ln k_1 = true) = fun z => (z ∈ od.take i ∧ lfB L nl st ln z = true) ∨ z = k := by
        funext w
        apply propext
        rw [mt w]
        constructor
        · rintro ⟨h1 | h1, h2⟩
          · exact Or.inl ⟨h1, h2⟩
          · exact Or.inr h1
        · rintro (⟨h1, h2⟩ | h1)
          · exact ⟨Or.inl h1, h2⟩
          · exact ⟨Or.inr h1, by rw [h1]; exact z⟩
      rw [this]; exact d3
    · rw [if_neg (fun w => z (lfi.mpr ((i_pos tb.1 tb.2).mp w)))]; repeat (first | rw [Option.bind_some] | rw [Sum.elim_inl] | rw [Sum.elim_inr])
      refine ⟨_, rfl, rfl, ⟨_, b2, q2⟩, ?_, fun mc es e => by have := ue mc es (by rw [← eM]; exact e); omega, by dsimp only; omega, by dsimp only; omega, by dsimp only; omega⟩
      have : (fun k_1 => k_1 ∈ od.take (i + 1) ∧ lfB L nl st ln k_1 = true) = fun k => k ∈ od.take i ∧ lfB L nl st ln k = true := by
        funext w
        apply propext
        rw [mt w]
        constructor
        · rintro ⟨h1 | h1, h2⟩
          · exact ⟨h1, h2⟩
          · rw [h1] at h2; exact absurd h2 z
        · rintro ⟨h1, h2⟩
          exact ⟨Or.inl h1, h2⟩
      rw [this]; exact um1
  · rintro ⟨U, _⟩ ⟨rfl, ⟨q', uo, uq⟩, um, ue, uc, us, un⟩
    dsimp only at uo um ue uc us un ⊢
    have hRL := uo.2.2.2.2.2.2.1
    have tk : od.take od.length = od := List.take_length
    have nS := lnS_le hg hR nd odn
    rw [tk] at uq um uc us
    refine ⟨U, by rw [alHas_l hRL (by omega) (by rw [List.length_map]; omega), List.length_map, if_pos rfl, Option.bind_some, if_pos rfl], ?_, ?_, by omega, by omega, un⟩
    · obtain ⟨r1, r2, r3, r4, r5, r7, r8, r9⟩ := uo
      refine ⟨r1, r2, r3, r4, r5, ⟨r7.1, fun k hk => ?_, r7.2.2.1, r7.2.2.2⟩, r8, r9⟩
      have := r7.2.1 k hk
      rw [uq k hk] at this
      exact this
    · have : (fun k => k < nr ∧ lfB L nl st ln k = true) = fun k => k ∈ od ∧ lfB L nl st ln k = true := by
        funext w
        exact propext ⟨fun z => ⟨oda w z.1, z.2⟩, fun z => ⟨odn w z.1, z.2⟩⟩
      rw [this]; exact um
  · refine ⟨0, [], h0', Nat.zero_le _, ⟨fun _ => none, ⟨List.Pairwise.nil, fun e he => (by cases he), fun z v hz => (by cases hz)⟩, fun k hk => by simp at hk, fun z _ => rfl⟩, fun v hv => (by cases hv)⟩
  · have e := Option.some.inj (h0'.symm.trans e)
    simp only [Prod.mk.injEq, List.cons.injEq, true_and] at e
    have e3 := congrArg prs e.2
    rw [prs_fl] at e3
    rw [← e3]; exact Nat.le_refl _
end
