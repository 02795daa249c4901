/-! the plan: rings are sorted: the other rings -/
section
variable {L : PLn} {nl nr : Nat} {st ln : Nat → Nat} {lab : Int → Int → Int} {LC : Nat → Nat} {b0 : Nat} {h0 : lHeap} {s : CS} {mp RL M : Nat} {pid nid aid : Nat → Nat → Nat} {si : Nat → Nat} {Kp : Nat → lCell → Prop} {od : List Nat} {rc rl q : Nat → Nat} {mr : Int32} {rsv : Nat → Value}
theorem c_sort3 (hg : gdL L nl) (hR : RF L nl nr st ln) (hl : gLab (gS L nl) (2 * nP L nl) lab) (hn : nr ≤ 400) (o : SOt b0 h0 Kp s L nl nr st ln LC mp RL mr pid nid aid si od rc rl q rsv) (hM : Map1 b0 Kp mp RL od rl M) (h0' : s.1 M = some (true, false, 1042, [.int 0])) :
    Tr (wh (S := CS × Int32) (X := CS) (fun p66 => Option.bind (alHas p66.1 RL p66.2) (fun x30 => (if x30 = 0 then some (.inr p66.1) else Option.bind (alNext p66.1 RL mr p66.2) (fun e31 => Option.bind (toN p66.1 [66] e31) (fun a32 => Option.bind (xI p66.1 [(66, 2)] a32) (fun x33 => Option.bind ((if 0 < x33 then some p66.1 else Option.bind (xN p66.1 [(66, 1)] a32) (fun a34 => Option.bind (xR p66.1 [(64, 0)] a34) (fun r35 => (if isK p66.1 [42] M = true then Option.bind (tmPut p66.1 M (vR r35) (.ref a32)) (fun x36 => some x36.2) else none))))) (fun v83 => some (.inl (v83, p66.2 + 1))))))))) (s, 0)) (fun s' => SOt b0 h0 Kp s' L nl nr st ln LC mp RL mr pid nid aid si od rc rl q rsv ∧ MRs s'.1 L nl nr st pid rc M (fun k => k < nr ∧ ¬ lfB L nl st ln k = true) ∧ s'.2.2.1 ≤ s.2.2.1 + nr ∧ s'.2.2.2 ≤ s.2.2.2 + 6 * nr ∧ s'.2.1 = s.2.1 ∧ ∀ a, a ≠ M → s'.1 a = s.1 a) := by
  have hN := nP_le hg
  have nd := o.2.2.2.2.2.1.1
  have odn : ∀ k ∈ od, k < nr := fun k hk => (o.2.2.2.2.2.1.2.1 k hk).1
  have oda := o.2.2.2.2.2.2.2.2.2
  have len : od.length ≤ nr := by
    have := nd.length_le_of_subset (fun k hk => List.mem_range.mpr (odn k hk))
    rwa [List.length_range] at this
  refine wh_cnt od.length (fun i a => a.2 = Int32.ofNat i ∧ SOt b0 h0 Kp a.1 L nl nr st ln LC mp RL mr pid nid aid si od rc rl q rsv ∧ MRs a.1.1 L nl nr st pid rc M (fun k => k ∈ od.take i ∧ ¬ lfB L nl st ln k = true) ∧ (∀ mc es, a.1.1 M = some (true, false, 1042, .int mc :: fl es) → es.length ≤ i) ∧ a.1.2.2.1 ≤ s.2.2.1 + i ∧ a.1.2.2.2 ≤ s.2.2.2 + 6 * i ∧ a.1.2.1 = s.2.1 ∧ ∀ b, b ≠ M → a.1.1 b = s.1 b) ?_ ?_ ⟨rfl, o, ?_, fun mc es e => ?_, Nat.le_refl _, Nat.le_refl _, rfl, fun _ _ => rfl⟩
  · rintro i ⟨U, _⟩ hi ⟨rfl, uo, um, ue, uc, us, un, uf⟩
    right
    dsimp only at uo um ue uc us un uf ⊢
    have hRL := uo.2.2.2.2.2.2.1
    have e1 : (od.map (fun k => Value.ref (rc k)))[i]? = some (.ref (rc (od.getD i 0))) := by rw [List.getElem?_map, List.getElem?_eq_getElem hi, getD_lt hi]; rfl
    have hk : od.getD i 0 ∈ od := by rw [getD_lt hi]; exact List.getElem_mem hi
    have nt := nd_take nd hi
    have mt := fun k => mem_take od (k := k) hi
    generalize od.getD i 0 = k at *
    rw [alHas_l hRL (by omega) (by rw [List.length_map]; omega), List.length_map, if_neg (by omega)]; repeat (first | rw [Option.bind_some] | rw [Sum.elim_inl] | rw [Sum.elim_inr])
    rw [if_neg (by decide), alNext_l hRL e1 (by omega)]; repeat (first | rw [Option.bind_some] | rw [Sum.elim_inl] | rw [Sum.elim_inr])
    have hrc := (uo.2.2.2.2.2.1.2.1 k hk).2.2.2.2.1
    rw [toN_o hrc rfl]; repeat (first | rw [Option.bind_some] | rw [Sum.elim_inl] | rw [Sum.elim_inr])
    rw [xI_o (x := Int32.ofInt (gtrn (gS L nl) (rgs L nl st ln k))) hrc rfl rfl]; repeat (first | rw [Option.bind_some] | rw [Sum.elim_inl] | rw [Sum.elim_inr])
    rw [i_suc]
    have tb := tn_bd hg hR hl (odn k hk)
    have lfi : lfB L nl st ln k = true ↔ 0 < gtrn (gS L nl) (rgs L nl st ln k) := by unfold lfB; rw [decide_eq_true_eq]
    by_cases z : lfB L nl st ln k = true
    · rw [if_pos ((i_pos tb.1 tb.2).mpr (lfi.mp z))]; repeat (first | rw [Option.bind_some] | rw [Sum.elim_inl] | rw [Sum.elim_inr])
      refine ⟨_, rfl, rfl, uo, ?_, fun mc es e => by have := ue mc es e; omega, by dsimp only; omega, by dsimp only; omega, un, uf⟩
      have : (fun k_1 => k_1 ∈ od.take (i + 1) ∧ ¬ lfB L nl st ln k_1 = true) = fun k => k ∈ od.take i ∧ ¬ lfB L nl st ln k = true := by
        funext w
        apply propext
        rw [mt w]
        constructor
        · rintro ⟨h1 | h1, h2⟩
          · exact ⟨h1, h2⟩
          · rw [h1] at h2; exact absurd z h2
        · rintro ⟨h1, h2⟩
          exact ⟨Or.inl h1, h2⟩
      rw [this]; exact um
    · rw [if_neg (fun w => z (lfi.mpr ((i_pos tb.1 tb.2).mp w)))]
      obtain ⟨U2, d1, d2, d3, d4, d5, d6, d7, d8⟩ := SOt_put (n := i) hg hR hn uo hM um hk (fun w => nt w.1) (fun k' hk' => ⟨odn k' (List.mem_of_mem_take hk'.1), fun e => nt (by rw [← cdR_rt hg hR hl (odn k' (List.mem_of_mem_take hk'.1)) (odn k hk) hk'.2 z e]; exact hk'.1)⟩) (by omega) ue
      rw [d1]; repeat (first | rw [Option.bind_some] | rw [Sum.elim_inl] | rw [Sum.elim_inr])
      refine ⟨_, rfl, rfl, d2, ?_, d4, by dsimp only; omega, by dsimp only; omega, by dsimp only; omega, fun b hb => (d8 b hb).trans (uf b hb)⟩
      have : (fun k_1 => k_1 ∈ od.take (i + 1) ∧ ¬ lfB L nl st ln k_1 = true) = fun z => (z ∈ od.take i ∧ ¬ lfB L nl st ln z = true) ∨ z = k := by
        funext w
        apply propext
        rw [mt w]
        constructor
        · rintro ⟨h1 | h1, h2⟩
          · exact Or.inl ⟨h1, h2⟩
          · exact Or.inr h1
        · rintro (⟨h1, h2⟩ | h1)
          · exact ⟨Or.inl h1, h2⟩
          · exact ⟨Or.inr h1, by rw [h1]; exact z⟩
      rw [this]; exact d3
  · rintro ⟨U, _⟩ ⟨rfl, uo, um, ue, uc, us, un, uf⟩
    dsimp only at uo um ue uc us un uf ⊢
    have hRL := uo.2.2.2.2.2.2.1
    have tk : od.take od.length = od := List.take_length
    rw [tk] at um
    refine ⟨U, by rw [alHas_l hRL (by omega) (by rw [List.length_map]; omega), List.length_map, if_pos rfl, Option.bind_some, if_pos rfl], uo, ?_, by omega, by omega, un, uf⟩
    have : (fun k => k < nr ∧ ¬ lfB L nl st ln k = true) = fun k => k ∈ od ∧ ¬ lfB L nl st ln k = true := by
      funext w
      exact propext ⟨fun z => ⟨oda w z.1, z.2⟩, fun z => ⟨odn w z.1, z.2⟩⟩
    rw [this]; exact um
  · refine ⟨0, [], h0', Nat.zero_le _, ⟨fun _ => none, ⟨List.Pairwise.nil, fun e he => (by cases he), fun z v hz => (by cases hz)⟩, fun k hk => by simp at hk, fun z _ => rfl⟩, fun v hv => (by cases hv)⟩
  · have e := Option.some.inj (h0'.symm.trans e)
    simp only [Prod.mk.injEq, List.cons.injEq, true_and] at e
    have e3 := congrArg prs e.2
    rw [prs_fl] at e3
    rw [← e3]; exact Nat.le_refl _
/-- spaces with the rings in them -/
def SPi (h : lHeap) (L : PLn) (nl nr : Nat) (st ln rc sp sl : Nat → Nat) (b0 ou ol : Nat) (inn : Int → List Nat) : Prop := (∀ j, j < spn L nl st ln nr → h (sp j) = some (true, false, 62, [.int (Int32.ofNat j), .ref (rc (lkF L nl nr st ln j)), .ref (sl j), .int 0]) ∧ b0 ≤ sp j ∧ b0 ≤ sl j ∧ ∃ m : Int32, h (sl j) = some (true, false, 1013, .int m :: (inn j).map (fun k => .ref (rc k)))) ∧ (∃ m : Int32, h ol = some (true, false, 1013, .int m :: (inn (-1)).map (fun k => .ref (rc k)))) ∧ (∀ j k, j < spn L nl st ln nr → k < spn L nl st ln nr → sp j = sp k → j = k) ∧ (∀ j k, j < spn L nl st ln nr → k < spn L nl st ln nr → sl j = sl k → j = k) ∧ (∀ j, j < spn L nl st ln nr → sl j ≠ ol) ∧ b0 ≤ ol
theorem FD_of {fd fL ou ol : Nat} {sp sl : Nat → Nat} {inn : Int → List Nat} {mf : Int32} (o : SOt b0 h0 Kp s L nl nr st ln LC mp RL mr pid nid aid si od rc rl st rsv) (p : SPi s.1 L nl nr st ln rc sp sl b0 ou ol inn) (h1 : s.1 fd = some (true, false, 61, [.ref fL, .ref ou, .ref mp, .int (Int32.ofNat (nP L nl))])) (h2 : s.1 fL = some (true, false, 1013, .int mf :: rowC (fun j => .ref (sp j)) (spn L nl st ln nr))) (h3 : s.1 ou = some (true, false, 62, [.int (-1), .null, .ref ol, .int 0])) (hb : b0 ≤ fd ∧ b0 ≤ fL ∧ b0 ≤ ou) : FD b0 s.1 L nl nr st ln LC fd fL ou ol mp pid nid aid si rc rl sp sl rsv (fun _ => 0) inn := by
  obtain ⟨r1, r2, r3, r4, ⟨rv, r5, r6⟩, r7, r8, r9, r10, r11⟩ := o
  obtain ⟨p1, p2, p3, p4, p5, p6⟩ := p
  refine ⟨⟨rv, r5, fun j k hk hj => (r6 j).1 k (r11 k hk) hj⟩, h1, ⟨mf, h2⟩, ⟨h3, p2⟩, fun j hj => ?_, fun k hk => ?_, fun k k' hk hk' e => r7.2.2.1 k (r11 k hk) k' (r11 k' hk') e, p3, fun j hj e => ?_, hb.1, hb.2.1, hb.2.2, p6⟩
  · obtain ⟨a1, a2, a3, a4⟩ := p1 j hj
    exact ⟨a1, a2, a3, a4⟩
  · obtain ⟨_, _, b3, b4, b5, mc2, b6⟩ := r7.2.1 k (r11 k hk)
    exact ⟨b3, b4, b5, mc2, b6⟩
  · have := (p1 j hj).1
    rw [e, h3] at this
    have := Option.some.inj this
    simp at this
end
