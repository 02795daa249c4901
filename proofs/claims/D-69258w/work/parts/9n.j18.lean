/-! the library: ArrayDeque.addLast -/
section
variable {E : lE} {G : lHeap}
theorem adG_16 {n : Nat} (h : 16 ≤ n) : adG n = 1 := if_neg (by omega)
theorem getD_app1 {rs : List Value} {v : Value} {i : Nat} : (rs ++ [v]).getD i .null = if i = rs.length then v else rs.getD i .null := by
  rw [List.getD_eq_getElem?_getD, List.getD_eq_getElem?_getD]
  by_cases z : i < rs.length
  · rw [List.getElem?_append_left z, if_neg (by omega)]
  · rw [List.getElem?_append_right (by omega)]
    by_cases w : i = rs.length
    · rw [w, Nat.sub_self, if_pos rfl]
      rfl
    · rw [if_neg w, List.getElem?_eq_none (by rw [List.length_singleton]; omega), List.getElem?_eq_none (by omega)]
theorem jp31 (hJE : jE E G) : JP_31 (lAb (lJd E G) G) E := by
  intro y s A0 a w e0 w0 x hW hr hr0 hx M hM
  obtain ⟨own, cr, hA⟩ := hM
  obtain ⟨es, hc, hx⟩ := bindC hx
  have hc := adC_some hc
  rcases iteC hx with ⟨⟨hl, hv0, he⟩, hx⟩ | ⟨_, hx⟩
  case inr => cases hx
  cases hx
  obtain ⟨⟨c1, hc1⟩, _⟩ := hJE
  obtain ⟨hL, hn, ⟨e, hd, cap, f, g1, g2, g3, g4, g5, g6, g7, g8, g9⟩, ho, hla, hok⟩ := jp_D hW hA hc
  have hlen := relL_len hL
  obtain ⟨b, hb⟩ : ∃ b, vR w0 = .ref b := by
    cases hw : w0 with
    | some b => exact ⟨b, rfl⟩
    | none =>
      exfalso
      rw [hw] at hr0
      unfold relV at hr0
      split at hr0
      · cases hr0.1
      · exact hv0 rfl
      · obtain ⟨q, w, e, _⟩ := hr0; cases e
      · obtain ⟨q, w, e, _⟩ := hr0; cases e
      · exact hr0.elim
  rw [hb] at hr0 ⊢
  have hvb : okV M (.ref b) := by
    obtain ⟨w', ci, fs, e1⟩ := jp_ok lJd_ok hW hA hr0 he b rfl
    exact Or.inr ⟨b, w', ci, fs, rfl, e1, (hA.2.2.2.1 b _ e1).2 rfl⟩
  obtain ⟨n, hnn⟩ : ∃ n, n = (y.2 a).length := ⟨_, rfl⟩
  rw [← hnn] at g1 g3 hlen
  obtain ⟨t, ht⟩ : ∃ t, t = (hd + n) % cap := ⟨_, rfl⟩
  have htc : t < cap := by rw [ht]; exact Nat.mod_lt _ (by omega)
  rw [← ht] at g1
  have ht2 : (t + 1) % cap = (hd + (n + 1)) % cap := by rw [ht, Nat.mod_add_mod, Nat.add_assoc]
  have hlc : (rowC f cap).length = cap := rowC_len ..
  have hs1 : ∀ q, Value.ref q ∈ es ++ [e0] → q < s.2.1 := by
    intro q hq
    rcases List.mem_append.mp hq with z | z
    · exact hW.2.2.2.2.1 a _ _ _ _ hc q z
    · rw [List.mem_singleton] at z
      rw [← z] at hr0
      rw [← hW.1]
      exact hr0.2
  have hnl : Value.null ∉ es ++ [e0] := fun z => by
    rcases List.mem_append.mp z with z | z
    · exact hn z
    · rw [List.mem_singleton] at z
      exact hv0 z.symm
  have W1 := (Jw.rf hA).upd (w' := true) (fs' := (rowC f cap).set t (.ref b)) g8 (fun _ => g7)
  have ga1 : lUpd M.1 e (true, true, 6, (rowC f cap).set t (.ref b)) (adr y.1 a) = some (true, false, 4, [.ref e, .int (Int32.ofNat hd), .int (Int32.ofNat t)]) := (lUpd_ne _ _ (fun z => g6 z.symm)).trans g1
  have W2 := W1.upd (w' := true) (fs' := [.ref e, .int (Int32.ofNat hd), .int (Int32.ofNat ((t + 1) % cap))]) ga1 (fun _ => ho)
  have le := hA.lt g8
  -- the walk up to the comparison
  have walk : ∀ {M' : lMem}, lGo E prog 6 cd_31 24 (st1 2 (.ref e) (lv_args 0 [.ref (adr y.1 a), .ref b]), [.int (Int32.ofNat ((t + 1) % cap)), .int (Int32.ofNat hd)], (lUpd (lUpd M.1 e (true, true, 6, (rowC f cap).set t (.ref b))) (adr y.1 a) (true, false, 4, [.ref e, .int (Int32.ofNat hd), .int (Int32.ofNat ((t + 1) % cap))]), M.2.1, M.2.2)) (.inl none, M') → lSp E prog 7 31 [.ref (adr y.1 a), .ref b] M (.inl none, M') := by
    intro M' h
    refine lGo.sp (D := 6) pg_31 (Nat.le_of_ble_eq_true rfl) ?_
    repeat (refine lGo.step rfl (fun _ => rfl) ?_; try dsimp only)
    refine lGo.get rfl g1 rfl rfl ?_
    repeat (refine lGo.step rfl (fun _ => rfl) ?_; try dsimp only)
    refine lGo.get rfl g1 rfl rfl ?_
    repeat (refine lGo.step rfl (fun _ => rfl) ?_; try dsimp only)
    refine lGo.rsv rfl g8 hvb (i_nlt0 (by omega)) (by rw [clampN (by omega), hlc]; exact htc) ?_
    rw [clampN (by omega)]
    repeat (refine lGo.step rfl (fun _ => rfl) ?_; try dsimp only)
    refine lGo.get rfl ga1 rfl rfl ?_
    repeat (refine lGo.step rfl (fun _ => rfl) ?_; try dsimp only)
    refine lGo.get rfl ga1 rfl rfl ?_
    repeat (refine lGo.step rfl (fun _ => rfl) ?_; try dsimp only)
    refine lGo.len rfl ((lUpd_eq ..)) ?_
    rw [show ((rowC f cap).set t (Value.ref b)).length.toInt32 = Int32.ofNat cap from by rw [List.length_set, hlc]]
    refine lGo.call (n := 2) rfl ⟨Nat.le_of_ble_eq_true rfl, Nat.le_of_ble_eq_true rfl⟩ ((sp_22 htc (by omega)).mono (by decide)) ?_
    repeat (refine lGo.step rfl (fun _ => rfl) ?_; try dsimp only)
    refine lGo.put rfl ga1 rfl (Nat.le_of_ble_eq_true rfl) rfl ?_
    exact h
  have okE : ∀ {M' : lMem}, lKs M M' → okVs M' (y.2 a ++ [.ref b]) := by
    intro M' hk p hp
    have key : ∀ v, okV M v → v = .ref p → ∃ w ci fs, M'.1 p = some (w, false, ci, fs) := by
      intro v hv hvp
      rcases hv with q | ⟨b', w', ci, fs, q, e, _⟩
      · rw [hvp] at q; cases q
      · rw [hvp] at q
        cases q
        obtain ⟨w2, fs2, e2⟩ := hk _ _ _ _ _ e
        exact ⟨w2, ci, fs2, e2⟩
    rcases List.mem_append.mp hp with z | z
    · exact key _ (hok _ z) rfl
    · rw [List.mem_singleton] at z
      exact key _ hvb z.symm
  rw [hr.1]
  have hf2 : ∀ i, i < cap → (if (hd + i) % cap = t then Value.ref b else f ((hd + i) % cap)) = (y.2 a ++ [Value.ref b]).getD i .null := by
    intro i hi
    rw [getD_app1, ← hnn]
    by_cases z : i = n
    · rw [if_pos z, z, if_pos ht.symm]
    · have : (hd + i) % cap ≠ t := by
        rw [ht, mod_hd g4 hi, mod_hd g4 g3]
        split <;> split <;> omega
      rw [if_neg z, if_neg this]
      exact g9 i hi
  by_cases hroom : n + 1 < cap
  · have hne : (t + 1) % cap ≠ hd := by
      rw [ht2, mod_hd g4 hroom]
      split <;> omega
    refine jp_done (kc := 0) (n := s.2.2.1 + adG es.length) (m := s.2.2.2 + adG es.length * (2 * es.length + 40)) (f := y.2 a ++ [.ref b]) (M' := (lUpd (lUpd M.1 e (true, true, 6, (rowC f cap).set t (.ref b))) (adr y.1 a) (true, false, 4, [.ref e, .int (Int32.ofNat hd), .int (Int32.ofNat ((t + 1) % cap))]), M.2.1, M.2.2)) hW hA hc (by decide) (by decide) (relC_D' (relL_app hL hr0) hnl) hs1 (Nat.le_add_right _ _) (walk ?_) W2 (Or.inr (Or.inl ⟨rfl, e, hd, cap, fun j => if j = t then .ref b else f j, ?_, g2, by rw [List.length_append, List.length_singleton]; omega, g4, g5, g6, ?_, hf2⟩)) (fun _ => okE W2.2.2.2.1) (by show M.2.1 + _ ≤ _; omega) (by show M.2.2 + 0 + _ ≤ _; omega)
    · refine lGo.step rfl (fun _ => rfl) ?_
      refine lGo.brT (decide_eq_true (fun z => ?_)) ?_
      · have := (i_inj (by omega) (by have := Nat.mod_lt (t + 1) (show 0 < cap by omega); omega)).mp z
        exact hne this.symm
      exact lGo.done rfl (fun _ => rfl)
    · rw [hp_old ho hla, List.length_append, List.length_singleton, ← hnn, ← ht2]
      exact lUpd_eq ..
    · rw [hp_old g7 le]
      refine (lUpd_ne _ _ g6).trans ((lUpd_eq ..).trans ?_)
      rw [rowC_upd]
  · have hcap : cap = n + 1 := by omega
    have heq : (t + 1) % cap = hd := by
      rw [ht2, ← hcap, Nat.add_mod_right, Nat.mod_eq_of_lt g4]
    have h16 : 16 ≤ n := by omega
    rw [heq] at W2 walk
    have hfr : lUpd (lUpd M.1 e (true, true, 6, (rowC f cap).set t (.ref b))) (adr y.1 a) (true, false, 4, [.ref e, .int (Int32.ofNat hd), .int (Int32.ofNat hd)]) M.2.1 = none := W2.2.1 _ (Nat.le_refl _)
    have g1' : lUpd (lUpd M.1 e (true, true, 6, (rowC f cap).set t (.ref b))) (adr y.1 a) (true, false, 4, [.ref e, .int (Int32.ofNat hd), .int (Int32.ofNat hd)]) (adr y.1 a) = some (true, false, 4, [.ref e, .int (Int32.ofNat hd), .int (Int32.ofNat hd)]) := lUpd_eq ..
    have g8' : lUpd (lUpd M.1 e (true, true, 6, (rowC f cap).set t (.ref b))) (adr y.1 a) (true, false, 4, [.ref e, .int (Int32.ofNat hd), .int (Int32.ofNat hd)]) e = some (true, true, 6, rowC (fun j => if j = t then .ref b else f j) cap) := (lUpd_ne _ _ g6).trans ((lUpd_eq ..).trans (by rw [rowC_upd]))
    obtain ⟨b0, hb0⟩ := relL_nn hL hn 0 (by omega)
    have hf0 : f hd = .ref b0 := by
      have := g9 0 (by omega)
      rw [Nat.add_zero, Nat.mod_eq_of_lt g4, hb0] at this
      exact this
    have htd : hd ≠ t := by
      rw [ht, mod_hd g4 g3]
      split <;> omega
    have hokr : ∀ v ∈ rowC (fun j => if j = t then Value.ref b else f j) cap, okV (lUpd (lUpd M.1 e (true, true, 6, (rowC f cap).set t (.ref b))) (adr y.1 a) (true, false, 4, [.ref e, .int (Int32.ofNat hd), .int (Int32.ofNat hd)]), M.2.1, M.2.2) v := by
      intro v hv
      obtain ⟨j, hj, rfl⟩ : ∃ j, j < cap ∧ v = (if j = t then Value.ref b else f j) := by
        unfold rowC at hv
        obtain ⟨j, hj, hj2⟩ := List.mem_map.mp hv
        exact ⟨j, List.mem_range.mp hj, hj2.symm⟩
      have base : okV M (if j = t then Value.ref b else f j) := by
        by_cases z : j = t
        · rw [if_pos z]; exact hvb
        · rw [if_neg z]
          obtain ⟨i, hi, hij⟩ : ∃ i, i < cap ∧ (hd + i) % cap = j := by
            by_cases q : hd ≤ j
            · exact ⟨j - hd, by omega, by rw [show hd + (j - hd) = j by omega, Nat.mod_eq_of_lt hj]⟩
            · exact ⟨j + cap - hd, by omega, by rw [show hd + (j + cap - hd) = j + cap by omega, Nat.add_mod_right, Nat.mod_eq_of_lt hj]⟩
          rw [← hij, g9 i hi]
          by_cases q : i < n
          · rw [List.getD_eq_getElem?_getD, List.getElem?_eq_getElem (by omega)]
            exact hok _ (List.getElem_mem _)
          · rw [List.getD_eq_getElem?_getD, List.getElem?_eq_none (by omega)]
            exact Or.inl rfl
      have h2 := base.upd (q := e) (c := (true, true, 6, (rowC f cap).set t (.ref b))) (n := M.2.1) (m := M.2.2) (Or.inr ⟨true, true, 6, _, g8, rfl, rfl⟩)
      exact h2.upd (Or.inr ⟨true, false, 4, _, ga1, rfl, rfl⟩)
    obtain ⟨sp, hsp, s32⟩ := sp_32 (M := (lUpd (lUpd M.1 e (true, true, 6, (rowC f cap).set t (.ref b))) (adr y.1 a) (true, false, 4, [.ref e, .int (Int32.ofNat hd), .int (Int32.ofNat hd)]), M.2.1, M.2.2)) (b := b0) hc1 g1' g8' hfr g2 (by omega) g4 (by rw [if_neg htd]; exact hf0) hokr
    have sp1 : 1 ≤ sp ∧ sp ≤ cap + 2 := by
      rw [hsp]
      split <;> omega
    have hne2 : adr y.1 a ≠ M.2.1 := by omega
    have W3 := (W2.new (c := (true, true, 6, rowC (fun j => if j < hd then (if j = t then Value.ref b else f j) else if j < hd + sp then .null else (if j - sp = t then Value.ref b else f (j - sp))) (cap + sp))) ⟨(show 6 < 1000 by decide), fun w => by cases w⟩ (M.2.2 + (cap + sp))).upd (w' := true) (fs' := [.ref M.2.1, .int (Int32.ofNat (hd + sp)), .int (Int32.ofNat hd)]) ((lUpd_ne _ _ hne2).trans g1') (fun _ => ho)
    have hG : adG es.length = 1 := adG_16 (by rw [hlen]; exact h16)
    refine jp_done (kc := 0) (n := s.2.2.1 + adG es.length) (m := s.2.2.2 + adG es.length * (2 * es.length + 40)) (f := y.2 a ++ [.ref b]) hW hA hc (by decide) (by decide) (relC_D' (relL_app hL hr0) hnl) hs1 (Nat.le_add_right _ _) (walk ?_) W3 (Or.inr (Or.inl ⟨rfl, M.2.1, hd + sp, cap + sp, (fun j => if j < hd then (if j = t then Value.ref b else f j) else if j < hd + sp then .null else (if j - sp = t then Value.ref b else f (j - sp))), ?_, by omega, by rw [List.length_append, List.length_singleton]; omega, by omega, by omega, fun z => hne2 z.symm, ?_, fun i hi => ?_⟩)) (fun _ => okE W3.2.2.2.1) (by show M.2.1 + 1 + _ ≤ _; rw [hG]; omega) (by show M.2.2 + (cap + sp) + 0 + _ ≤ _; rw [hG, hlen]; omega)
    · refine lGo.step rfl (fun _ => rfl) ?_
      refine lGo.brF (decide_eq_false (fun z => z rfl)) ?_
      repeat (refine lGo.step rfl (fun _ => rfl) ?_; try dsimp only)
      refine lGo.callV rfl rfl g1' rfl ⟨Nat.le_of_ble_eq_true rfl, Nat.le_of_ble_eq_true rfl⟩ (s32.mono (by decide)) ?_
      exact lGo.done rfl (fun _ => rfl)
    · rw [hp_old ho hla, List.length_append, List.length_singleton, ← hnn, show hd + sp + (n + 1) = hd + (cap + sp) by omega, Nat.add_mod_right, Nat.mod_eq_of_lt (by omega)]
      exact lUpd_eq ..
    · rw [hp_new (Nat.le_refl _)]
      exact (lUpd_ne _ _ (fun z => hne2 z.symm)).trans (lUpd_eq ..)
    · dsimp only
      rw [mod_hd (by omega) hi]
      by_cases z : i < cap
      · rw [← hf2 i z, mod_hd g4 z]
        by_cases q : hd + i < cap
        · rw [if_pos (show hd + sp + i < cap + sp by omega), if_pos q, if_neg (by omega), if_neg (by omega), show hd + sp + i - sp = hd + i by omega]
        · rw [if_neg (show ¬ hd + sp + i < cap + sp by omega), if_neg q, if_pos (by omega), show hd + sp + i - (cap + sp) = hd + i - cap by omega]
      · rw [List.getD_eq_getElem?_getD, List.getElem?_eq_none (by rw [List.length_append, List.length_singleton]; omega), if_neg (show ¬ hd + sp + i < cap + sp by omega), if_neg (by omega), if_pos (by omega)]
        rfl
end
