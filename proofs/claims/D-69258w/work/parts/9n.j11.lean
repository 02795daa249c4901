/-! the library: ArrayList's iterators, their steps -/
section
variable {E : lE} {y : lY} {s : CS} {A0 A' : lMem} {G : lHeap}
theorem cp_hid {q : Nat} (h : fx y.1 q = none) : (cp y s A0).1 q = A0.1 q := by
  unfold cp
  dsimp only
  rw [h]
/-- a changed object outside the store -/
theorem jp_hch (hW : cW E y s A0) {q ci : Nat} {b : Bool} {fs fs' : List Value} (h : A0.1 q = some (true, b, ci, fs)) (hf : fx y.1 q = none) (hk : ci ≠ 19 ∧ ci ≠ 20 ∧ ci ≠ 31 ∧ ci ≠ 34) : cW E y s (lUpd A0.1 q (true, b, ci, fs'), A0.2) ∧ cp y s (lUpd A0.1 q (true, b, ci, fs'), A0.2) = (lUpd (cp y s A0).1 q (true, b, ci, fs'), (cp y s A0).2.1, (cp y s A0).2.2) ∧ (∀ e r, relV y.1 A0 e r → relV y.1 (lUpd A0.1 q (true, b, ci, fs'), A0.2) e r) ∧ ∀ q' c, q ≠ q' → A0.1 q' = some c → lUpd A0.1 q (true, b, ci, fs') q' = some c := by
  have kA : keepA A0 (lUpd A0.1 q (true, b, ci, fs'), A0.2) := by
    intro q' c h1 h2
    by_cases z : q' = q
    · rw [z, h] at h1
      cases h1
      dsimp only at h2
      rcases h2 with h2 | h2 | h2 | h2 | h2
      · exact absurd h2 hk.1
      · exact absurd h2 hk.2.1
      · exact absurd h2 hk.2.2.1
      · exact absurd h2 hk.2.2.2
      · cases h2
    · exact (lUpd_ne _ _ z).trans h1
  refine ⟨kA.cwk hW, ?_, fun e r k => kA.rlV k, fun q' c h1 h2 => (lUpd_ne _ _ (fun z => h1 z.symm)).trans h2⟩
  unfold cp
  refine Prod.ext ?_ rfl
  funext q'
  dsimp only
  by_cases e : q' = q
  · rw [e, hf, lUpd_eq]
    exact (lUpd_eq ..).symm
  · refine Eq.trans ?_ (lUpd_ne _ _ e).symm
    cases fx y.1 q' with
    | none => exact lUpd_ne _ _ e
    | some d => rfl
theorem jp90 : JP_90 (lAb (lJd E G) G) E := by
  intro y s A0 y0 B0 w a i m x hW hI hx M hM
  obtain ⟨own, cr, hA⟩ := hM
  obtain ⟨⟨m', es⟩, hc, hx⟩ := bindC hx
  cases hx
  obtain ⟨⟨q, l, hq, hq2, hq3, hq4⟩, _⟩ := hI
  obtain ⟨rs, ey, hL, J, ho, hla, hok⟩ := jp_L hW hA (alC_some hc)
  obtain ⟨e, h1, hl, _⟩ := JL_raw J
  obtain ⟨w', g, _⟩ := hA.pl ((cp_hid hq3).trans hq2) (by decide)
  have hlen := relL_len hL
  rw [hq]
  dsimp only at hlen ⊢
  refine ⟨(.inl (some (.int _)), M), _, ?_, ⟨own, cr, hA⟩, trivial, rfl, rfl⟩
  refine lGo.sp (D := 0) pg_90 (Nat.le_of_ble_eq_true rfl) ?_
  repeat (refine lGo.step rfl (fun _ => rfl) ?_; try dsimp only)
  refine lGo.get rfl g rfl rfl ?_
  repeat (refine lGo.step rfl (fun _ => rfl) ?_; try dsimp only)
  refine lGo.get rfl g rfl rfl ?_
  refine lGo.get rfl h1 rfl rfl ?_
  refine lGo.step rfl (fun _ => rfl) ?_
  rw [show es.length.toInt32 = Int32.ofNat rs.length from by rw [hlen]]
  by_cases z : i = Int32.ofNat rs.length
  · rw [if_pos z]
    refine lGo.brT (decide_eq_true z) ?_
    repeat (refine lGo.step rfl (fun _ => rfl) ?_; try dsimp only)
    exact lGo.done rfl (fun _ => rfl)
  · rw [if_neg z]
    refine lGo.brF (decide_eq_false z) ?_
    repeat (refine lGo.step rfl (fun _ => rfl) ?_; try dsimp only)
    exact lGo.done rfl (fun _ => rfl)
theorem sp_92 {M : lMem} {q a : Nat} {c l e n : Value} {m : Int32} {w w2 : Bool} (hq : M.1 q = some (w, false, 14, [c, l, .int m, .ref a])) (ha : M.1 a = some (w2, false, 13, [.int m, e, n])) : lSp E prog 1 92 [.ref q] M (.inl none, M) := by
  refine lGo.sp (D := 0) pg_92 (Nat.le_of_ble_eq_true rfl) ?_
  repeat (refine lGo.step rfl (fun _ => rfl) ?_; try dsimp only)
  refine lGo.get rfl hq rfl rfl ?_
  refine lGo.get rfl ha rfl rfl ?_
  repeat (refine lGo.step rfl (fun _ => rfl) ?_; try dsimp only)
  refine lGo.get rfl hq rfl rfl ?_
  refine lGo.step rfl (fun _ => rfl) ?_
  refine lGo.brT (decide_eq_true rfl) ?_
  exact lGo.done rfl (fun _ => rfl)
theorem jp91 : JP_91 (lAb (lJd E G) G) E := by
  intro y s A0 y0 B0 w a i m x hW hI hx M hM
  obtain ⟨own, cr, hA⟩ := id hM
  obtain ⟨⟨m', es⟩, hc, hx⟩ := bindC hx
  rcases iteC hx with ⟨⟨hm, h0⟩, hx2⟩ | ⟨_, hx2⟩
  case inr => cases hx2
  clear hx
  dsimp only at hm hx2
  subst hm
  obtain ⟨⟨q, l, hq, hq2, hq3, hq4⟩, _⟩ := hI
  obtain ⟨rs, ey, hL, J, ho, hla, hok⟩ := jp_L hW hA (alC_some hc)
  obtain ⟨e, h1, hl, h3⟩ := JL_raw J
  have hqA := (cp_hid (s := s) hq3).trans hq2
  obtain ⟨w', g, gt⟩ := hA.pl hqA (by decide)
  have gt := gt rfl
  subst gt
  obtain ⟨r, hr1, hr2⟩ := relL_get hL hx2
  have hlt : i.toNatClampNeg < rs.length := (List.getElem?_eq_some_iff.mp hr1).1
  have hi : i < Int32.ofNat rs.length := by
    rw [i_ofc h0]
    exact (i_lt (by omega) (by omega)).mpr hlt
  rcases h3 with ⟨rfl, _⟩ | ⟨cap, c1, c2, c3, c4, _, c6⟩
  · exact absurd hlt (Nat.not_lt_zero _)
  have hne : q ≠ adr y.1 a := fun z => by
    rw [z, h1] at g
    cases g
  have hne2 : e ≠ q := fun z => by
    rw [z, g] at c4
    cases c4
  have hi2 : i < Int32.ofNat (jfil rs cap).length := by
    rw [jfil_len c1, i_ofc h0]
    exact (i_lt (by omega) (by omega)).mpr (by omega)
  obtain ⟨k1, k2, k3, k4⟩ := jp_hch (fs' := [.int (i + 1), .int i, .int m', .ref (adr y.1 a)]) hW hq2 hq3 ⟨by decide, by decide, by decide, by decide⟩
  have hR := (lAb_ok (G := G) (lJd_ok (E := E) (G := G))).2.2.1 M (cp y s A0) q false 14 _ [.int (i + 1), .int i, .int m', .ref (adr y.1 a)] hM hqA (by decide) rfl
  have hv : (jfil rs cap)[i.toNatClampNeg]? = some r := by
    unfold jfil
    rw [List.getElem?_append_left hlt]
    exact hr1
  have em : lUpd (lUpd M.1 q (true, false, 14, [.int (i + 1), .int l, .int m', .ref (adr y.1 a)])) q (true, false, 14, [.int (i + 1), .int i, .int m', .ref (adr y.1 a)]) = lUpd M.1 q (true, false, 14, [.int (i + 1), .int i, .int m', .ref (adr y.1 a)]) := lUpdU ..
  obtain ⟨o, rfl⟩ := hr2.real
  rw [hq]
  refine ⟨(.inl (some (vR o)), (lUpd M.1 q (true, false, 14, [.int (i + 1), .int i, .int m', .ref (adr y.1 a)]), M.2.1, M.2.2)), _, ?_, ?_, trivial, o, rfl, _, k1, k3 _ _ hr2, ⟨q, i, rfl, lUpd_eq .., hq3, hq4⟩, k3, fun q' c z => k4 q' c (fun w => z (by rw [w])), rfl⟩
  · refine lGo.sp (D := 1) pg_91 (Nat.le_of_ble_eq_true rfl) ?_
    repeat (refine lGo.step rfl (fun _ => rfl) ?_; try dsimp only)
    refine lGo.callV rfl rfl g rfl ⟨Nat.le_of_ble_eq_true rfl, Nat.le_of_ble_eq_true rfl⟩ (sp_92 g h1) ?_
    repeat (refine lGo.step rfl (fun _ => rfl) ?_; try dsimp only)
    refine lGo.get rfl g rfl rfl ?_
    repeat (refine lGo.step rfl (fun _ => rfl) ?_; try dsimp only)
    refine lGo.get rfl g rfl rfl ?_
    refine lGo.get rfl h1 rfl rfl ?_
    refine lGo.step rfl (fun _ => rfl) ?_
    refine lGo.brT (decide_eq_true hi) ?_
    repeat (refine lGo.step rfl (fun _ => rfl) ?_; try dsimp only)
    refine lGo.get rfl g rfl rfl ?_
    refine lGo.get rfl h1 rfl rfl ?_
    repeat (refine lGo.step rfl (fun _ => rfl) ?_; try dsimp only)
    refine lGo.len rfl c4 ?_
    refine lGo.step rfl (fun _ => rfl) ?_
    refine lGo.brT (decide_eq_true hi2) ?_
    repeat (refine lGo.step rfl (fun _ => rfl) ?_; try dsimp only)
    refine lGo.put rfl g rfl (Nat.le_of_ble_eq_true rfl) rfl ?_
    repeat (refine lGo.step rfl (fun _ => rfl) ?_; try dsimp only)
    refine lGo.put rfl (lUpd_eq ..) rfl (Nat.le_of_ble_eq_true rfl) rfl ?_
    dsimp only [List.set_cons_succ, List.set_cons_zero]
    rw [em]
    refine lGo.ald rfl ((lUpd_ne _ _ hne2).trans c4) rfl h0 hv ?_
    cases o <;> exact lGo.done rfl (fun _ => rfl)
  · rw [k2]
    exact hR
end
