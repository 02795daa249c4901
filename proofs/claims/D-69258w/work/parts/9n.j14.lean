/-! the library: ArrayDeque -/
section
variable {s : CS} {a : Nat}
theorem adC_some {es : List Value} (h : adC s a = some es) : s.1 a = some (true, false, 1004, es) := cc_some h
end
section
variable {E : lE} {G : lHeap}
theorem relC_D {l : List Nat} {A0 : lMem} {sa : Nat} {es rs : List Value} (h : relC l A0 sa 1004 es rs) : relL l A0 es rs ∧ Value.null ∉ es := by
  unfold relC at h
  rw [if_neg (by decide), if_neg (by decide), if_neg (by decide), if_pos rfl] at h
  exact h
theorem relC_D' {l : List Nat} {A0 : lMem} {sa : Nat} {es rs : List Value} (h : relL l A0 es rs) (h2 : Value.null ∉ es) : relC l A0 sa 1004 es rs := by
  unfold relC
  rw [if_neg (by decide), if_neg (by decide), if_neg (by decide), if_pos rfl]
  exact ⟨h, h2⟩
theorem relL_nn {l : List Nat} {A0 : lMem} {es rs : List Value} (h : relL l A0 es rs) (h2 : Value.null ∉ es) : ∀ i, i < rs.length → ∃ b, rs.getD i .null = .ref b := by
  intro i hi
  have hi' : i < es.length := by rw [relL_len h]; exact hi
  obtain ⟨r, h3, h4⟩ := relL_get h (List.getElem?_eq_getElem hi')
  rw [List.getD_eq_getElem?_getD, h3]
  have hn : es[i] ≠ .null := fun z => h2 (by rw [← z]; exact List.getElem_mem _)
  obtain ⟨o, rfl⟩ := h4.real
  cases o with
  | some b => exact ⟨b, rfl⟩
  | none =>
    exfalso
    unfold relV at h4
    split at h4
    · cases h4.1
    · rename_i e; exact hn e
    · obtain ⟨q, w, e, _⟩ := h4; cases e
    · obtain ⟨q, w, e, _⟩ := h4; cases e
    · exact h4.elim
/-- a queue found by its number -/
theorem jp_D {y : lY} {s : CS} {A0 M : lMem} {own cr : Nat → Nat} {a : Nat} {es : List Value} (hW : cW E y s A0) (hA : lAbo (lJd E G) G own cr M (cp y s A0)) (hc : s.1 a = some (true, false, 1004, es)) : relL y.1 A0 es (y.2 a) ∧ Value.null ∉ es ∧ (∃ (e hd cap : Nat) (f : Nat → Value), M.1 (adr y.1 a) = some (true, false, 4, [.ref e, .int (Int32.ofNat hd), .int (Int32.ofNat ((hd + (y.2 a).length) % cap))]) ∧ 17 ≤ cap ∧ (y.2 a).length < cap ∧ hd < cap ∧ cap ≤ 300000 ∧ e ≠ adr y.1 a ∧ own e = adr y.1 a ∧ M.1 e = some (true, true, 6, rowC f cap) ∧ ∀ i, i < cap → f ((hd + i) % cap) = (y.2 a).getD i .null) ∧ own (adr y.1 a) = adr y.1 a ∧ adr y.1 a < M.2.1 ∧ (∀ v ∈ y.2 a, okV M v) := by
  obtain ⟨h1, h2, q1, q2, q3, q4, q5, q6⟩ := jp_at hW hA hc (by omega)
  obtain ⟨hL, hn⟩ := relC_D h2
  obtain ⟨r1, r2⟩ := q5 (by dsimp only; omega)
  obtain ⟨e, hd, cap, f, g1, g2, g3, g4, g5, g6, g7, g8⟩ := lJd_D r2
  refine ⟨hL, hn, ⟨e, hd, cap, f, (hp_some g1).2, g2, g3, g4, g5, g6, (hp_some g7).1, (hp_some g7).2, g8⟩, q1, q2, ?_⟩
  exact okVs_ok (q6 (Or.inr (Or.inl rfl))) hA.2.2.2.1 (relL_real hL)
theorem mod_hd {hd n cap : Nat} (h1 : hd < cap) (h2 : n < cap) : (hd + n) % cap = if hd + n < cap then hd + n else hd + n - cap := by
  split
  · exact Nat.mod_eq_of_lt (by assumption)
  · rw [Nat.mod_eq_sub_mod (by omega), Nat.mod_eq_of_lt (by omega)]
theorem jp19 : JP_19 (lAb (lJd E G) G) E := by
  intro y s A0 a w x hW hr hx M hM
  obtain ⟨own, cr, hA⟩ := hM
  obtain ⟨S, hx1, hx2⟩ := bindC hx
  cases hx2
  obtain ⟨hc, rfl⟩ := ccI_some hx1
  rw [hr.1]
  obtain ⟨h0, w', h1, h2⟩ := jp_pl hW hA hc (by decide)
  have h2 := h2 rfl
  subst h2
  obtain ⟨q1, q2, q3, _⟩ := hA.2.2.2.2.2 _ _ h0
  have hne : adr y.1 a ≠ M.2.1 := by omega
  have W := ((Jw.rf hA).new (c := (true, true, 6, List.replicate 17 .null)) ⟨(show 6 < 1000 by decide), fun w => by cases w⟩ (M.2.2 + 17)).upd (w' := true) (fs' := [.ref M.2.1, .int 0, .int 0]) ((lUpd_ne _ _ hne).trans h1) (fun _ => q1)
  refine jp_done (kc := 0) (n := s.2.2.1 + 1) (m := s.2.2.2 + 17) (f := []) (M' := (lUpd (lUpd M.1 M.2.1 (true, true, 6, List.replicate 17 .null)) (adr y.1 a) (true, false, 4, [.ref M.2.1, .int 0, .int 0]), M.2.1 + 1, M.2.2 + 17)) hW hA hc (by decide) (by decide) (relC_D' (es := []) (rs := []) trivial (by simp)) (fun q hq => by simp at hq) (Nat.le_succ _) ?_ W (Or.inr (Or.inl ⟨rfl, M.2.1, 0, 17, fun _ => .null, ?_, by omega, by decide, by omega, by omega, fun z => hne z.symm, ?_, fun i _ => by simp⟩)) (fun _ b hb => by simp at hb) (by show M.2.1 + 1 + _ ≤ _; omega) (by show M.2.2 + 17 + _ + _ ≤ _; omega)
  · refine (lGo.sp (D := 1) pg_19 (Nat.le_of_ble_eq_true rfl) ?_)
    repeat (refine lGo.step rfl (fun _ => rfl) ?_; try dsimp only)
    refine lGo.callV rfl rfl h1 rfl ⟨Nat.le_of_ble_eq_true rfl, Nat.le_of_ble_eq_true rfl⟩ sp_0 ?_
    repeat (refine lGo.step rfl (fun _ => rfl) ?_; try dsimp only)
    rw [show Int32.toNatClampNeg 17 = 17 from by decide]
    refine lGo.put rfl ((lUpd_ne _ _ hne).trans h1) rfl (Nat.le_of_ble_eq_true rfl) rfl ?_
    exact lGo.done rfl (fun _ => rfl)
  · rw [hp_old q1 q2]
    exact lUpd_eq ..
  · rw [hp_new (Nat.le_refl _)]
    exact (lUpd_ne _ _ (fun z => hne z.symm)).trans (lUpd_eq ..)
theorem jp20 : JP_20 (lAb (lJd E G) G) E := by
  intro y s A0 a w x hW hr hx M hM
  obtain ⟨own, cr, hA⟩ := hM
  obtain ⟨es, hc, hx⟩ := bindC hx
  cases hx
  obtain ⟨hL, hn, ⟨e, hd, cap, f, g1, g2, g3, g4, g5, _⟩, _⟩ := jp_D hW hA (adC_some hc)
  have hlen := relL_len hL
  rw [hr.1]
  refine ⟨(.inl (some (.int _)), M), _, ?_, ⟨own, cr, hA⟩, trivial, rfl, rfl⟩
  refine lGo.sp (D := 0) pg_20 (Nat.le_of_ble_eq_true rfl) ?_
  repeat (refine lGo.step rfl (fun _ => rfl) ?_; try dsimp only)
  refine lGo.get rfl g1 rfl rfl ?_
  repeat (refine lGo.step rfl (fun _ => rfl) ?_; try dsimp only)
  refine lGo.get rfl g1 rfl rfl ?_
  refine lGo.step rfl (fun _ => rfl) ?_
  have e1 := mod_hd g4 g3
  by_cases z : es.length = 0
  · rw [if_pos z]
    refine lGo.brF (decide_eq_false (fun w => w ?_)) ?_
    · rw [e1, ← hlen, z, if_pos (by omega)]
      rfl
    repeat (refine lGo.step rfl (fun _ => rfl) ?_; try dsimp only)
    exact lGo.done rfl (fun _ => rfl)
  · rw [if_neg z]
    refine lGo.brT (decide_eq_true (fun w => ?_)) ?_
    · have hm := Nat.mod_lt (hd + (y.2 a).length) (show 0 < cap by omega)
      have := (i_inj (by omega) (by omega)).mp w
      rw [e1] at this
      split at this <;> omega
    repeat (refine lGo.step rfl (fun _ => rfl) ?_; try dsimp only)
    exact lGo.done rfl (fun _ => rfl)
end
