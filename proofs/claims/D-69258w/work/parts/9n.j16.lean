/-! the library: ArrayDeque.removeFirst -/
section
variable {E : lE} {G : lHeap}
/-- the end of a call that changes one object and answers a reference -/
theorem jp_doneE {y : lY} {s : CS} {A0 M : lMem} {J : lJ} {own cr : Nat → Nat} {a D mi : Nat} {args : List Value} {M' : lMem} {b : Bool} {k k' : Nat} {fs fs' f : List Value} {n m kc : Nat} {e0 : Value} {o : Option Nat} (hr : relV y.1 A0 e0 (vR o)) (hW : cW E y s A0) (hA : lAbo J G own cr M (cp y s A0)) (hc : s.1 a = some (true, b, k, fs)) (h42 : k ≠ 1042) (hk : 1000 ≤ k') (hf : relC y.1 A0 (adr y.1 a) k' fs' f) (hv : ∀ q, .ref q ∈ fs' → q < s.2.1) (hn : s.2.2.1 ≤ n)
    (hsp : lSp E prog D mi args M (.inl (some (vR o)), M')) (hw : Jw own (adr y.1 a) M M') (hJ : J k' f (adr y.1 a) (lHp (ownN own M.2.1 (adr y.1 a)) M' (adr y.1 a)) kc) (hE : k' = 1013 ∨ k' = 1004 ∨ k' = 1037 → okVs M' f) (hz1 : M'.2.1 + s.2.2.1 ≤ n + M.2.1) (hz2 : M'.2.2 + kc + s.2.2.2 ≤ m + M.2.2 + cr (adr y.1 a)) :
    ∃ (fin : lF) (A' : lMem), lSp E prog D mi args M fin ∧ lAb J G fin.2 A' ∧ lXk A' fin.1 ∧ oE E y s A0 e0 (lUpd s.1 a (true, false, k', fs'), s.2.1, n, m) fin.1 A' := by
  obtain ⟨fin, A', k1, k2, k3, k4, y', A'', k5, k6, k7⟩ := jp_done hW hA hc h42 hk hf hv hn hsp hw hJ hE hz1 hz2
  exact ⟨fin, A', k1, k2, k3, o, k4, y', A'', k5, k6, k6.1 _ _ hr, k7⟩
theorem rowC_upd (f : Nat → Value) (n i : Nat) (v : Value) : (rowC f n).set i v = rowC (fun j => if j = i then v else f j) n := rowC_set ..
theorem ring_s {hd n cap : Nat} (h0 : 0 < cap) : ((hd + 1) % cap + n) % cap = (hd + (n + 1)) % cap := by
  rw [Nat.mod_add_mod, show hd + 1 + n = hd + (n + 1) by omega]
theorem relL_tl {l : List Nat} {A0 : lMem} {e : Value} {es rs : List Value} (h : relL l A0 (e :: es) rs) : ∃ r rs', rs = r :: rs' ∧ relV l A0 e r ∧ relL l A0 es rs' := by
  cases rs with
  | nil => exact h.elim
  | cons r rs => exact ⟨r, rs, rfl, h.1, h.2⟩
theorem jp34 : JP_34 (lAb (lJd E G) G) E := by
  intro y s A0 a w x hW hr hx M hM
  obtain ⟨own, cr, hA⟩ := hM
  obtain ⟨es, hc, hx⟩ := bindC hx
  have hc := adC_some hc
  cases es with
  | nil => cases hx
  | cons e0 es =>
    cases hx
    obtain ⟨hL, hn, ⟨e, hd, cap, f, g1, g2, g3, g4, g5, g6, g7, g8, g9⟩, ho, hla, hok⟩ := jp_D hW hA hc
    obtain ⟨r, rs, ey, hr1, hr2⟩ := relL_tl hL
    rw [ey] at g1 g3 g9 hok
    obtain ⟨b, hb⟩ := relL_nn hL hn 0 (by rw [ey]; exact Nat.succ_pos _)
    have hrb : r = .ref b := by
      rw [ey] at hb
      exact hb
    subst hrb
    have hf : f hd = .ref b := by
      have := g9 0 (by omega)
      rw [Nat.add_zero, Nat.mod_eq_of_lt g4] at this
      exact this
    have lc : (.ref b :: rs : List Value).length = rs.length + 1 := rfl
    rw [lc] at g1 g3
    have W1 := (Jw.rf hA).upd (w' := true) (fs' := (rowC f cap).set hd .null) g8 (fun _ => g7)
    have W2 := W1.upd (w' := true) (fs' := [.ref e, .int (Int32.ofNat ((hd + 1) % cap)), .int (Int32.ofNat ((hd + (rs.length + 1)) % cap))]) ((lUpd_ne _ _ (fun z => g6 z.symm)).trans g1) (fun _ => ho)
    rw [hr.1]
    have walk : lSp E prog 3 34 [.ref (adr y.1 a)] M (.inl (some (.ref b)), (lUpd (lUpd M.1 e (true, true, 6, (rowC f cap).set hd .null)) (adr y.1 a) (true, false, 4, [.ref e, .int (Int32.ofNat ((hd + 1) % cap)), .int (Int32.ofNat ((hd + (rs.length + 1)) % cap))]), M.2.1, M.2.2)) := by
      have w24 : lSp E prog 2 24 [.ref (adr y.1 a)] M (.inl (some (.ref b)), (lUpd (lUpd M.1 e (true, true, 6, (rowC f cap).set hd .null)) (adr y.1 a) (true, false, 4, [.ref e, .int (Int32.ofNat ((hd + 1) % cap)), .int (Int32.ofNat ((hd + (rs.length + 1)) % cap))]), M.2.1, M.2.2)) := by
        refine lGo.sp (D := 1) pg_24 (Nat.le_of_ble_eq_true rfl) ?_
        repeat (refine lGo.step rfl (fun _ => rfl) ?_; try dsimp only)
        refine lGo.get rfl g1 rfl rfl ?_
        repeat (refine lGo.step rfl (fun _ => rfl) ?_; try dsimp only)
        refine lGo.get rfl g1 rfl rfl ?_
        repeat (refine lGo.step rfl (fun _ => rfl) ?_; try dsimp only)
        refine lGo.call (n := 2) rfl ⟨Nat.le_of_ble_eq_true rfl, Nat.le_of_ble_eq_true rfl⟩ (sp_25 (r := .ref b) g8 (by rw [rowC_get, if_pos g4, hf]) (by omega) (Or.inr ⟨b, rfl⟩)) ?_
        repeat (refine lGo.step rfl (fun _ => rfl) ?_; try dsimp only)
        refine lGo.rsv rfl g8 (Or.inl rfl) (i_nlt0 (by omega)) (by rw [clampN (by omega), rowC_len]; exact g4) ?_
        rw [clampN (by omega)]
        repeat (refine lGo.step rfl (fun _ => rfl) ?_; try dsimp only)
        refine lGo.len rfl (lUpd_eq ..) ?_
        rw [show ((rowC f cap).set hd Value.null).length.toInt32 = Int32.ofNat cap from by rw [List.length_set, rowC_len]]
        refine lGo.call (n := 2) rfl ⟨Nat.le_of_ble_eq_true rfl, Nat.le_of_ble_eq_true rfl⟩ (sp_22 g4 (by omega)) ?_
        refine lGo.put rfl ((lUpd_ne _ _ (fun z => g6 z.symm)).trans g1) rfl (Nat.le_of_ble_eq_true rfl) rfl ?_
        repeat (refine lGo.step rfl (fun _ => rfl) ?_; try dsimp only)
        exact lGo.done rfl (fun _ => rfl)
      refine lGo.sp (D := 2) pg_34 (Nat.le_of_ble_eq_true rfl) ?_
      repeat (refine lGo.step rfl (fun _ => rfl) ?_; try dsimp only)
      refine lGo.callV rfl rfl g1 rfl ⟨Nat.le_of_ble_eq_true rfl, Nat.le_of_ble_eq_true rfl⟩ w24 ?_
      repeat (refine lGo.step rfl (fun _ => rfl) ?_; try dsimp only)
      exact lGo.done rfl (fun _ => rfl)
    have le := hA.lt g8
    refine jp_doneE (o := some b) hr1 (kc := 0) (n := s.2.2.1) (m := s.2.2.2) (f := rs) (fs' := es) hW hA hc (by decide) (by decide) (relC_D' hr2 (fun z => hn (List.mem_cons_of_mem _ z))) (fun q hq => hW.2.2.2.2.1 a _ _ _ _ hc q (List.mem_cons_of_mem _ hq)) (Nat.le_refl _) walk W2 (Or.inr (Or.inl ⟨rfl, e, (hd + 1) % cap, cap, fun j => if j = hd then .null else f j, ?_, g2, by omega, Nat.mod_lt _ (by omega), g5, g6, ?_, fun i hi => ?_⟩)) (fun _ p hp => ?_) (by show M.2.1 + _ ≤ _; omega) (by show M.2.2 + _ + _ ≤ _; omega)
    · rw [hp_old ho hla, ring_s (by omega)]
      exact lUpd_eq ..
    · rw [hp_old g7 le]
      refine (lUpd_ne _ _ g6).trans ((lUpd_eq ..).trans ?_)
      rw [rowC_upd]
    · dsimp only
      rw [ring_s (by omega)]
      by_cases z : i + 1 < cap
      · have hne : (hd + (i + 1)) % cap ≠ hd := by
          rw [mod_hd g4 z]
          split <;> omega
        rw [if_neg hne, g9 (i + 1) z]
        rfl
      · have hi2 : i + 1 = cap := by omega
        have : (hd + (i + 1)) % cap = hd := by rw [hi2, Nat.add_mod_right, Nat.mod_eq_of_lt g4]
        rw [if_pos this, List.getD_eq_getElem?_getD, List.getElem?_eq_none (by omega)]
        rfl
    · rcases hok _ (List.mem_cons_of_mem _ hp) with q | ⟨b', w', ci, fs, q, e, _⟩
      · cases q
      · cases q
        obtain ⟨w2, fs2, e2⟩ := W2.2.2.2.1 _ _ _ _ _ e
        exact ⟨w2, ci, fs2, e2⟩
end
