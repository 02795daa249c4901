/-! the library: StringBuilder.append of a text, a builder made from a text -/
section
variable {E : lE} {G : lHeap}
/-- a text found by its number, with its owners -/
theorem jp_W2 {y : lY} {s : CS} {A0 M : lMem} {own cr : Nat → Nat} {a q : Nat} {w wq : Bool} {kq : Nat} {xs fq : List Value} (hW : cW E y s A0) (hA : lAbo (lJd E G) G own cr M (cp y s A0)) (hc : s.1 a = some (w, false, 1000, xs)) (hq : M.1 q = some (wq, false, kq, fq)) (hq0 : kq ≠ 0) : ∃ (w' : Bool) (e : Nat) (hs hz : Int32) (we : Bool), M.1 (adr y.1 a) = some (w', false, 0, [.ref e, .int 0, .int hs, .int hz]) ∧ M.1 e = some (we, true, 2, xs) ∧ xs.length ≤ 200000 ∧ jchr xs ∧ adr y.1 a < M.2.1 ∧ e < M.2.1 ∧ own (adr y.1 a) ≠ q ∧ own e ≠ q := by
  obtain ⟨h1, h2, q1, q2, q3, q4, q5, q6⟩ := jp_at hW hA hc (by omega)
  have e2 := relC_W (Or.inl rfl) h2
  obtain ⟨r1, r2⟩ := q5 (by dsimp only; omega)
  rw [e2] at r2
  obtain ⟨w', e, hs, hz, g1', ⟨we, g2'⟩, g3, g4, g5, _⟩ := lJd_W r2
  have g1 := (hp_some g1').2
  have ne : adr y.1 a ≠ q := fun z => by
    rw [z, hq] at g1
    cases g1
    exact hq0 rfl
  have g2 : M.1 e = some (we, true, 2, xs) ∧ own e ≠ q := by
    rcases g2' with g2 | g2
    · obtain ⟨o1, o2⟩ := hp_some g2
      exact ⟨o2, by rw [o1]; exact ne⟩
    · obtain ⟨o1, o2⟩ := hA.2.2.2.2.1 _ _ g2
      refine ⟨o1, fun z => ?_⟩
      rw [o2] at z
      rw [z, hq] at o1
      cases o1
  exact ⟨w', e, hs, hz, we, g1, g2.1, g4, g5, q2, hA.lt g2.1, by rw [q1]; exact ne, g2.2⟩
theorem jpq_200 (hJE : jE E G) {y : lY} {s : CS} {A0 : lMem} {a b : Nat} {w w0 : Option Nat} {x : CS} (hW : cW E y s A0) (hr : relV y.1 A0 (.ref a) (vR w)) (hr0 : relV y.1 A0 (.ref b) (vR w0)) (hx : sbS s a b = some x) (D mi : Nat) (hsp : ∀ (a' b' : Nat) (M M' : lMem) (c : lCell), M.1 a' = some c → c.2.1 = false → c.2.2.1 = 35 → lSp E prog 400 200 [.ref a', .ref b'] M (.inl (some (.ref a')), M') → lSp E prog D mi [.ref a', .ref b'] M (.inl (some (.ref a')), M')) : lSQ (lAb (lJd E G) G) E D mi [vR w, vR w0] (cp y s A0) (oE E y s A0 (.ref a) x) := by
  intro M hM
  obtain ⟨own, cr, hA⟩ := hM
  obtain ⟨_, _, _, hE27, _⟩ := hJE
  obtain ⟨ys, hd, hx1⟩ := bindC hx
  obtain ⟨xs, hc, hx2⟩ := bindC hx1
  rcases iteC hx2 with ⟨hl, hx3⟩ | ⟨_, hx3⟩
  case inr => cases hx3
  cases hx3
  have hc := cc_some hc
  obtain ⟨w1, hd⟩ := stC_some hd
  obtain ⟨e, z, rest, S, hl2, hk⟩ := jp_S hW hA hc
  have g := S.2.2.2.1
  obtain ⟨w', eb, hs, hz, we, gb, gy, hly, hjy, hb1, hb2, hb3, hb4⟩ := jp_W2 hW hA hd g (by decide)
  obtain ⟨M1, e1, rest1, s1, S1, ⟨hz, _⟩, hK⟩ := sb_appS (E := E) hE27 S gb gy hb1 hb2 hb3 hb4 hjy hl
  have hK := hK _ hk
  rw [hr.1, hr0.1]
  refine sb_doneE (nn := 2) (m := 8 * ys.length + 16) (xs := xs ++ ys) (rest := rest1) hr.2 hW hA hc (by decide) (hsp _ _ _ _ _ g rfl rfl s1) S1 rfl (by rw [List.length_append]) (by rw [List.length_append]; omega) (by omega) (by rw [List.length_append (as := xs)]; omega)
theorem jp200 (hJE : jE E G) : JP_200 (lAb (lJd E G) G) E := by
  intro y s A0 a w b w0 x hW hr hr0 hx
  exact jpq_200 hJE hW hr hr0 hx 401 200 (fun _ _ _ _ _ _ _ _ h => h.mono (by decide))
theorem sp_207 {a b D : Nat} {M M' : lMem} {w : Bool} {fs : List Value} {v : Value} (g : M.1 a = some (w, false, 35, fs)) (h : lSp E prog D 200 [.ref a, .ref b] M (.inl (some (.ref a)), M')) : lSp E prog (D + 1) 207 [.ref a, .ref b] M (.inl (some (.ref a)), M') := by
  refine lGo.sp (D := D) pg_207 (Nat.le_of_ble_eq_true rfl) ?_
  repeat (refine lGo.step rfl (fun _ => rfl) ?_; try dsimp only)
  refine lGo.callV rfl rfl g rfl ⟨Nat.le_of_ble_eq_true rfl, Nat.le_of_ble_eq_true rfl⟩ h ?_
  exact lGo.done rfl (fun _ => rfl)
theorem jp207 (hJE : jE E G) : JP_207 (lAb (lJd E G) G) E := by
  intro y s A0 a w b w0 x hW hr hr0 hx
  refine jpq_200 hJE hW hr hr0 hx 401 207 (fun a' b' M M' c h1 h2 h3 h => ?_)
  obtain ⟨c1, c2, c3, c4⟩ := c
  dsimp only at h2 h3
  subst h2 h3
  exact sp_207 (v := .null) h1 h
theorem SBs.ini2 {own : Nat → Nat} {M : lMem} {a : Nat} {fs0 fs1 : List Value} (hw : Jw own a M M) (h2 : own a = a) (h3 : a < M.2.1) (h4 : M.1 a = some (true, false, 35, fs0)) {arr : List Value} (hj : jchr arr) (hl : 16 ≤ arr.length) (hl2 : arr.length ≤ 300000) (x : Value) (k : Nat) : SBs own M a M.2.1 x 0 arr (lUpd (lUpd (lUpd M.1 a (true, false, 35, fs1)) M.2.1 (true, true, 2, arr)) a (true, false, 35, [.ref M.2.1, .int 0, x, .int 0]), M.2.1 + 1, k) := by
  have ne : a ≠ M.2.1 := by omega
  exact ⟨((hw.upd (w' := true) (fs' := fs1) h4 (fun _ => h2)).new (c := (true, true, 2, arr)) ⟨(show 2 < 1000 by decide), fun w => by cases w⟩ k).upd ((lUpd_ne _ _ ne).trans (lUpd_eq ..)) (fun _ => h2), h2, h3, lUpd_eq .., ne.symm, fun z => by omega, (lUpd_ne _ _ ne.symm).trans (lUpd_eq ..), hj, hl, hl2⟩
theorem jp206 (hJE : jE E G) : JP_206 (lAb (lJd E G) G) E := by
  intro y s A0 a w b w0 x hW hr hr0 hx M hM
  obtain ⟨own, cr, hA⟩ := hM
  obtain ⟨_, _, _, hE27, _⟩ := hJE
  obtain ⟨ys, hd, hx1⟩ := bindC hx
  rcases iteC hx1 with ⟨hl, hx2⟩ | ⟨_, hx2⟩
  case inr => cases hx2
  obtain ⟨s1, hc0, hx3⟩ := bindC hx2
  obtain ⟨hc, hs1⟩ := ccI_some hc0
  subst hs1
  cases hx3
  obtain ⟨w1, hd⟩ := stC_some hd
  obtain ⟨h0, w', h1, h2⟩ := jp_pl hW hA hc (by decide)
  have h2 := h2 rfl
  subst h2
  obtain ⟨q1, q2, q3, _⟩ := hA.2.2.2.2.2 _ _ h0
  have h1 : M.1 (adr y.1 a) = some (true, false, 35, [.null, .int 0, .int 0, .int 0]) := h1
  have ne : adr y.1 a ≠ M.2.1 := by omega
  obtain ⟨w', eb, hs, hz, we, gb, gy, hly, hjy, hb1, hb2, hb3, hb4⟩ := jp_W2 hW hA hd h1 (by decide)
  have S := SBs.ini2 (fs1 := [.null, .int 0, .int 0, .int 0]) (Jw.rf hA) q1 q2 h1 (jchr_rep (n := ys.length + 16)) (by rw [List.length_replicate]; omega) (by rw [List.length_replicate]; omega) (.int 0) (M.2.2 + (ys.length + 16))
  obtain ⟨M2, hM2⟩ : ∃ M2 : lMem, M2 = (lUpd (lUpd (lUpd M.1 (adr y.1 a) (true, false, 35, [.null, .int 0, .int 0, .int 0])) M.2.1 (true, true, 2, List.replicate (ys.length + 16) (.int 0))) (adr y.1 a) (true, false, 35, [.ref M.2.1, .int 0, .int 0, .int 0]), M.2.1 + 1, M.2.2 + (ys.length + 16)) := ⟨_, rfl⟩
  rw [← hM2] at S
  have S' : SBs own M (adr y.1 a) M.2.1 (.int 0) ([] : List Value).length ([] ++ List.replicate (ys.length + 16) (.int 0)) M2 := S
  obtain ⟨M1, e1, rest1, s1, S1, ⟨_, hz⟩, _⟩ := sb_appS (E := E) hE27 S' gb gy hb1 hb2 hb3 hb4 hjy (by simp only [List.length_nil]; omega)
  obtain ⟨c1, c2, c3⟩ := hz (by rw [List.length_replicate]; omega)
  rw [List.nil_append] at c3
  rw [List.nil_append] at c3
  rw [List.length_replicate] at c3
  have S1' : SBs own M (adr y.1 a) e1 (.int 0) ys.length (ys ++ rest1) M1 := by
    have := S1
    rw [List.nil_append, List.length_nil, Nat.zero_add] at this
    exact this
  have d1 : M2.2.1 = M.2.1 + 1 := by rw [hM2]
  have d2 : M2.2.2 = M.2.2 + (ys.length + 16) := by rw [hM2]
  have g2 := S'.2.2.2.1
  rw [hr.1, hr0.1]
  refine sb_done (nn := 1) (m := 8 * ys.length + 16) (xs := ys) (rest := rest1) hW hA hc (by decide) ?_ S1' rfl rfl (by omega) (by omega) (by omega)
  refine lGo.sp (D := 402) pg_206 (Nat.le_of_ble_eq_true rfl) ?_
  repeat (refine lGo.step rfl (fun _ => rfl) ?_; try dsimp only)
  refine lGo.callV rfl rfl h1 rfl ⟨Nat.le_of_ble_eq_true rfl, Nat.le_of_ble_eq_true rfl⟩ (M' := M1) (v := none) ?_ ?_
  · refine lGo.sp (D := 401) pg_169 (Nat.le_of_ble_eq_true rfl) ?_
    repeat (refine lGo.step rfl (fun _ => rfl) ?_; try dsimp only)
    refine lGo.callV rfl rfl gb rfl ⟨Nat.le_of_ble_eq_true rfl, Nat.le_of_ble_eq_true rfl⟩ ((sp_229 hE27 gb gy (by omega)).mono (by decide)) ?_
    repeat (refine lGo.step rfl (fun _ => rfl) ?_; try dsimp only)
    refine lGo.brF (decide_eq_false (fun w => ?_)) ?_
    · have := (i_le (j := 2147483631) (k := ys.length) (by omega) (by omega)).mp w
      omega
    repeat (refine lGo.step rfl (fun _ => rfl) ?_; try dsimp only)
    rw [show Int32.ofNat ys.length + 16 = Int32.ofNat (ys.length + 16) from i_add _ 16]
    refine lGo.callV rfl rfl gb rfl ⟨Nat.le_of_ble_eq_true rfl, Nat.le_of_ble_eq_true rfl⟩ ((sp_230 hE27 gb).mono (by decide)) ?_
    repeat (refine lGo.step rfl (fun _ => rfl) ?_; try dsimp only)
    refine lGo.put rfl h1 rfl (Nat.le_of_ble_eq_true rfl) rfl ?_
    repeat (refine lGo.step rfl (fun _ => rfl) ?_; try dsimp only)
    refine lGo.newa rfl (i_nlt0 (by omega)) (by rw [clampN (by omega)]; omega) ?_
    rw [clampN (by omega)]
    repeat (refine lGo.step rfl (fun _ => rfl) ?_; try dsimp only)
    refine lGo.put rfl ((lUpd_ne _ _ ne).trans (lUpd_eq ..)) rfl (Nat.le_of_ble_eq_true rfl) rfl ?_
    repeat (refine lGo.step rfl (fun _ => rfl) ?_; try dsimp only)
    have s7 := sp_207 (v := .null) g2 s1
    rw [hM2] at s7
    refine lGo.callV rfl rfl (lUpd_eq ..) rfl ⟨Nat.le_of_ble_eq_true rfl, Nat.le_of_ble_eq_true rfl⟩ s7 ?_
    repeat (refine lGo.step rfl (fun _ => rfl) ?_; try dsimp only)
    exact lGo.done rfl (fun _ => rfl)
  · exact lGo.done rfl (fun _ => rfl)
end
