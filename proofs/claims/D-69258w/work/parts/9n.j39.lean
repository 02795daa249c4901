/-! the library: BitSet, clearing; or -/
section
variable {E : lE} {G : lHeap} {own cr : Nat → Nat} {M0 M : lMem} {a e n u : Nat} {f : Nat → Int64}
theorem i_sc1 {c : Nat} : Int32.ofNat (c + 1) - 1 = Int32.ofNat c := by
  rw [show (1 : Int32) = Int32.ofNat 1 from rfl, i_sub (by omega)]
  rfl
/-- recalculateWordsInUse -/
theorem bb_rec (h : BBs own M0 a e n u f M) (hn : n ≤ 40000) : ∀ (c : Nat) (lv : lL), c ≤ n → lGet lv 0 = some (.ref a) → lGet lv 1 = some (.int (Int32.ofNat c - 1)) → (∀ i, c ≤ i → f i = 0) → ∃ u', u' ≤ c ∧ (∀ i, u' ≤ i → f i = 0) ∧ (u' = 0 ∨ f (u' - 1) ≠ 0) ∧ ∀ D, lGo E prog D cd_16 5 (lv, [], M) (.inl none, (lUpd M.1 a (true, false, 3, [.ref e, .int (Int32.ofNat u'), .int 0]), M.2.1, M.2.2)) := by
  obtain ⟨k1, k2, k3, k4, k5, k6, k7⟩ := h
  intro c
  induction c with
  | zero =>
    intro lv _ l0 l1 hz
    refine ⟨0, Nat.le_refl _, hz, Or.inl rfl, fun D => ?_⟩
    have l1 : lGet lv 1 = some (.int (-1)) := l1
    refine lGo.loadI rfl l1 ?_
    refine lGo.step rfl (fun _ => rfl) ?_; dsimp only
    refine lGo.brT (by decide) ?_
    refine lGo.loadA rfl l0 ?_
    refine lGo.loadI rfl l1 ?_
    refine lGo.step rfl (fun _ => rfl) ?_; dsimp only
    refine lGo.step rfl (fun _ => rfl) ?_; dsimp only
    refine lGo.put rfl k4 rfl (Nat.le_of_ble_eq_true rfl) rfl ?_
    exact lGo.done rfl (fun _ => rfl)
  | succ c ih =>
    intro lv hc l0 l1 hz
    rw [i_sc1] at l1
    by_cases z : f c = 0
    · obtain ⟨u', q1, q2, q3, q4⟩ := ih (st1 1 (.int (Int32.ofNat c + (-1))) lv) (by omega) (by repeat (first | assumption | exact lGet_s1 | refine lGet_sn ?_ (by decide) (by first | exact Or.inl (by decide) | exact Or.inr rfl))) (by rw [show Int32.ofNat c + (-1) = Int32.ofNat c - 1 from (Int32.sub_eq_add_neg ..).symm]; exact lGet_s1) (fun i hi => by
        by_cases w : i = c
        · rw [w]
          exact z
        · exact hz i (by omega))
      refine ⟨u', by omega, q2, q3, fun D => ?_⟩
      refine lGo.loadI rfl l1 ?_
      refine lGo.step rfl (fun _ => rfl) ?_; dsimp only
      refine lGo.brF (decide_eq_false (i_nlt0 (by omega))) ?_
      refine lGo.loadA rfl l0 ?_
      refine lGo.get rfl k4 rfl rfl ?_
      refine lGo.loadI rfl l1 ?_
      refine lGo.ald rfl k7 rfl (i_nlt0 (by omega)) (by rw [clampN (by omega)]; exact rowW_get (by omega)) ?_
      refine lGo.step rfl (fun _ => rfl) ?_; dsimp only
      refine lGo.step rfl (fun _ => rfl) ?_; dsimp only
      refine lGo.step rfl (fun _ => rfl) ?_; dsimp only
      refine lGo.brT (decide_eq_true (lg_eq0.mpr z)) ?_
      refine lGo.inc rfl l1 ?_
      refine lGo.step rfl (fun _ => rfl) ?_; dsimp only
      exact q4 D
    · refine ⟨c + 1, Nat.le_refl _, hz, Or.inr z, fun D => ?_⟩
      refine lGo.loadI rfl l1 ?_
      refine lGo.step rfl (fun _ => rfl) ?_; dsimp only
      refine lGo.brF (decide_eq_false (i_nlt0 (by omega))) ?_
      refine lGo.loadA rfl l0 ?_
      refine lGo.get rfl k4 rfl rfl ?_
      refine lGo.loadI rfl l1 ?_
      refine lGo.ald rfl k7 rfl (i_nlt0 (by omega)) (by rw [clampN (by omega)]; exact rowW_get (by omega)) ?_
      refine lGo.step rfl (fun _ => rfl) ?_; dsimp only
      refine lGo.step rfl (fun _ => rfl) ?_; dsimp only
      refine lGo.step rfl (fun _ => rfl) ?_; dsimp only
      refine lGo.brF (decide_eq_false (fun w => z (lg_eq0.mp w))) ?_
      refine lGo.step rfl (fun _ => rfl) ?_; dsimp only
      refine lGo.loadA rfl l0 ?_
      refine lGo.loadI rfl l1 ?_
      refine lGo.step rfl (fun _ => rfl) ?_; dsimp only
      refine lGo.step rfl (fun _ => rfl) ?_; dsimp only
      rw [show Int32.ofNat c + 1 = Int32.ofNat (c + 1) from i_add c 1]
      refine lGo.put rfl k4 rfl (Nat.le_of_ble_eq_true rfl) rfl ?_
      exact lGo.done rfl (fun _ => rfl)
theorem sp_16 (h : BBs own M0 a e n u f M) (hn : n ≤ 40000) (hu : u ≤ n) (h6 : ∀ i, u ≤ i → f i = 0) : ∃ u', u' ≤ u ∧ (∀ i, u' ≤ i → f i = 0) ∧ (u' = 0 ∨ f (u' - 1) ≠ 0) ∧ lSp E prog 1 16 [.ref a] M (.inl none, (lUpd M.1 a (true, false, 3, [.ref e, .int (Int32.ofNat u'), .int 0]), M.2.1, M.2.2)) := by
  have k4 := h.2.2.2.1
  obtain ⟨u', q1, q2, q3, q4⟩ := bb_rec (E := E) h hn u (st1 1 (.int (Int32.ofNat u - 1)) (lv_args 0 [.ref a])) hu rfl rfl h6
  refine ⟨u', q1, q2, q3, ?_⟩
  refine lGo.sp (D := 0) pg_16 (Nat.le_of_ble_eq_true rfl) ?_
  refine lGo.step rfl (fun _ => rfl) ?_; dsimp only
  refine lGo.get rfl k4 rfl rfl ?_
  refine lGo.step rfl (fun _ => rfl) ?_; dsimp only
  refine lGo.step rfl (fun _ => rfl) ?_; dsimp only
  refine lGo.step rfl (fun _ => rfl) ?_; dsimp only
  exact q4 0
theorem clr_bit (xs : List Value) (k q : Nat) : bit (xs.set k (.int 0)) q = (bit xs q && !decide (q = k)) := by
  unfold bit
  by_cases z : q = k
  · subst z
    rw [decide_eq_true rfl]
    by_cases h : q < xs.length
    · rw [List.getElem?_set_self h, Bool.not_true, Bool.and_false]
      rfl
    · rw [List.getElem?_eq_none (by rw [List.length_set]; omega), Bool.not_true, Bool.and_false]
      rfl
  · rw [List.getElem?_set_ne (fun w => z w.symm), decide_eq_false z, Bool.not_false, Bool.and_true]
theorem bb_clr {y : lY} {s : CS} {A0 M : lMem} {own cr : Nat → Nat} {a k : Nat} {xs : List Value} (hJE : jE E G) (hW : cW E y s A0) (hA : lAbo (lJd E G) G own cr M (cp y s A0)) (hc : s.1 a = some (true, false, 1003, xs)) (hk : k < 2147483648) : ∃ (fin : lF) (A' : lMem), lSp E prog 2 15 [.ref (adr y.1 a), .int (Int32.ofNat k)] M fin ∧ lAb (lJd E G) G fin.2 A' ∧ lXk A' fin.1 ∧ (fin.1 = .inl none ∧ qP E y s A0 (lUpd s.1 a (true, false, 1003, xs.set k (.int 0)), s.2.1, s.2.2.1 + 0, s.2.2.2 + 0) A') := by
  obtain ⟨e, n, u, f, S, h1, h2, h3, h4, h5, h6, h7, h8, h9⟩ := jp_B hW hA hc
  have hE0 := hJE.2.2.2.2.2.2.2
  have g := S.2.2.2.1
  have ge := S.2.2.2.2.2.2
  have h8' : ∀ v ∈ xs.set k (.int 0), v = .int 0 ∨ v = .int 1 := fun v hv => by
    rcases List.mem_or_eq_of_mem_set hv with z | z
    · exact h8 v z
    · exact Or.inl z
  by_cases z : k / 64 < u
  · obtain ⟨f', hf'⟩ : ∃ f' : Nat → Int64, f' = fun j => if j = k / 64 then f (k / 64) &&& (1 <<< Int64.ofNat (k % 64) ^^^ -1) else f j := ⟨_, rfl⟩
    have f6 : ∀ i, u ≤ i → f' i = 0 := fun i hi => by
      rw [hf']
      dsimp only
      rw [if_neg (by omega)]
      exact h6 i hi
    have f9 : ∀ q, bit (xs.set k (.int 0)) q = tbL (f' (q / 64)) (q % 64) := fun q => by
      rw [clr_bit, h9, hf']
      dsimp only
      by_cases z : q / 64 = k / 64
      · rw [if_pos z, bit_clr (m64 k) (m64 q), z]
        congr 2
        have d1 := dm64 q
        have d2 := dm64 k
        exact decide_eq_decide.mpr ⟨fun w => by rw [w], fun w => by omega⟩
      · rw [if_neg z, decide_eq_false (fun w => z (by rw [w])), Bool.not_false, Bool.and_true]
    have S2 := S.wE f'
    obtain ⟨u', q1, q2, q3, q4⟩ := sp_16 (E := E) S2 h2 h5 f6
    have S3 := S2.wA u'
    refine bb_done (nn := 0) (m := 0) (xs := xs.set k (.int 0)) hW hA hc (by decide) ?_ S3 h1 h2 (by rw [List.length_set]; exact h3) (by rw [List.length_set]; exact h4) (by omega) q2 q3 h8' f9 (Nat.le_of_eq (Nat.zero_add _).symm) (Nat.le_of_eq (Nat.zero_add _).symm)
    refine lGo.sp (D := 1) pg_15 (Nat.le_of_ble_eq_true rfl) ?_
    refine lGo.step rfl (fun _ => rfl) ?_; dsimp only
    refine lGo.step rfl (fun _ => rfl) ?_; dsimp only
    refine lGo.brT (decide_eq_true (Int32.not_lt.mp (i_nlt0 (by omega)))) ?_
    refine lGo.step rfl (fun _ => rfl) ?_; dsimp only
    refine lGo.call (n := 1) rfl ⟨Nat.le_of_ble_eq_true rfl, Nat.le_of_ble_eq_true rfl⟩ (sp_7 (k := k) (by omega)) ?_
    refine lGo.step rfl (fun _ => rfl) ?_; dsimp only
    refine lGo.step rfl (fun _ => rfl) ?_; dsimp only
    refine lGo.step rfl (fun _ => rfl) ?_; dsimp only
    refine lGo.get rfl g rfl rfl ?_
    refine lGo.step rfl (fun _ => rfl) ?_; dsimp only
    refine lGo.brT (decide_eq_true ((i_lt (by omega) (by omega)).mpr z)) ?_
    refine lGo.step rfl (fun _ => rfl) ?_; dsimp only
    refine lGo.get rfl g rfl rfl ?_
    refine lGo.step rfl (fun _ => rfl) ?_; dsimp only
    refine lGo.step rfl (fun _ => rfl) ?_; dsimp only
    refine lGo.ald rfl ge rfl (i_nlt0 (by omega)) (by rw [clampN (by omega)]; exact rowW_get (by omega)) ?_
    refine lGo.step rfl (fun _ => rfl) ?_; dsimp only
    refine lGo.step rfl (fun _ => rfl) ?_; dsimp only
    refine lGo.step rfl (fun _ => rfl) ?_; dsimp only
    rw [sh_ix (by omega)]
    refine lGo.step rfl (fun _ => rfl) ?_; dsimp only
    refine lGo.step rfl (fun _ => rfl) ?_; dsimp only
    refine lGo.step rfl (fun _ => rfl) ?_; dsimp only
    refine lGo.lst rfl ge (i_nlt0 (by omega)) (by rw [clampN (by omega), rowW_len]; omega) ?_
    rw [clampN (by omega), rowW_set, ← hf']
    refine lGo.step rfl (fun _ => rfl) ?_; dsimp only
    refine lGo.callV rfl rfl S2.2.2.2.1 rfl ⟨Nat.le_of_ble_eq_true rfl, Nat.le_of_ble_eq_true rfl⟩ q4 ?_
    refine lGo.step rfl (fun _ => rfl) ?_; dsimp only
    refine lGo.callV rfl rfl S3.2.2.2.1 rfl ⟨Nat.le_of_ble_eq_true rfl, Nat.le_of_ble_eq_true rfl⟩ (sp_11 hE0) ?_
    exact lGo.done rfl (fun _ => rfl)
  · have f9 : ∀ q, bit (xs.set k (.int 0)) q = tbL (f (q / 64)) (q % 64) := fun q => by
      rw [clr_bit, h9]
      by_cases w : q = k
      · rw [w, h6 _ (by omega), tb_0]
        rfl
      · rw [decide_eq_false w, Bool.not_false, Bool.and_true]
    refine bb_done (nn := 0) (m := 0) (xs := xs.set k (.int 0)) hW hA hc (by decide) ?_ S h1 h2 (by rw [List.length_set]; exact h3) (by rw [List.length_set]; exact h4) (by omega) h6 h7 h8' f9 (Nat.le_of_eq (Nat.zero_add _).symm) (Nat.le_of_eq (Nat.zero_add _).symm)
    refine lGo.sp (D := 1) pg_15 (Nat.le_of_ble_eq_true rfl) ?_
    refine lGo.step rfl (fun _ => rfl) ?_; dsimp only
    refine lGo.step rfl (fun _ => rfl) ?_; dsimp only
    refine lGo.brT (decide_eq_true (Int32.not_lt.mp (i_nlt0 (by omega)))) ?_
    refine lGo.step rfl (fun _ => rfl) ?_; dsimp only
    refine lGo.call (n := 1) rfl ⟨Nat.le_of_ble_eq_true rfl, Nat.le_of_ble_eq_true rfl⟩ (sp_7 (k := k) (by omega)) ?_
    refine lGo.step rfl (fun _ => rfl) ?_; dsimp only
    refine lGo.step rfl (fun _ => rfl) ?_; dsimp only
    refine lGo.step rfl (fun _ => rfl) ?_; dsimp only
    refine lGo.get rfl g rfl rfl ?_
    refine lGo.step rfl (fun _ => rfl) ?_; dsimp only
    refine lGo.brF (decide_eq_false (fun w => z ((i_lt (by omega) (by omega)).mp w))) ?_
    exact lGo.done rfl (fun _ => rfl)
theorem jp14 (hJE : jE E G) : JP_14 (lAb (lJd E G) G) E := by
  intro y s A0 a w i b x hW hr hx M hM
  unfold bsSetB at hx
  rcases iteC hx with ⟨z, hx1⟩ | ⟨z, hx1⟩
  · subst z
    have hM' := hM
    obtain ⟨own, cr, hA⟩ := hM
    obtain ⟨xs, hc, hx2⟩ := bindC hx1
    rcases iteC hx2 with ⟨h0, hx3⟩ | ⟨_, hx3⟩
    case inr => cases hx3
    cases hx3
    have hc := cc_some hc
    have e := i_ofc h0
    obtain ⟨fin, A', k1, k2, k3, k4, k5⟩ := bb_clr hJE hW hA hc (i_lt31 h0)
    rw [← e] at k1
    obtain ⟨f1, f2⟩ := fin
    dsimp only at k4
    subst k4
    rw [hr.1]
    refine ⟨(.inl none, f2), A', ?_, k2, k3, rfl, k5⟩
    obtain ⟨_, _, _, _, S, _⟩ := jp_B hW hA hc
    refine lGo.sp (D := 5) pg_14 (Nat.le_of_ble_eq_true rfl) ?_
    refine lGo.step rfl (fun _ => rfl) ?_; dsimp only
    refine lGo.step rfl (fun _ => rfl) ?_; dsimp only
    refine lGo.brT (by rfl) ?_
    refine lGo.step rfl (fun _ => rfl) ?_; dsimp only
    refine lGo.step rfl (fun _ => rfl) ?_; dsimp only
    refine lGo.callV rfl rfl S.2.2.2.1 rfl ⟨Nat.le_of_ble_eq_true rfl, Nat.le_of_ble_eq_true rfl⟩ (k1.mono (by decide)) ?_
    exact lGo.done rfl (fun _ => rfl)
  · obtain ⟨fin, A', k1, k2, k3, k4, k5⟩ := jp8 hJE y s A0 a w i x hW hr hx1 M hM
    obtain ⟨own, cr, hA⟩ := hM
    obtain ⟨xs, hc, _⟩ := bindC hx1
    obtain ⟨_, _, _, _, S, _⟩ := jp_B hW hA (cc_some hc)
    obtain ⟨f1, f2⟩ := fin
    dsimp only at k4
    subst k4
    refine ⟨(.inl none, f2), A', ?_, k2, k3, rfl, k5⟩
    rw [hr.1] at k1 ⊢
    refine lGo.sp (D := 5) pg_14 (Nat.le_of_ble_eq_true rfl) ?_
    refine lGo.step rfl (fun _ => rfl) ?_; dsimp only
    refine lGo.step rfl (fun _ => rfl) ?_; dsimp only
    refine lGo.brF (decide_eq_false z) ?_
    refine lGo.step rfl (fun _ => rfl) ?_; dsimp only
    refine lGo.step rfl (fun _ => rfl) ?_; dsimp only
    refine lGo.callV rfl rfl S.2.2.2.1 rfl ⟨Nat.le_of_ble_eq_true rfl, Nat.le_of_ble_eq_true rfl⟩ k1 ?_
    refine lGo.step rfl (fun _ => rfl) ?_; dsimp only
    exact lGo.done rfl (fun _ => rfl)
/-- or's loop -/
theorem or_lp {a b e2 u2 m n1 u1 : Nat} {f2 : Nat → Int64} {n2 : Nat} {w2 w3 : Bool} (hab : a ≠ b) (hm1 : m ≤ n1) (hm2 : m ≤ n2) (hn1 : n1 ≤ 40000) (hn2 : n2 ≤ 40000) {e1 : Nat} (he : e1 ≠ e2) (hbe : b ≠ e1) : ∀ (d c : Nat) (M : lMem) (f1 : Nat → Int64) (lv : lL), c + d = m → BBs own M0 a e1 n1 u1 f1 M → M.1 b = some (w2, false, 3, [.ref e2, .int (Int32.ofNat u2), .int 0]) → M.1 e2 = some (w3, true, 1, rowW f2 n2) → lGet lv 0 = some (.ref a) → lGet lv 1 = some (.ref b) → lGet lv 2 = some (.int (Int32.ofNat m)) → lGet lv 3 = some (.int (Int32.ofNat c)) → ∀ (D : Nat) (fin : lF), (∀ lv', lGet lv' 0 = some (.ref a) → lGet lv' 1 = some (.ref b) → lGet lv' 2 = some (.int (Int32.ofNat m)) → lGo E prog D cd_17 41 (lv', [], (lUpd M.1 e1 (true, true, 1, rowW (fun i => if c ≤ i ∧ i < m then f1 i ||| f2 i else f1 i) n1), M.2.1, M.2.2)) fin) → lGo E prog D cd_17 25 (lv, [], M) fin := by
  intro d
  induction d with
  | zero =>
    intro c M f1 lv hcd S gb ge2 l0 l1 l2 l3 D fin k
    refine lGo.loadI rfl l3 ?_
    refine lGo.loadI rfl l2 ?_
    refine lGo.step rfl (fun _ => rfl) ?_; dsimp only
    refine lGo.brT (decide_eq_true ((i_le (by omega) (by omega)).mpr (by omega))) ?_
    have := k lv l0 l1 l2
    rw [rowW_cg (g := f1) (fun i _ => by rw [if_neg (by omega)]), lUpd_self S.2.2.2.2.2.2] at this
    exact this
  | succ d ih =>
    intro c M f1 lv hcd S gb ge2 l0 l1 l2 l3 D fin k
    obtain ⟨_, _, _, g, _, _, ge⟩ := id S
    refine lGo.loadI rfl l3 ?_
    refine lGo.loadI rfl l2 ?_
    refine lGo.step rfl (fun _ => rfl) ?_; dsimp only
    refine lGo.brF (decide_eq_false (fun w => by have := (i_le (by omega) (by omega)).mp w; omega)) ?_
    refine lGo.loadA rfl l0 ?_
    refine lGo.get rfl g rfl rfl ?_
    refine lGo.loadI rfl l3 ?_
    refine lGo.step rfl (fun _ => rfl) ?_; dsimp only
    refine lGo.ald rfl ge rfl (i_nlt0 (by omega)) (by rw [clampN (by omega)]; exact rowW_get (by omega)) ?_
    refine lGo.loadA rfl l1 ?_
    refine lGo.get rfl gb rfl rfl ?_
    refine lGo.loadI rfl l3 ?_
    refine lGo.ald rfl ge2 rfl (i_nlt0 (by omega)) (by rw [clampN (by omega)]; exact rowW_get (by omega)) ?_
    refine lGo.step rfl (fun _ => rfl) ?_; dsimp only
    refine lGo.lst rfl ge (i_nlt0 (by omega)) (by rw [clampN (by omega), rowW_len]; omega) ?_
    rw [clampN (by omega), rowW_set]
    refine lGo.inc rfl l3 ?_
    rw [show Int32.ofNat c + 1 = Int32.ofNat (c + 1) from i_add c 1]
    refine lGo.step rfl (fun _ => rfl) ?_; dsimp only
    refine ih (c + 1) _ _ _ (by omega) (S.wE _) ((lUpd_ne _ _ hbe).trans gb) ((lUpd_ne _ _ (fun w => he w.symm)).trans ge2) (by repeat (first | assumption | exact lGet_s1 | refine lGet_sn ?_ (by decide) (by first | exact Or.inl (by decide) | exact Or.inr rfl))) (by repeat (first | assumption | exact lGet_s1 | refine lGet_sn ?_ (by decide) (by first | exact Or.inl (by decide) | exact Or.inr rfl))) (by repeat (first | assumption | exact lGet_s1 | refine lGet_sn ?_ (by decide) (by first | exact Or.inl (by decide) | exact Or.inr rfl))) (by repeat (first | assumption | exact lGet_s1 | refine lGet_sn ?_ (by decide) (by first | exact Or.inl (by decide) | exact Or.inr rfl))) D fin (fun lv' q0 q1 q2 => ?_)
    have := k lv' q0 q1 q2
    rw [lUpdU, rowW_cg (g := fun i => if c ≤ i ∧ i < m then f1 i ||| f2 i else f1 i) (fun i _ => by
      by_cases z : i = c
      · rw [if_neg (by omega), if_pos z, if_pos (by omega), z]
      · rw [if_neg z]
        by_cases z2 : c + 1 ≤ i ∧ i < m
        · rw [if_pos z2, if_pos (by omega)]
        · rw [if_neg z2, if_neg (by omega)])]
    exact this
end
