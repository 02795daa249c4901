/-! the library: ArrayList.get, clear, iterators -/
section
variable {E : lE} {G : lHeap} {M : lMem}
theorem sp_95 {i n : Int32} (h0 : ¬ i < 0) (h1 : i < n) : lSp E prog 1 95 [.int i, .int n, .null] M (.inl (some (.int i)), M) := by
  refine lGo.sp (D := 0) pg_95 (Nat.le_of_ble_eq_true rfl) ?_
  repeat (refine lGo.step rfl (fun _ => rfl) ?_; try dsimp only)
  refine lGo.brF (decide_eq_false h0) ?_
  repeat (refine lGo.step rfl (fun _ => rfl) ?_; try dsimp only)
  refine lGo.brT (decide_eq_true h1) ?_
  repeat (refine lGo.step rfl (fun _ => rfl) ?_; try dsimp only)
  exact lGo.done rfl (fun _ => rfl)
theorem sp_93 {i n : Int32} (h0 : ¬ i < 0) (h1 : i < n) : lSp E prog 2 93 [.int i, .int n] M (.inl (some (.int i)), M) := by
  refine lGo.sp (D := 1) pg_93 (Nat.le_of_ble_eq_true rfl) ?_
  repeat (refine lGo.step rfl (fun _ => rfl) ?_; try dsimp only)
  refine lGo.call (n := 3) rfl ⟨Nat.le_of_ble_eq_true rfl, Nat.le_of_ble_eq_true rfl⟩ (sp_95 h0 h1) ?_
  exact lGo.done rfl (fun _ => rfl)
/-- a place of an array -/
theorem sp_84v {a e : Nat} {i : Int32} {m n r : Value} {w : Bool} {xs : List Value} (hM : M.1 a = some (w, false, 13, [m, .ref e, n])) (he : M.1 e = some (true, true, 6, xs)) (h0 : ¬ i < 0) (hv : xs[i.toNatClampNeg]? = some r) (hr : r = .null ∨ ∃ b, r = .ref b) : lSp E prog 1 84 [.ref a, .int i] M (.inl (some r), M) := by
  refine lGo.sp (D := 0) pg_84 (Nat.le_of_ble_eq_true rfl) ?_
  repeat (refine lGo.step rfl (fun _ => rfl) ?_; try dsimp only)
  refine lGo.get rfl hM rfl rfl ?_
  repeat (refine lGo.step rfl (fun _ => rfl) ?_; try dsimp only)
  refine lGo.ald rfl he rfl h0 hv ?_
  rcases hr with rfl | ⟨b, rfl⟩ <;> exact lGo.done rfl (fun _ => rfl)
theorem i_ofc {i : Int32} (h : ¬ i < 0) : i = Int32.ofNat i.toNatClampNeg := by
  obtain ⟨k, hk, rfl⟩ : ∃ k, k < 2147483648 ∧ i = Int32.ofNat k := by
    refine ⟨i.toNatClampNeg, ?_, ?_⟩
    · have := Int32.toNatClampNeg_lt i
      omega
    · refine Int32.toInt.inj ?_
      have h2 : 0 ≤ i.toInt := by
        rw [Int32.lt_iff_toInt_lt, Int32.toInt_zero] at h
        omega
      have h3 := Int32.toNatClampNeg_lt i
      rw [Int32.toInt_ofNat_of_lt (by omega), ← Int32.toNat_toInt, Int.toNat_of_nonneg h2]
  rw [i_clamp hk]
theorem jp83 : JP_83 (lAb (lJd E G) G) E := by
  intro y s A0 a w i x hW hr hx M hM
  obtain ⟨own, cr, hA⟩ := hM
  obtain ⟨⟨m, es⟩, hc, hx⟩ := bindC hx
  rcases iteC hx with ⟨h0, hx⟩ | ⟨_, hx⟩
  case inr => cases hx
  dsimp only at hx
  obtain ⟨rs, ey, hL, J, ho, hla, hok⟩ := jp_L hW hA (alC_some hc)
  obtain ⟨e, h1, hl, h3⟩ := JL_raw J
  obtain ⟨r, hr1, hr2⟩ := relL_get hL hx
  have hlt : i.toNatClampNeg < rs.length := (List.getElem?_eq_some_iff.mp hr1).1
  have hi : i < Int32.ofNat rs.length := by
    rw [i_ofc h0]
    exact (i_lt (by omega) (by omega)).mpr hlt
  obtain ⟨o, rfl⟩ := hr2.real
  rw [hr.1]
  rcases h3 with ⟨rfl, _⟩ | ⟨cap, c1, c2, c3, c4, _⟩
  · exact absurd hlt (Nat.not_lt_zero _)
  refine ⟨(.inl (some (vR o)), M), _, ?_, ⟨own, cr, hA⟩, trivial, o, rfl, hr2, rfl⟩
  refine lGo.sp (D := 2) pg_83 (Nat.le_of_ble_eq_true rfl) ?_
  repeat (refine lGo.step rfl (fun _ => rfl) ?_; try dsimp only)
  refine lGo.get rfl h1 rfl rfl ?_
  refine lGo.call (n := 2) rfl ⟨Nat.le_of_ble_eq_true rfl, Nat.le_of_ble_eq_true rfl⟩ (sp_93 h0 hi) ?_
  repeat (refine lGo.step rfl (fun _ => rfl) ?_; try dsimp only)
  refine lGo.callV rfl rfl h1 rfl ⟨Nat.le_of_ble_eq_true rfl, Nat.le_of_ble_eq_true rfl⟩ ((sp_84v (r := vR o) h1 c4 h0 ?_ (by cases o with | none => exact Or.inl rfl | some b => exact Or.inr ⟨b, rfl⟩)).mono (by decide)) ?_
  · unfold jfil
    rw [List.getElem?_append_left hlt]
    exact hr1
  · cases o <;> exact lGo.done rfl (fun _ => rfl)
/-- the clearing loop -/
theorem clr_lp {a e n cap : Nat} (hn : n ≤ cap) (hcap : cap ≤ 800000) : ∀ (k j : Nat), j + k = n → ∀ (M : lMem) (xs : List Value), M.1 e = some (true, true, 6, xs) → xs.length = cap → (∀ i, i < j → xs[i]? = some .null) → (∀ i, n ≤ i → i < cap → xs[i]? = some .null) → lGo E prog 0 cd_85 17 ([(3, .int (Int32.ofNat j)), (2, .int (Int32.ofNat n)), (1, .ref e), (0, .ref a)], [], M) (.inl none, (lUpd M.1 e (true, true, 6, List.replicate cap .null), M.2.1, M.2.2)) := by
  intro k
  induction k with
  | zero =>
    intro j hj M xs he hl h1 h2
    repeat (refine lGo.step rfl (fun _ => rfl) ?_; try dsimp only)
    refine lGo.brT (decide_eq_true ?_) ?_
    · rw [show j = n by omega]; exact Int32.le_refl _
    have ex : xs = List.replicate cap .null := by
      apply List.ext_getElem?
      intro i
      by_cases hi : i < cap
      · rw [List.getElem?_replicate, if_pos hi]
        by_cases hi2 : i < j
        · exact h1 i hi2
        · exact h2 i (by omega) hi
      · rw [List.getElem?_eq_none (by omega), List.getElem?_eq_none (by rw [List.length_replicate]; omega)]
    have em : (lUpd M.1 e (true, true, 6, List.replicate cap .null), M.2.1, M.2.2) = M := by
      refine Prod.ext ?_ rfl
      funext q
      show lUpd M.1 e _ q = M.1 q
      rw [lUpd_at]
      by_cases z : q = e
      · rw [if_pos z, z, he, ex]
      · rw [if_neg z]
    rw [em]
    exact lGo.done rfl (fun _ => rfl)
  | succ k ih =>
    intro j hj M xs he hl h1 h2
    have hlt : Int32.ofNat j < Int32.ofNat n := (i_lt (by omega) (by omega)).mpr (by omega)
    repeat (refine lGo.step rfl (fun _ => rfl) ?_; try dsimp only)
    refine lGo.brF (decide_eq_false (Int32.not_le.mpr hlt)) ?_
    repeat (refine lGo.step rfl (fun _ => rfl) ?_; try dsimp only)
    refine lGo.rsv rfl he (Or.inl rfl) (i_nlt0 (by omega)) (by rw [clampN (by omega)]; omega) ?_
    rw [clampN (by omega)]
    refine lGo.step rfl (fun _ => rfl) ?_
    refine lGo.step rfl (fun _ => rfl) ?_
    have e1 : Int32.ofNat j + 1 = Int32.ofNat (j + 1) := i_suc j
    have := ih (j + 1) (by omega) (lUpd M.1 e (true, true, 6, xs.set j .null), M.2.1, M.2.2) (xs.set j .null) (lUpd_eq ..) (by rw [List.length_set]; exact hl) (fun i hi => ?_) (fun i h3 h4 => ?_)
    · rw [lUpdU] at this
      rw [← e1] at this
      exact this
    · rw [List.getElem?_set]
      by_cases z : j = i
      · rw [if_pos z, if_pos (by omega)]
      · rw [if_neg z]; exact h1 i (by omega)
    · rw [List.getElem?_set, if_neg (by omega)]
      exact h2 i h3 h4
theorem jp85 : JP_85 (lAb (lJd E G) G) E := by
  intro y s A0 a w x hW hr hx M hM
  obtain ⟨own, cr, hA⟩ := hM
  obtain ⟨⟨m, es⟩, hc, hx⟩ := bindC hx
  cases hx
  have hc := alC_some hc
  dsimp only at hc
  obtain ⟨rs, ey, hL, J, ho, hla, hok⟩ := jp_L hW hA hc
  obtain ⟨e, h1, hl, h3⟩ := JL_raw J
  have W1 := ((Jw.rf hA).upd (w' := true) (fs' := [.int (m + 1), .ref e, .int (Int32.ofNat rs.length)]) h1 (fun _ => ho))
  have W2 := W1.upd (w' := true) (fs' := [.int (m + 1), .ref e, .int 0]) (lUpd_eq ..) (fun _ => ho)
  rw [hr.1]
  have walk : ∀ {M' : lMem}, lGo E prog 0 cd_85 17 ([(3, .int (Int32.ofNat 0)), (2, .int (Int32.ofNat rs.length)), (1, .ref e), (0, .ref (adr y.1 a))], [], (lUpd (lUpd M.1 (adr y.1 a) (true, false, 13, [.int (m + 1), .ref e, .int (Int32.ofNat rs.length)])) (adr y.1 a) (true, false, 13, [.int (m + 1), .ref e, .int 0]), M.2.1, M.2.2)) (.inl none, M') → lSp E prog 1 85 [.ref (adr y.1 a)] M (.inl none, M') := by
    intro M' h
    refine lGo.sp (D := 0) pg_85 (Nat.le_of_ble_eq_true rfl) ?_
    repeat (refine lGo.step rfl (fun _ => rfl) ?_; try dsimp only)
    refine lGo.get rfl h1 rfl rfl ?_
    repeat (refine lGo.step rfl (fun _ => rfl) ?_; try dsimp only)
    refine lGo.put rfl h1 rfl (Nat.le_of_ble_eq_true rfl) rfl ?_
    repeat (refine lGo.step rfl (fun _ => rfl) ?_; try dsimp only)
    refine lGo.get rfl (lUpd_eq ..) rfl rfl ?_
    repeat (refine lGo.step rfl (fun _ => rfl) ?_; try dsimp only)
    refine lGo.get rfl (lUpd_eq ..) rfl rfl ?_
    repeat (refine lGo.step rfl (fun _ => rfl) ?_; try dsimp only)
    refine lGo.put rfl (lUpd_eq ..) rfl (Nat.le_of_ble_eq_true rfl) rfl ?_
    refine lGo.step rfl (fun _ => rfl) ?_
    exact h
  have cost := hA.2.1
  rcases h3 with ⟨rfl, hE⟩ | ⟨cap, c1, c2, c3, c4, c5, c6⟩
  · refine jp_done (kc := 0) (n := s.2.2.1) (m := s.2.2.2) (f := [.int (m + 1)]) hW hA hc (by decide) (by decide) (relC_L' (es := []) (rs := []) trivial) (fun q hq => by simp at hq) (Nat.le_refl _) (walk (M' := (lUpd (lUpd M.1 (adr y.1 a) (true, false, 13, [.int (m + 1), .ref e, .int (Int32.ofNat ([] : List Value).length)])) (adr y.1 a) (true, false, 13, [.int (m + 1), .ref e, .int 0]), M.2.1, M.2.2)) ?_) W2 (Or.inl ⟨rfl, m + 1, [], e, 0, rfl, ?_, by simp, by omega, by simp, Or.inl ⟨rfl, rfl, hE⟩⟩) (fun _ b hb => by simp at hb) (by show M.2.1 + _ ≤ _; omega) (by show M.2.2 + _ + _ ≤ _; omega)
    · repeat (refine lGo.step rfl (fun _ => rfl) ?_; try dsimp only)
      refine lGo.brT (by rfl) ?_
      exact lGo.done rfl (fun _ => rfl)
    · rw [hp_old ho hla]
      exact lUpd_eq ..
  · have he2 : lUpd (lUpd M.1 (adr y.1 a) (true, false, 13, [.int (m + 1), .ref e, .int (Int32.ofNat rs.length)])) (adr y.1 a) (true, false, 13, [.int (m + 1), .ref e, .int 0]) e = some (true, true, 6, jfil rs cap) := (lUpd_ne _ _ c2).trans ((lUpd_ne _ _ c2).trans c4)
    have lp := clr_lp (E := E) (a := adr y.1 a) c1 c6 rs.length 0 (by omega) (lUpd (lUpd M.1 (adr y.1 a) (true, false, 13, [.int (m + 1), .ref e, .int (Int32.ofNat rs.length)])) (adr y.1 a) (true, false, 13, [.int (m + 1), .ref e, .int 0]), M.2.1, M.2.2) (jfil rs cap) he2 (jfil_len c1) (fun i hi => absurd hi (Nat.not_lt_zero _)) (fun i h4 h5 => by
      have h6 : i - rs.length < cap - rs.length := by omega
      unfold jfil
      rw [List.getElem?_append_right h4, List.getElem?_replicate, if_pos h6])
    have le : e < M.2.1 := hA.lt c4
    refine jp_done (kc := 0) (n := s.2.2.1) (m := s.2.2.2) (f := [.int (m + 1)]) hW hA hc (by decide) (by decide) (relC_L' (es := []) (rs := []) trivial) (fun q hq => by simp at hq) (Nat.le_refl _) (walk lp) (W2.upd (w' := true) he2 (fun _ => c3)) (Or.inl ⟨rfl, m + 1, [], e, cap, rfl, ?_, by simp, c6, by simp, Or.inr ⟨c5, by simp, c2, ?_⟩⟩) (fun _ b hb => by simp at hb) (by show M.2.1 + _ ≤ _; omega) (by show M.2.2 + _ + _ ≤ _; omega)
    · rw [hp_old ho hla]
      exact (lUpd_ne _ _ (fun z => c2 z.symm)).trans (lUpd_eq ..)
    · rw [hp_old c3 le]
      refine (lUpd_eq ..).trans ?_
      unfold jfil
      rfl
end
