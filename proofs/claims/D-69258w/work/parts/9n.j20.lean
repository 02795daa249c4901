/-! the library: ArrayList.addAll, the fact -/
section
variable {E : lE} {G : lHeap}
theorem jp_ne {y : lY} {s : CS} {A0 : lMem} {a b : Nat} {x z : lCell} (hW : cW E y s A0) (ha : s.1 a = some x) (hb : s.1 b = some z) (hx : x.1 = true) (hz : z.1 = true) (hne : ¬ a = b) : adr y.1 a ≠ adr y.1 b := by
  intro e
  obtain ⟨c, _, h1, _, h2⟩ := hW.2.2.2.1 a (hW.2.1 a _ ha)
  obtain ⟨d, _, k1, _, k2⟩ := hW.2.2.2.1 b (hW.2.1 b _ hb)
  rw [e, k1] at h1
  cases h1
  exact hne ((h2 _ ha (Or.inl hx)).symm.trans (k2 _ hb (Or.inl hz)))
theorem relL_app2 {l : List Nat} {A0 : lMem} : ∀ {es rs fs qs : List Value}, relL l A0 es rs → relL l A0 fs qs → relL l A0 (es ++ fs) (rs ++ qs) := by
  intro es
  induction es with
  | nil =>
    intro rs fs qs h k
    cases rs with
    | nil => exact k
    | cons _ _ => exact h.elim
  | cons x es ih =>
    intro rs fs qs h k
    cases rs with
    | nil => exact h.elim
    | cons z rs => exact ⟨h.1, ih h.2 k⟩
set_option maxRecDepth 10000 in
theorem jp86 (hJE : jE E G) : JP_86 (lAb (lJd E G) G) E := by
  intro y s A0 a w b w0 x hW hr hr0 hx M hM
  obtain ⟨own, cr, hA⟩ := hM
  obtain ⟨⟨m, es⟩, hc, hx⟩ := bindC hx
  obtain ⟨⟨mb, fs⟩, hcb, hx⟩ := bindC hx
  have hc := alC_some hc
  have hcb := alC_some hcb
  dsimp only at hc hcb hx
  rcases iteC hx with ⟨⟨hl, hab⟩, hx2⟩ | ⟨_, hx2⟩
  case inr => cases hx2
  clear hx
  cases hx2
  obtain ⟨⟨c1, hE1⟩, ⟨z0, hE19, hGz⟩, _⟩ := hJE
  obtain ⟨rs, ey, hL, J, ho, hla, hok⟩ := jp_L hW hA hc
  obtain ⟨bs, eb, hLb, Jb, hob, hlb, hokb⟩ := jp_L hW hA hcb
  obtain ⟨e, g1, hl5, h3⟩ := JL_raw J
  obtain ⟨eb', gb, _, h3b⟩ := JL_raw Jb
  have hne : adr y.1 a ≠ adr y.1 b := jp_ne hW hc hcb rfl rfl hab
  have hln := relL_len hL
  have hlnb := relL_len hLb
  rw [hr.1, hr0.1]
  have hfr : M.1 M.2.1 = none := hA.2.2.1 _ (Nat.le_refl _)
  -- the array of the other list
  obtain ⟨w2, xs, gxb, hxt, hxl, hxm⟩ : ∃ w2 xs, M.1 eb' = some (w2, true, 6, xs) ∧ xs.take bs.length = bs ∧ bs.length ≤ xs.length ∧ xs.length ≤ 1000000 := by
    rcases h3b with ⟨rfl, hE⟩ | ⟨cap, k1, k2, k3, k4, _, k6⟩
    · rw [hE19] at hE
      cases hE
      exact ⟨_, _, (hA.2.2.2.2.1 _ _ hGz).1, rfl, by simp, by simp⟩
    · refine ⟨_, _, k4, ?_, by rw [jfil_len k1]; exact k1, by rw [jfil_len k1]; omega⟩
      unfold jfil
      rw [List.take_append_of_le_length (Nat.le_refl _), List.take_of_length_le (Nat.le_refl _)]
  have s87 := sp_87 gb gxb hxt hxl hxm hfr hE1 hokb
  have W1 := (Jw.rf (a := adr y.1 a) hA).new (c := (true, true, 6, bs)) ⟨(show 6 < 1000 by decide), fun w => by cases w⟩ (M.2.2 + bs.length)
  have hneT : adr y.1 a ≠ M.2.1 := by omega
  have g1T : lUpd M.1 M.2.1 (true, true, 6, bs) (adr y.1 a) = some (true, false, 13, [.int m, .ref e, .int (Int32.ofNat rs.length)]) := (lUpd_ne _ _ hneT).trans g1
  have W2 := W1.upd (w' := true) (fs' := [.int (m + 1), .ref e, .int (Int32.ofNat rs.length)]) g1T (fun _ => ho)
  obtain ⟨M2, hM2⟩ : ∃ M2 : lMem, M2 = (lUpd (lUpd M.1 M.2.1 (true, true, 6, bs)) (adr y.1 a) (true, false, 13, [.int (m + 1), .ref e, .int (Int32.ofNat rs.length)]), M.2.1 + 1, M.2.2 + bs.length) := ⟨_, rfl⟩
  have W2' : Jw own (adr y.1 a) M M2 := by rw [hM2]; exact W2
  have ga2 : M2.1 (adr y.1 a) = some (true, false, 13, [.int (m + 1), .ref e, .int (Int32.ofNat rs.length)]) := by rw [hM2]; exact lUpd_eq ..
  have gT2 : M2.1 M.2.1 = some (true, true, 6, bs) := by rw [hM2]; exact (lUpd_ne _ _ (fun z => hneT z.symm)).trans (lUpd_eq ..)
  have old2 : ∀ q c, M.1 q = some c → q ≠ adr y.1 a → M2.1 q = some c := fun q c hq hn => by
    rw [hM2]
    refine (lUpd_ne _ _ hn).trans ((lUpd_ne _ _ (fun z => ?_)).trans hq)
    rw [z, hfr] at hq
    cases hq
  have ok2 : ∀ v, okV M v → okV M2 v := fun v hv => by
    rw [hM2]
    have h2 := hv.upd (q := M.2.1) (c := (true, true, 6, bs)) (n := M.2.1 + 1) (m := M.2.2 + bs.length) (Or.inl hfr)
    exact h2.upd (Or.inr ⟨true, false, 13, _, g1T, rfl, rfl⟩)
  have s21 : M2.2.1 = M.2.1 + 1 := by rw [hM2]
  have s22 : M2.2.2 = M.2.2 + bs.length := by rw [hM2]
  have fr2 : M2.1 M2.2.1 = none := W2'.2.1 _ (Nat.le_refl _)
  -- the walk up to the question whether anything comes
  have walk : ∀ {v : Value} {M' : lMem}, lGo E prog 400 cd_86 12 (st1 3 (.int (Int32.ofNat bs.length)) (st1 2 (.ref M.2.1) (lv_args 0 [.ref (adr y.1 a), .ref (adr y.1 b)])), [], M2) (.inl (some v), M') → lSp E prog 404 86 [.ref (adr y.1 a), .ref (adr y.1 b)] M (.inl (some v), M') := by
    intro v M' h
    refine lSp.mono (D := 401) (lGo.sp (D := 400) pg_86 (Nat.le_of_ble_eq_true rfl) ?_) (by decide)
    repeat (refine lGo.step rfl (fun _ => rfl) ?_; try dsimp only)
    refine lGo.callV rfl rfl gb rfl ⟨Nat.le_of_ble_eq_true rfl, Nat.le_of_ble_eq_true rfl⟩ (s87.mono (by decide)) ?_
    repeat (refine lGo.step rfl (fun _ => rfl) ?_; try dsimp only)
    refine lGo.get rfl g1T rfl rfl ?_
    repeat (refine lGo.step rfl (fun _ => rfl) ?_; try dsimp only)
    refine lGo.put rfl g1T rfl (Nat.le_of_ble_eq_true rfl) rfl ?_
    repeat (refine lGo.step rfl (fun _ => rfl) ?_; try dsimp only)
    refine lGo.len rfl ((lUpd_ne _ _ (fun z => hneT z.symm)).trans (lUpd_eq ..)) ?_
    refine lGo.step rfl (fun _ => rfl) ?_
    rw [hM2] at h
    exact h
  have hs1 : ∀ q, Value.ref q ∈ (.int (m + 1) :: (es ++ fs) : List Value) → q < s.2.1 := by
    intro q hq
    rcases List.mem_cons.mp hq with z | z
    · cases z
    rcases List.mem_append.mp z with z | z
    · exact hW.2.2.2.2.1 a _ _ _ _ hc q (List.mem_cons_of_mem _ z)
    · exact hW.2.2.2.2.1 b _ _ _ _ hcb q (List.mem_cons_of_mem _ z)
  have okE : ∀ {M' : lMem}, lKs M M' → okVs M' (.int (m + 1) :: (rs ++ bs)) := by
    intro M' hk p hp
    have key : ∀ v, okV M v → v = .ref p → ∃ w ci fs, M'.1 p = some (w, false, ci, fs) := by
      intro v hv hvp
      rcases hv with q | ⟨b', w', ci, fs, q, e, _⟩
      · rw [hvp] at q; cases q
      · rw [hvp] at q
        cases q
        obtain ⟨w2, fs2, e2⟩ := hk _ _ _ _ _ e
        exact ⟨w2, ci, fs2, e2⟩
    rcases List.mem_cons.mp hp with z | z
    · cases z
    rcases List.mem_append.mp z with z | z
    · exact key _ (hok _ z) rfl
    · exact key _ (hokb _ z) rfl
  have hrel : relC y.1 A0 (adr y.1 a) 1013 (.int (m + 1) :: (es ++ fs)) (.int (m + 1) :: (rs ++ bs)) := relC_L' (relL_app2 hL hLb)
  obtain ⟨m0, es0, e', cap, e0, j1, j2, j3, j4, j5⟩ := J
  cases e0
  have ee : e' = e := by
    have := (hp_some j1).2
    rw [g1] at this
    cases this
    rfl
  subst ee
  by_cases hz : fs.length = 0
  · have hbs : bs = [] := List.eq_nil_of_length_eq_zero (by omega)
    subst hbs
    rw [if_pos hz]
    refine jp_done (kc := cr (adr y.1 a)) (n := s.2.2.1 + 2) (m := s.2.2.2 + (17 * fs.length + 16)) (f := .int (m + 1) :: (rs ++ [])) (M' := M2) hW hA hc (by decide) (by decide) hrel hs1 (Nat.le_add_right _ _) (walk ?_) W2' (Or.inl ⟨rfl, m + 1, rs ++ [], e', cap, rfl, ?_, by rw [List.append_nil]; exact j2, j3, by rw [List.append_nil]; exact j4, ?_⟩) (fun _ => okE W2'.2.2.2.1) (by rw [s21]; omega) (by rw [s22]; simp only [List.length_nil]; omega)
    · refine lGo.step rfl (fun _ => rfl) ?_
      refine lGo.step rfl (fun _ => rfl) ?_
      refine lGo.brF (decide_eq_false (fun z => z rfl)) ?_
      repeat (refine lGo.step rfl (fun _ => rfl) ?_; try dsimp only)
      exact lGo.done rfl (fun _ => rfl)
    · rw [hp_old ho hla, List.append_nil]
      exact ga2
    · rw [List.append_nil]
      rcases j5 with q | ⟨q1, q2, q3, q4⟩
      · exact Or.inl q
      · refine Or.inr ⟨q1, q2, q3, ?_⟩
        have q5 := hp_some q4
        rw [hp_old q5.1 (hA.lt q5.2)]
        exact old2 _ _ q5.2 q3
  · have hbl : bs.length ≠ 0 := by omega
    rw [if_neg hz]
    -- up to the question whether it fits
    have walk2 : ∀ {cp2 : Nat} {we : Bool} {ys : List Value} {M' : lMem}, M2.1 e' = some (we, true, 6, ys) → ys.length = cp2 → cp2 ≤ 900000 → lGo E prog 400 cd_86 28 (st1 5 (.int (Int32.ofNat rs.length)) (st1 4 (.ref e') (st1 3 (.int (Int32.ofNat bs.length)) (st1 2 (.ref M.2.1) (lv_args 0 [.ref (adr y.1 a), .ref (adr y.1 b)])))), [], M2) (.inl (some (.int 1)), M') ∧ ¬ bs.length ≤ cp2 - rs.length ∧ rs.length ≤ cp2 ∨ (bs.length ≤ cp2 - rs.length ∧ rs.length ≤ cp2 ∧ lGo E prog 400 cd_86 34 (st1 5 (.int (Int32.ofNat rs.length)) (st1 4 (.ref e') (st1 3 (.int (Int32.ofNat bs.length)) (st1 2 (.ref M.2.1) (lv_args 0 [.ref (adr y.1 a), .ref (adr y.1 b)])))), [], M2) (.inl (some (.int 1)), M')) → lSp E prog 404 86 [.ref (adr y.1 a), .ref (adr y.1 b)] M (.inl (some (.int 1)), M') := by
      intro cp2 we ys M' he hys hcp h
      refine walk ?_
      refine lGo.step rfl (fun _ => rfl) ?_
      refine lGo.step rfl (fun _ => rfl) ?_
      refine lGo.brT (decide_eq_true (fun z => hbl ?_)) ?_
      · exact (i_inj (j := bs.length) (k := 0) (by omega) (by omega)).mp z
      repeat (refine lGo.step rfl (fun _ => rfl) ?_; try dsimp only)
      refine lGo.get rfl ga2 rfl rfl ?_
      repeat (refine lGo.step rfl (fun _ => rfl) ?_; try dsimp only)
      refine lGo.len rfl he ?_
      repeat (refine lGo.step rfl (fun _ => rfl) ?_; try dsimp only)
      refine lGo.get rfl ga2 rfl rfl ?_
      refine lGo.step rfl (fun _ => rfl) ?_
      refine lGo.step rfl (fun _ => rfl) ?_
      refine lGo.step rfl (fun _ => rfl) ?_
      refine lGo.step rfl (fun _ => rfl) ?_
      dsimp only
      have er : rs.length ≤ cp2 := by rcases h with h | h <;> omega
      have e1 : ys.length.toInt32 - Int32.ofNat rs.length = Int32.ofNat (cp2 - rs.length) := by rw [hys]; exact i_sub er
      rw [e1]
      rcases h with ⟨h, h2, _⟩ | ⟨h2, _, h⟩
      · refine lGo.brF (decide_eq_false (fun z => h2 ?_)) ?_
        · have z2 := Int32.le_iff_toInt_le.mp z
          rw [Int32.toInt_ofNat_of_lt (by omega), Int32.toInt_ofNat_of_lt (by omega)] at z2
          omega
        · exact h
      · refine lGo.brT (decide_eq_true ?_) ?_
        · rw [Int32.le_iff_toInt_le, Int32.toInt_ofNat_of_lt (by omega), Int32.toInt_ofNat_of_lt (by omega)]
          omega
        · exact h
    have hgr : ∀ {d N D : Nat} {we : Bool} {ys : List Value} {M3 : lMem}, M2.1 e' = some (we, true, 6, ys) → ys.length ≤ 900000 → rs.length ≤ ys.length → ¬ bs.length ≤ ys.length - rs.length → D ≤ 400 → lSp E prog D 80 [.ref (adr y.1 a), .int (Int32.ofNat (rs.length + bs.length))] M2 (.inl (some (.ref d)), M3) → M3.1 (adr y.1 a) = some (true, false, 13, [.int (m + 1), .ref d, .int (Int32.ofNat rs.length)]) → M3.1 d = some (true, true, 6, jfil rs N) → M3.1 M.2.1 = some (true, true, 6, bs) → d ≠ adr y.1 a → rs.length + bs.length ≤ N → N ≤ 900000 → (∀ v ∈ bs, okV M3 v) → lSp E prog 404 86 [.ref (adr y.1 a), .ref (adr y.1 b)] M (.inl (some (.int 1)), (lUpd (lUpd M3.1 d (true, true, 6, jfil (rs ++ bs) N)) (adr y.1 a) (true, false, 13, [.int (m + 1), .ref d, .int (Int32.ofNat (rs.length + bs.length))]), M3.2.1, M3.2.2)) := by
      intro d N D we ys M3 he h9 hrl hno hD h80 k1 k2 k3 k4 k5 k6 k7
      refine walk2 (cp2 := ys.length) he rfl h9 (Or.inl ⟨?_, hno, hrl⟩)
      repeat (refine lGo.step rfl (fun _ => rfl) ?_; try dsimp only)
      rw [show Int32.ofNat rs.length + Int32.ofNat bs.length = Int32.ofNat (rs.length + bs.length) from i_add _ _]
      refine lGo.callV rfl rfl ga2 rfl ⟨Nat.le_of_ble_eq_true rfl, Nat.le_of_ble_eq_true rfl⟩ (h80.mono hD) ?_
      refine lGo.step rfl (fun _ => rfl) ?_
      exact aa_tail k1 k2 k3 k4 k5 k6 k7 rfl rfl rfl rfl rfl 400
    rcases j5 with ⟨hc0, hrs0, hE⟩ | ⟨hc10, hrc, hea, hre⟩
    · -- there is no array yet
      cases hrs0
      subst hc0
      rw [hE19] at hE
      cases hE
      have hz2 : M2.1 z0 = some (false, true, 6, []) := old2 _ _ (hA.2.2.2.2.1 _ _ hGz).1 (fun z => by
        have := (hA.2.2.2.2.1 _ _ hGz).1
        rw [z, g1] at this
        cases this)
      have s80 := sp_80z (mn := ([] : List Value).length + bs.length) ga2 hz2 hE19 fr2 (by simp only [List.length_nil]; omega)
      have hnN : adr y.1 a ≠ M2.2.1 := by omega
      have W3 := (W2'.new (c := (true, true, 6, List.replicate (max 10 (([] : List Value).length + bs.length)) .null)) ⟨(show 6 < 1000 by decide), fun w => by cases w⟩ (M2.2.2 + max 10 (([] : List Value).length + bs.length))).upd (w' := true) (fs' := [.int (m + 1), .ref M2.2.1, .int (Int32.ofNat ([] : List Value).length)]) ((lUpd_ne _ _ hnN).trans ga2) (fun _ => ho)
      have gN : lUpd (lUpd M2.1 M2.2.1 (true, true, 6, List.replicate (max 10 (([] : List Value).length + bs.length)) .null)) (adr y.1 a) (true, false, 13, [.int (m + 1), .ref M2.2.1, .int (Int32.ofNat ([] : List Value).length)]) M2.2.1 = some (true, true, 6, jfil [] (max 10 (([] : List Value).length + bs.length))) := (lUpd_ne _ _ (fun z => hnN z.symm)).trans ((lUpd_eq ..).trans (by unfold jfil; rfl))
      have gT3 : lUpd (lUpd M2.1 M2.2.1 (true, true, 6, List.replicate (max 10 (([] : List Value).length + bs.length)) .null)) (adr y.1 a) (true, false, 13, [.int (m + 1), .ref M2.2.1, .int (Int32.ofNat ([] : List Value).length)]) M.2.1 = some (true, true, 6, bs) := (lUpd_ne _ _ (fun z => hneT z.symm)).trans ((lUpd_ne _ _ (by omega)).trans gT2)
      have wk := hgr (N := max 10 (([] : List Value).length + bs.length)) hz2 (by simp) (by simp) (by simp only [List.length_nil]; omega) (by decide) s80 (lUpd_eq ..) gN gT3 (fun z => hnN z.symm) (by omega) (by simp only [List.length_nil]; omega) (fun v hv => (((ok2 v (hokb v hv)).upd (n := 0) (m := 0) (Or.inl fr2)).upd (Or.inr ⟨true, false, 13, _, (lUpd_ne _ _ hnN).trans ga2, rfl, rfl⟩)))
      have W4 := (W3.upd (w' := true) (fs' := jfil (([] : List Value) ++ bs) (max 10 (([] : List Value).length + bs.length))) gN (fun h => by omega)).upd (w' := true) (fs' := [.int (m + 1), .ref M2.2.1, .int (Int32.ofNat (([] : List Value).length + bs.length))]) ((lUpd_ne _ _ hnN).trans (lUpd_eq ..)) (fun _ => ho)
      refine jp_done (kc := 16 * bs.length - 4 * max 10 bs.length) (n := s.2.2.1 + 2) (m := s.2.2.2 + (17 * fs.length + 16)) (f := .int (m + 1) :: ([] ++ bs)) hW hA hc (by decide) (by decide) hrel hs1 (Nat.le_add_right _ _) wk W4 (Or.inl ⟨rfl, m + 1, [] ++ bs, M2.2.1, max 10 bs.length, rfl, ?_, by simp only [List.nil_append]; omega, by omega, by simp only [List.nil_append]; omega, Or.inr ⟨by omega, by simp only [List.nil_append]; omega, fun z => hnN z.symm, ?_⟩⟩) (fun _ => okE W4.2.2.2.1) (by show M2.2.1 + 1 + _ ≤ _; omega) (by show M2.2.2 + max 10 (([] : List Value).length + bs.length) + _ + _ ≤ _; simp only [List.length_nil] at *; omega)
      · rw [hp_old ho hla]
        refine (lUpd_eq ..).trans ?_
        simp
      · rw [hp_new (by omega)]
        refine (lUpd_ne _ _ (fun z => hnN z.symm)).trans ((lUpd_eq ..).trans ?_)
        simp
    · have hre2 := hp_some hre
      have he2 := old2 _ _ hre2.2 hea
      have hel := hA.lt hre2.2
      have hjl := jfil_len hrc
      by_cases hfit : rs.length + bs.length ≤ cap
      · have wk := walk2 (cp2 := cap) he2 hjl (by omega) (Or.inr ⟨by omega, hrc, aa_tail ga2 he2 gT2 hea hfit (by omega) (fun v hv => ok2 v (hokb v hv)) rfl rfl rfl rfl rfl 400⟩)
        have W4 := (W2'.upd (w' := true) (fs' := jfil (rs ++ bs) cap) he2 (fun _ => hre2.1)).upd (w' := true) (fs' := [.int (m + 1), .ref e', .int (Int32.ofNat (rs.length + bs.length))]) ((lUpd_ne _ _ (fun z => hea z.symm)).trans ga2) (fun _ => ho)
        refine jp_done (kc := cr (adr y.1 a) + 16 * bs.length) (n := s.2.2.1 + 2) (m := s.2.2.2 + (17 * fs.length + 16)) (f := .int (m + 1) :: (rs ++ bs)) hW hA hc (by decide) (by decide) hrel hs1 (Nat.le_add_right _ _) wk W4 (Or.inl ⟨rfl, m + 1, rs ++ bs, e', cap, rfl, ?_, by rw [List.length_append]; omega, j3, by rw [List.length_append]; omega, Or.inr ⟨hc10, by rw [List.length_append]; omega, hea, ?_⟩⟩) (fun _ => okE W4.2.2.2.1) (by show M2.2.1 + _ ≤ _; omega) (by show M2.2.2 + _ + _ ≤ _; omega)
        · rw [hp_old ho hla, List.length_append]
          exact lUpd_eq ..
        · rw [hp_old hre2.1 hel]
          exact (lUpd_ne _ _ hea).trans (lUpd_eq ..)
      · have s80 := sp_80 (mn := rs.length + bs.length) ga2 he2 (by omega) hE1 fr2 (by omega) (by omega) (by omega) (fun v hv => by
          unfold jfil at hv
          rcases List.mem_append.mp hv with z | z
          · exact ok2 v (hok v z)
          · exact Or.inl (List.mem_replicate.mp z).2)
        rw [hjl, jfil_jfil hrc (by omega)] at s80
        obtain ⟨N, hN⟩ : ∃ N, N = cap + max (rs.length + bs.length - cap) (cap / 2) := ⟨_, rfl⟩
        rw [← hN] at s80
        have hN1 : rs.length + bs.length ≤ N ∧ N ≤ 760000 ∧ 4 * cap ≤ 3 * N := by omega
        have hnN : adr y.1 a ≠ M2.2.1 := by omega
        have W3 := (W2'.new (c := (true, true, 6, jfil rs N)) ⟨(show 6 < 1000 by decide), fun w => by cases w⟩ (M2.2.2 + N)).upd (w' := true) (fs' := [.int (m + 1), .ref M2.2.1, .int (Int32.ofNat rs.length)]) ((lUpd_ne _ _ hnN).trans ga2) (fun _ => ho)
        have gN : lUpd (lUpd M2.1 M2.2.1 (true, true, 6, jfil rs N)) (adr y.1 a) (true, false, 13, [.int (m + 1), .ref M2.2.1, .int (Int32.ofNat rs.length)]) M2.2.1 = some (true, true, 6, jfil rs N) := (lUpd_ne _ _ (fun z => hnN z.symm)).trans (lUpd_eq ..)
        have gT3 : lUpd (lUpd M2.1 M2.2.1 (true, true, 6, jfil rs N)) (adr y.1 a) (true, false, 13, [.int (m + 1), .ref M2.2.1, .int (Int32.ofNat rs.length)]) M.2.1 = some (true, true, 6, bs) := (lUpd_ne _ _ (fun z => hneT z.symm)).trans ((lUpd_ne _ _ (by omega)).trans gT2)
        have wk := hgr (N := N) he2 (by omega) (by omega) (by omega) (by decide) s80 (lUpd_eq ..) gN gT3 (fun z => hnN z.symm) hN1.1 (by omega) (fun v hv => (((ok2 v (hokb v hv)).upd (n := 0) (m := 0) (Or.inl fr2)).upd (Or.inr ⟨true, false, 13, _, (lUpd_ne _ _ hnN).trans ga2, rfl, rfl⟩)))
        have W4 := (W3.upd (w' := true) (fs' := jfil (rs ++ bs) N) gN (fun h => by omega)).upd (w' := true) (fs' := [.int (m + 1), .ref M2.2.1, .int (Int32.ofNat (rs.length + bs.length))]) ((lUpd_ne _ _ hnN).trans (lUpd_eq ..)) (fun _ => ho)
        refine jp_done (kc := 16 * (rs.length + bs.length) - 4 * N) (n := s.2.2.1 + 2) (m := s.2.2.2 + (17 * fs.length + 16)) (f := .int (m + 1) :: (rs ++ bs)) hW hA hc (by decide) (by decide) hrel hs1 (Nat.le_add_right _ _) wk W4 (Or.inl ⟨rfl, m + 1, rs ++ bs, M2.2.1, N, rfl, ?_, by rw [List.length_append]; omega, by omega, by rw [List.length_append]; omega, Or.inr ⟨by omega, by rw [List.length_append]; exact hN1.1, fun z => hnN z.symm, ?_⟩⟩) (fun _ => okE W4.2.2.2.1) (by show M2.2.1 + 1 + _ ≤ _; omega) (by show M2.2.2 + N + _ + _ ≤ _; omega)
        · rw [hp_old ho hla, List.length_append]
          exact lUpd_eq ..
        · rw [hp_new (by omega)]
          exact (lUpd_ne _ _ (fun z => hnN z.symm)).trans (lUpd_eq ..)
end
