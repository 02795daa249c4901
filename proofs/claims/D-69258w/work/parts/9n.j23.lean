/-! the library: String.equals -/
section
variable {E : lE} {M : lMem} {D : Nat} {cd : List lI} {i j : Nat} {fin : lF} {lv : lL} {r : List Value}
theorem lGo.inst {ts : List Nat} {a ci : Nat} {w : Bool} {fs : List Value} (hi : cd[i]? = some (aM (fInst ts j))) (hM : M.1 a = some (w, false, ci, fs)) (ht : ts.contains ci = true) (h : lGo E prog D cd j (lv, .int 1 :: r, M) fin) : lGo E prog D cd i (lv, .ref a :: r, M) fin := by
  refine lGo.step hi (fun _ => ?_) h
  show lMemI (fInst ts j) E _ _ = _
  unfold lMemI fInst
  dsimp only
  rw [hM]
  dsimp only
  rw [if_pos ht]
end
section
variable {E : lE} {G : lHeap} {M : lMem}
theorem eq_lp {e e2 : Nat} {we we2 : Bool} {xs ys : List Value} (ge : M.1 e = some (we, true, 2, xs)) (ge2 : M.1 e2 = some (we2, true, 2, ys)) (hl : ys.length = xs.length) (hx : xs.length < 2147483648) (hj : jchr xs) (hj2 : jchr ys) : ∀ (k i : Nat), i + k = xs.length → ∀ lv, lGet lv 0 = some (.ref e) → lGet lv 1 = some (.ref e2) → lGet lv 2 = some (.int (Int32.ofNat i)) → ∀ D, lGo E prog D cd_125 7 (lv, [], M) (.inl (some (.int (if xs.drop i = ys.drop i then 1 else 0))), M) := by
  intro k
  induction k with
  | zero =>
    intro i hi lv l0 l1 l2 D
    refine lGo.loadI rfl l2 ?_
    refine lGo.loadA rfl l0 ?_
    refine lGo.len rfl ge ?_
    refine lGo.step rfl (fun _ => rfl) ?_
    refine lGo.brT (decide_eq_true ?_) ?_
    · rw [show i = xs.length by omega]; exact Int32.le_refl _
    repeat (refine lGo.step rfl (fun _ => rfl) ?_; try dsimp only)
    rw [List.drop_eq_nil_of_le (by omega), List.drop_eq_nil_of_le (by omega), if_pos rfl]
    exact lGo.done rfl (fun _ => rfl)
  | succ k ih =>
    intro i hi lv l0 l1 l2 D
    refine lGo.loadI rfl l2 ?_
    refine lGo.loadA rfl l0 ?_
    refine lGo.len rfl ge ?_
    refine lGo.step rfl (fun _ => rfl) ?_
    refine lGo.brF (decide_eq_false ?_) ?_
    · intro z
      have := (i_le (k := i) (j := xs.length) (by omega) (by omega)).mp z
      omega
    have hlt : i < xs.length := by omega
    have hlt2 : i < ys.length := by omega
    obtain ⟨c, hc1, hc2⟩ := hj _ (List.getElem_mem hlt)
    obtain ⟨d, hd1, hd2⟩ := hj2 _ (List.getElem_mem hlt2)
    refine lGo.loadA rfl l0 ?_
    refine lGo.loadI rfl l2 ?_
    refine lGo.ald rfl ge rfl (i_nlt0 (by omega)) (by rw [clampN (by omega)]; exact List.getElem?_eq_getElem hlt) ?_
    refine lGo.loadA rfl l1 ?_
    refine lGo.loadI rfl l2 ?_
    refine lGo.ald rfl ge2 rfl (i_nlt0 (by omega)) (by rw [clampN (by omega)]; exact List.getElem?_eq_getElem hlt2) ?_
    rw [hc2, hd2]
    refine lGo.step rfl (fun _ => rfl) ?_
    rw [List.drop_eq_getElem_cons hlt, List.drop_eq_getElem_cons hlt2, hc2, hd2]
    by_cases z : Int32.ofNat c = Int32.ofNat d
    · refine lGo.brT (decide_eq_true z) ?_
      rw [z]
      refine lGo.inc rfl l2 ?_
      refine lGo.step rfl (fun _ => rfl) ?_
      have e : (if Value.int (Int32.ofNat d) :: xs.drop (i + 1) = Value.int (Int32.ofNat d) :: ys.drop (i + 1) then (1 : Int32) else 0) = (if xs.drop (i + 1) = ys.drop (i + 1) then 1 else 0) := by
        by_cases w : xs.drop (i + 1) = ys.drop (i + 1)
        · rw [if_pos w, if_pos (by rw [w])]
        · rw [if_neg w, if_neg (fun q => w (List.cons.inj q).2)]
      rw [e]
      exact ih (i + 1) (by omega) _ (lGet_sn l0 (by decide) (Or.inl (by decide))) (lGet_sn l1 (by decide) (Or.inr rfl)) (by rw [← i_suc]; exact lGet_s1) D
    · refine lGo.brF (decide_eq_false z) ?_
      rw [if_neg (fun q => z (Value.int.inj (List.cons.inj q).1))]
      repeat (refine lGo.step rfl (fun _ => rfl) ?_; try dsimp only)
      exact lGo.done rfl (fun _ => rfl)
theorem sp_125 {e e2 : Nat} {we we2 : Bool} {xs ys : List Value} (ge : M.1 e = some (we, true, 2, xs)) (ge2 : M.1 e2 = some (we2, true, 2, ys)) (hx : xs.length < 2147483648) (hy : ys.length < 2147483648) (hj : jchr xs) (hj2 : jchr ys) : lSp E prog 1 125 [.ref e, .ref e2] M (.inl (some (.int (if xs = ys then 1 else 0))), M) := by
  refine lGo.sp (D := 0) pg_125 (Nat.le_of_ble_eq_true rfl) ?_
  repeat (refine lGo.step rfl (fun _ => rfl) ?_; try dsimp only)
  refine lGo.len rfl ge ?_
  repeat (refine lGo.step rfl (fun _ => rfl) ?_; try dsimp only)
  refine lGo.len rfl ge2 ?_
  refine lGo.step rfl (fun _ => rfl) ?_
  by_cases z : xs.length = ys.length
  · refine lGo.brF (decide_eq_false ?_) ?_
    · rw [z]; exact fun w => w rfl
    refine lGo.step rfl (fun _ => rfl) ?_
    refine lGo.step rfl (fun _ => rfl) ?_
    have := eq_lp (E := E) ge ge2 z.symm hx hj hj2 xs.length 0 (by omega)
    rw [List.drop_zero, List.drop_zero] at this
    exact this _ rfl rfl rfl 0
  · refine lGo.brT (decide_eq_true ?_) ?_
    · intro w
      exact z ((i_inj hx hy).mp w)
    rw [if_neg (fun w => z (by rw [w]))]
    repeat (refine lGo.step rfl (fun _ => rfl) ?_; try dsimp only)
    exact lGo.done rfl (fun _ => rfl)
theorem jp239 (hJE : jE E G) : JP_239 (lAb (lJd E G) G) E := by
  intro y s A0 a w b0 w0 x hW hr hr0 hx M hM
  obtain ⟨own, cr, hA⟩ := hM
  obtain ⟨xs, hc, hx1⟩ := bindC hx
  obtain ⟨b, hb, hx2⟩ := bindC hx1
  obtain ⟨ys, hd, hx3⟩ := bindC hx2
  clear hx hx1 hx2
  subst hb
  cases hx3
  obtain ⟨w1, hc⟩ := stC_some hc
  obtain ⟨w2, hd⟩ := stC_some hd
  obtain ⟨w', e, hs, hz, we, g1, g2, g3, g4, g5, g6, g7, g8⟩ := jp_W hW hA hc
  obtain ⟨w'', e2, hs2, hz2, we2, f1, f2, f3, f4, f5, f6, f7, f8⟩ := jp_W hW hA hd
  obtain ⟨_, _, _, hE27, _⟩ := hJE
  rw [hr.1, hr0.1]
  refine ⟨(.inl (some (.int _)), M), _, ?_, ⟨own, cr, hA⟩, trivial, rfl, rfl⟩
  refine lGo.sp (D := 1) pg_239 (Nat.le_of_ble_eq_true rfl) ?_
  repeat (refine lGo.step rfl (fun _ => rfl) ?_; try dsimp only)
  by_cases z : adr y.1 a = adr y.1 b
  · have e : xs = ys := by
      rw [z, f8] at g8
      cases g8
      rfl
    refine lGo.brT (decide_eq_true z) ?_
    rw [if_pos e]
    repeat (refine lGo.step rfl (fun _ => rfl) ?_; try dsimp only)
    exact lGo.done rfl (fun _ => rfl)
  refine lGo.brF (decide_eq_false z) ?_
  repeat (refine lGo.step rfl (fun _ => rfl) ?_; try dsimp only)
  refine lGo.inst rfl f1 rfl ?_
  refine lGo.step rfl (fun _ => rfl) ?_
  refine lGo.brF (by rfl) ?_
  repeat (refine lGo.step rfl (fun _ => rfl) ?_; try dsimp only)
  refine lGo.cast rfl f1 rfl ?_
  refine lGo.step rfl (fun _ => rfl) ?_
  refine lGo.env rfl hE27 ?_
  refine lGo.step rfl (fun _ => rfl) ?_
  refine lGo.brF (by rfl) ?_
  repeat (refine lGo.step rfl (fun _ => rfl) ?_; try dsimp only)
  refine lGo.get rfl g1 rfl rfl ?_
  repeat (refine lGo.step rfl (fun _ => rfl) ?_; try dsimp only)
  refine lGo.get rfl f1 rfl rfl ?_
  refine lGo.step rfl (fun _ => rfl) ?_
  refine lGo.brF (by rfl) ?_
  repeat (refine lGo.step rfl (fun _ => rfl) ?_; try dsimp only)
  refine lGo.get rfl g1 rfl rfl ?_
  repeat (refine lGo.step rfl (fun _ => rfl) ?_; try dsimp only)
  refine lGo.get rfl f1 rfl rfl ?_
  refine lGo.call (n := 2) rfl ⟨Nat.le_of_ble_eq_true rfl, Nat.le_of_ble_eq_true rfl⟩ (sp_125 g2 f2 (by omega) (by omega) g4 f4) ?_
  by_cases e : xs = ys
  · rw [if_pos e]
    repeat (refine lGo.step rfl (fun _ => rfl) ?_; try dsimp only)
    exact lGo.done rfl (fun _ => rfl)
  · rw [if_neg e]
    repeat (refine lGo.step rfl (fun _ => rfl) ?_; try dsimp only)
    exact lGo.done rfl (fun _ => rfl)
end
/-! the library: String.hashCode -/
section
variable {E : lE} {G : lHeap} {M : lMem}
theorem hsh_lp {e : Nat} {we : Bool} {xs : List Value} (ge : M.1 e = some (we, true, 2, xs)) (hx : xs.length < 2147483648) (hj : jchr xs) : ∀ (k i : Nat), i + k = xs.length → ∀ (lv : lL) (h x : Int32), lGet lv 0 = some (.int h) → lGet lv 1 = some (.ref e) → lGet lv 4 = some (.int (Int32.ofNat xs.length)) → lGet lv 5 = some (.int (Int32.ofNat i)) → hsh (xs.drop i) h = some x → ∀ D, lGo E prog D cd_41 6 (lv, [], M) (.inl (some (.int x)), M) := by
  intro k
  induction k with
  | zero =>
    intro i hi lv h x l0 l1 l4 l5 hh D
    refine lGo.loadI rfl l5 ?_
    refine lGo.loadI rfl l4 ?_
    refine lGo.step rfl (fun _ => rfl) ?_
    refine lGo.brT (decide_eq_true ?_) ?_
    · rw [show i = xs.length by omega]; exact Int32.le_refl _
    rw [List.drop_eq_nil_of_le (by omega)] at hh
    cases hh
    refine lGo.loadI rfl l0 ?_
    exact lGo.done rfl (fun _ => rfl)
  | succ k ih =>
    intro i hi lv h x l0 l1 l4 l5 hh D
    refine lGo.loadI rfl l5 ?_
    refine lGo.loadI rfl l4 ?_
    refine lGo.step rfl (fun _ => rfl) ?_
    refine lGo.brF (decide_eq_false ?_) ?_
    · intro z
      have := (i_le (k := i) (j := xs.length) (by omega) (by omega)).mp z
      omega
    have hlt : i < xs.length := by omega
    obtain ⟨c, hc1, hc2⟩ := hj _ (List.getElem_mem hlt)
    rw [List.drop_eq_getElem_cons hlt, hc2] at hh
    have hh : hsh (xs.drop (i + 1)) (31 * h + Int32.ofNat c) = some x := hh
    refine lGo.step rfl (fun _ => rfl) ?_; dsimp only
    refine lGo.loadI rfl l0 ?_
    refine lGo.step rfl (fun _ => rfl) ?_; dsimp only
    refine lGo.loadA rfl l1 ?_
    refine lGo.loadI rfl l5 ?_
    refine lGo.ald rfl ge rfl (i_nlt0 (by omega)) (by rw [clampN (by omega)]; exact List.getElem?_eq_getElem hlt) ?_
    rw [hc2]
    refine lGo.step rfl (fun _ => rfl) ?_; dsimp only
    refine lGo.step rfl (fun _ => rfl) ?_; dsimp only
    rw [(chr_ok ⟨c, hc1⟩).2]
    refine lGo.step rfl (fun _ => rfl) ?_; dsimp only
    refine lGo.step rfl (fun _ => rfl) ?_; dsimp only
    refine lGo.inc rfl (lGet_sn l5 (by decide) (Or.inl (by decide))) ?_
    refine lGo.step rfl (fun _ => rfl) ?_
    exact ih (i + 1) (by omega) _ _ _ (lGet_sn lGet_s1 (by decide) (Or.inl (by decide))) (lGet_sn (lGet_sn l1 (by decide) (Or.inr rfl)) (by decide) (Or.inl (by decide))) (lGet_sn (lGet_sn l4 (by decide) (Or.inl (by decide))) (by decide) (Or.inr rfl)) (by rw [← i_suc]; exact lGet_s1) hh D
theorem sp_41 {e : Nat} {we : Bool} {xs : List Value} {x : Int32} (ge : M.1 e = some (we, true, 2, xs)) (hx : xs.length < 2147483648) (hj : jchr xs) (hh : hsh xs 0 = some x) : lSp E prog 1 41 [.int 0, .ref e, .int 0, .int (Int32.ofNat xs.length)] M (.inl (some (.int x)), M) := by
  refine lGo.sp (D := 0) pg_41 (Nat.le_of_ble_eq_true rfl) ?_
  refine lGo.step rfl (fun _ => rfl) ?_; dsimp only
  refine lGo.step rfl (fun _ => rfl) ?_; dsimp only
  refine lGo.step rfl (fun _ => rfl) ?_; dsimp only
  rw [show (0 : Int32) + Int32.ofNat xs.length = Int32.ofNat xs.length from Int32.zero_add _]
  refine lGo.step rfl (fun _ => rfl) ?_; dsimp only
  refine lGo.step rfl (fun _ => rfl) ?_; dsimp only
  refine lGo.step rfl (fun _ => rfl) ?_; dsimp only
  have := hsh_lp (E := E) ge hx hj xs.length 0 (by omega)
  rw [List.drop_zero] at this
  exact this _ _ _ rfl rfl rfl rfl hh 0
theorem sp_40 {e : Nat} {xs : List Value} {we : Bool} {x : Int32} (ge : M.1 e = some (we, true, 2, xs)) (hx : xs.length < 2147483648) (hj : jchr xs) (hh : hsh xs 0 = some x) : lSp E prog 2 40 [.ref e, .int 0, .int (Int32.ofNat xs.length), .int 0, .int 4] M (.inl (some (.int x)), M) := by
  refine lGo.sp (D := 1) pg_40 (Nat.le_of_ble_eq_true rfl) ?_
  refine lGo.step rfl (fun _ => rfl) ?_
  refine lGo.step rfl (fun _ => rfl) ?_
  refine lGo.step rfl (fun _ => rfl) ?_
  refine lGo.step rfl (fun _ => rfl) ?_
  refine lGo.castA rfl ge rfl ?_
  repeat (refine lGo.step rfl (fun _ => rfl) ?_; try dsimp only)
  refine lGo.call (n := 4) rfl ⟨Nat.le_of_ble_eq_true rfl, Nat.le_of_ble_eq_true rfl⟩ (sp_41 ge hx hj hh) ?_
  repeat (refine lGo.step rfl (fun _ => rfl) ?_; try dsimp only)
  exact lGo.done rfl (fun _ => rfl)
theorem swL_2 {n : Nat} (h : n < 2147483648) : swL [(0, 3), (1, 5)] 11 (Int32.ofNat n) = if n = 0 then 3 else if n = 1 then 5 else 11 := by
  unfold swL swL swL
  rw [i_toInt h]
  by_cases z : n = 0
  · subst z; rfl
  rw [if_neg z, if_neg (by dsimp only; omega)]
  by_cases z1 : n = 1
  · subst z1; rfl
  rw [if_neg z1]
  dsimp only
  rw [if_neg (by omega)]
theorem sp_135 {e : Nat} {xs : List Value} {we : Bool} {x : Int32} (ge : M.1 e = some (we, true, 2, xs)) (hx : xs.length < 2147483648) (hj : jchr xs) (hh : hsh xs 0 = some x) : lSp E prog 3 135 [.ref e] M (.inl (some (.int x)), M) := by
  refine lGo.sp (D := 2) pg_135 (Nat.le_of_ble_eq_true rfl) ?_
  repeat (refine lGo.step rfl (fun _ => rfl) ?_; try dsimp only)
  refine lGo.len rfl ge ?_
  refine lGo.step rfl (fun _ => rfl) ?_
  rw [i_32, swL_2 hx]
  by_cases z : xs.length = 0
  · rw [if_pos z]
    have : xs = [] := List.eq_nil_of_length_eq_zero z
    subst this
    cases hh
    repeat (refine lGo.step rfl (fun _ => rfl) ?_; try dsimp only)
    exact lGo.done rfl (fun _ => rfl)
  rw [if_neg z]
  by_cases z1 : xs.length = 1
  · rw [if_pos z1]
    obtain ⟨v, rfl⟩ := List.length_eq_one_iff.mp z1
    obtain ⟨c, hc1, hc2⟩ := hj v List.mem_cons_self
    subst hc2
    have hh : some (31 * 0 + Int32.ofNat c) = some x := hh
    cases hh
    repeat (refine lGo.step rfl (fun _ => rfl) ?_; try dsimp only)
    refine lGo.ald rfl ge rfl (by decide) rfl ?_
    repeat (refine lGo.step rfl (fun _ => rfl) ?_; try dsimp only)
    rw [(chr_ok ⟨c, hc1⟩).2, show (31 : Int32) * 0 + Int32.ofNat c = Int32.ofNat c from Int32.zero_add _]
    exact lGo.done rfl (fun _ => rfl)
  rw [if_neg z1]
  repeat (refine lGo.step rfl (fun _ => rfl) ?_; try dsimp only)
  refine lGo.len rfl ge ?_
  repeat (refine lGo.step rfl (fun _ => rfl) ?_; try dsimp only)
  rw [i_32]
  refine lGo.call (n := 5) rfl ⟨Nat.le_of_ble_eq_true rfl, Nat.le_of_ble_eq_true rfl⟩ (sp_40 ge hx hj hh) ?_
  exact lGo.done rfl (fun _ => rfl)
theorem lUpd_self {h : lHeap} {a : Nat} {c : lCell} (e : h a = some c) : lUpd h a c = h := by
  funext q
  rw [lUpd_at]
  by_cases z : q = a
  · rw [if_pos z, z, e]
  · rw [if_neg z]
theorem jp243 (hJE : jE E G) : JP_243 (lAb (lJd E G) G) E := by
  intro y s A0 a w x hW hr hx M hM
  obtain ⟨own, cr, hA⟩ := hM
  unfold stHash at hx
  split at hx
  case h_2 => cases hx
  rename_i xs hc
  obtain ⟨h1, h2, q1, q2, q3, q4, q5, q6⟩ := jp_at hW hA hc (by omega)
  have e2 := relC_W (Or.inl rfl) h2
  obtain ⟨r1, r2⟩ := q5 (by dsimp only; omega)
  rw [e2] at r2 h1
  obtain ⟨w', e, hs, hz, g1', ⟨we, g2'⟩, g3, g4, g5, g6, g7, g8⟩ := lJd_W r2
  have hw' : w' = true := g8 (q3 (Or.inl rfl))
  subst hw'
  have g1 := (hp_some g1').2
  have g2 : M.1 e = some (we, true, 2, xs) := by
    rcases g2' with g2 | g2
    · exact (hp_some g2).2
    · exact (hA.2.2.2.2.1 _ _ g2).1
  have hlt : ∀ q c, M.1 q = some c → q < M.2.1 := by
    intro q c hq
    apply Classical.byContradiction
    intro z
    rw [hA.2.2.1 _ (by omega)] at hq
    cases hq
  obtain ⟨_, _, _, hE27, _⟩ := hJE
  rw [hr.1]
  have hB : ∀ hs' hz' : Int32, (hs' ≠ 0 → hsh xs 0 = some hs') → (hz' ≠ 0 → hz' = 1 ∧ hsh xs 0 = some 0) → lAb (lJd E G) G (lUpd M.1 (adr y.1 a) (true, false, 0, [.ref e, .int 0, .int hs', .int hz']), M.2.1, M.2.2) (cp y s A0) := by
    intro hs' hz' k1 k2
    have u1 := (Jw.rf (a := adr y.1 a) hA).upd (w' := true) (fs' := [.ref e, .int 0, .int hs', .int hz']) g1 (fun _ => q1)
    have u2 := Jw.fin (k := cr (adr y.1 a)) (n := (cp y s A0).2.1) (m := (cp y s A0).2.2) (w := true) (kd := 1000) (f := xs) hA u1 h1 (Or.inl rfl) (by omega) ?_ (fun z => by omega) (Or.inl (by show M.2.1 + _ ≤ _ + M.2.1; omega)) (by show M.2.2 + _ + _ ≤ _; omega)
    · rw [lUpd_self h1] at u2
      exact u2
    · refine Or.inr (Or.inr (Or.inr (Or.inr (Or.inr (Or.inr ⟨rfl, true, e, hs', hz', ?_, ⟨we, ?_⟩, g3, g4, g5, k1, k2, fun _ => rfl⟩)))))
      · rw [hp_old q1 (hlt _ _ g1)]
        exact lUpd_eq ..
      · rcases g2' with g2' | g2'
        · obtain ⟨o1, o2⟩ := hp_some g2'
          refine Or.inl ?_
          rw [hp_old o1 (hlt _ _ o2)]
          exact (lUpd_ne _ _ g3).trans o2
        · exact Or.inr g2'
  by_cases z1 : hs = 0
  case neg =>
    have := g6 z1
    rw [hx] at this
    cases this
    refine ⟨(.inl (some (.int _)), M), _, ?_, ⟨own, cr, hA⟩, trivial, rfl, rfl⟩
    refine lGo.sp (D := 402) pg_243 (Nat.le_of_ble_eq_true rfl) ?_
    repeat (refine lGo.step rfl (fun _ => rfl) ?_; try dsimp only)
    refine lGo.get rfl g1 rfl rfl ?_
    repeat (refine lGo.step rfl (fun _ => rfl) ?_; try dsimp only)
    refine lGo.brT (decide_eq_true z1) ?_
    repeat (refine lGo.step rfl (fun _ => rfl) ?_; try dsimp only)
    exact lGo.done rfl (fun _ => rfl)
  subst z1
  by_cases z2 : hz = 0
  case neg =>
    have := (g7 z2).2
    rw [hx] at this
    cases this
    refine ⟨(.inl (some (.int _)), M), _, ?_, ⟨own, cr, hA⟩, trivial, rfl, rfl⟩
    refine lGo.sp (D := 402) pg_243 (Nat.le_of_ble_eq_true rfl) ?_
    repeat (refine lGo.step rfl (fun _ => rfl) ?_; try dsimp only)
    refine lGo.get rfl g1 rfl rfl ?_
    repeat (refine lGo.step rfl (fun _ => rfl) ?_; try dsimp only)
    refine lGo.get rfl g1 rfl rfl ?_
    refine lGo.step rfl (fun _ => rfl) ?_
    refine lGo.brT (decide_eq_true z2) ?_
    repeat (refine lGo.step rfl (fun _ => rfl) ?_; try dsimp only)
    exact lGo.done rfl (fun _ => rfl)
  subst z2
  by_cases z : x = 0
  · subst z
    refine ⟨(.inl (some (.int _)), _), _, ?_, hB 0 1 (fun z => absurd rfl z) (fun _ => ⟨rfl, hx⟩), trivial, rfl, rfl⟩
    refine lGo.sp (D := 402) pg_243 (Nat.le_of_ble_eq_true rfl) ?_
    repeat (refine lGo.step rfl (fun _ => rfl) ?_; try dsimp only)
    refine lGo.get rfl g1 rfl rfl ?_
    repeat (refine lGo.step rfl (fun _ => rfl) ?_; try dsimp only)
    refine lGo.get rfl g1 rfl rfl ?_
    repeat (refine lGo.step rfl (fun _ => rfl) ?_; try dsimp only)
    refine lGo.callV rfl rfl g1 rfl ⟨Nat.le_of_ble_eq_true rfl, Nat.le_of_ble_eq_true rfl⟩ ((sp_228 hE27 g1).mono (by decide)) ?_
    repeat (refine lGo.step rfl (fun _ => rfl) ?_; try dsimp only)
    refine lGo.get rfl g1 rfl rfl ?_
    refine lGo.call (n := 1) rfl ⟨Nat.le_of_ble_eq_true rfl, Nat.le_of_ble_eq_true rfl⟩ ((sp_135 g2 (Nat.lt_of_le_of_lt g4 (by decide)) g5 hx).mono (by decide)) ?_
    repeat (refine lGo.step rfl (fun _ => rfl) ?_; try dsimp only)
    refine lGo.put rfl g1 rfl (Nat.le_of_ble_eq_true rfl) rfl ?_
    repeat (refine lGo.step rfl (fun _ => rfl) ?_; try dsimp only)
    exact lGo.done rfl (fun _ => rfl)
  · refine ⟨(.inl (some (.int _)), _), _, ?_, hB x 0 (fun _ => hx) (fun z => absurd rfl z), trivial, rfl, rfl⟩
    refine lGo.sp (D := 402) pg_243 (Nat.le_of_ble_eq_true rfl) ?_
    repeat (refine lGo.step rfl (fun _ => rfl) ?_; try dsimp only)
    refine lGo.get rfl g1 rfl rfl ?_
    repeat (refine lGo.step rfl (fun _ => rfl) ?_; try dsimp only)
    refine lGo.get rfl g1 rfl rfl ?_
    repeat (refine lGo.step rfl (fun _ => rfl) ?_; try dsimp only)
    refine lGo.callV rfl rfl g1 rfl ⟨Nat.le_of_ble_eq_true rfl, Nat.le_of_ble_eq_true rfl⟩ ((sp_228 hE27 g1).mono (by decide)) ?_
    repeat (refine lGo.step rfl (fun _ => rfl) ?_; try dsimp only)
    refine lGo.get rfl g1 rfl rfl ?_
    refine lGo.call (n := 1) rfl ⟨Nat.le_of_ble_eq_true rfl, Nat.le_of_ble_eq_true rfl⟩ ((sp_135 g2 (Nat.lt_of_le_of_lt g4 (by decide)) g5 hx).mono (by decide)) ?_
    repeat (refine lGo.step rfl (fun _ => rfl) ?_; try dsimp only)
    refine lGo.brT (decide_eq_true z) ?_
    repeat (refine lGo.step rfl (fun _ => rfl) ?_; try dsimp only)
    refine lGo.put rfl g1 rfl (Nat.le_of_ble_eq_true rfl) rfl ?_
    repeat (refine lGo.step rfl (fun _ => rfl) ?_; try dsimp only)
    exact lGo.done rfl (fun _ => rfl)
end
