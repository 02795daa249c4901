/-! the library: String.indexOf -/
section
variable {E : lE} {G : lHeap} {M : lMem}
theorem idx_cg {c d : Int32} : ∀ {xs : List Value} (_ : ∀ v ∈ xs, v = .int c ↔ v = .int d) (k : Nat), idx xs c k = idx xs d k := by
  intro xs
  induction xs with
  | nil => intro _ k; rfl
  | cons v r ih =>
    intro h k
    unfold idx
    rw [ih (fun v hv => h v (List.mem_cons_of_mem _ hv))]
    by_cases z : v = .int c
    · rw [if_pos z, if_pos ((h v List.mem_cons_self).mp z)]
    · rw [if_neg z, if_neg (fun w => z ((h v List.mem_cons_self).mpr w))]
theorem idx_no {c : Int32} : ∀ {xs : List Value} (_ : ∀ v ∈ xs, v ≠ .int c) (k : Nat), idx xs c k = -1 := by
  intro xs
  induction xs with
  | nil => intro _ k; rfl
  | cons v r ih =>
    intro h k
    unfold idx
    rw [if_neg (h v List.mem_cons_self)]
    exact ih (fun v hv => h v (List.mem_cons_of_mem _ hv)) _
/-- the search -/
theorem ix_lp {e : Nat} {we : Bool} {xs : List Value} {c8 : Int32} (ge : M.1 e = some (we, true, 2, xs)) (hx : xs.length < 2147483648) (hj : jchr xs) : ∀ (k i : Nat), i + k = xs.length → ∀ lv, lGet lv 0 = some (.ref e) → lGet lv 3 = some (.int (Int32.ofNat xs.length)) → lGet lv 4 = some (.int c8) → lGet lv 5 = some (.int (Int32.ofNat i)) → ∀ D, lGo E prog D cd_121 5 (lv, [], M) (.inl (some (.int (idx (xs.drop i) c8 i))), M) := by
  intro k
  induction k with
  | zero =>
    intro i hi lv l0 l3 l4 l5 D
    refine lGo.loadI rfl l5 ?_
    refine lGo.loadI rfl l3 ?_
    refine lGo.step rfl (fun _ => rfl) ?_
    refine lGo.brT (decide_eq_true ?_) ?_
    · rw [show i = xs.length by omega]; exact Int32.le_refl _
    repeat (refine lGo.step rfl (fun _ => rfl) ?_; try dsimp only)
    rw [List.drop_eq_nil_of_le (by omega)]
    exact lGo.done rfl (fun _ => rfl)
  | succ k ih =>
    intro i hi lv l0 l3 l4 l5 D
    refine lGo.loadI rfl l5 ?_
    refine lGo.loadI rfl l3 ?_
    refine lGo.step rfl (fun _ => rfl) ?_
    refine lGo.brF (decide_eq_false ?_) ?_
    · intro z
      have := (i_le (by omega) (by omega)).mp z
      omega
    refine lGo.loadA rfl l0 ?_
    refine lGo.loadI rfl l5 ?_
    have hlt : i < xs.length := by omega
    obtain ⟨c, hc1, hc2⟩ := hj _ (List.getElem_mem hlt)
    refine lGo.ald rfl ge rfl (i_nlt0 (by omega)) (by rw [clampN (by omega)]; exact List.getElem?_eq_getElem hlt) ?_
    rw [hc2]
    refine lGo.loadI rfl l4 ?_
    refine lGo.step rfl (fun _ => rfl) ?_
    have hd : xs.drop i = .int (Int32.ofNat c) :: xs.drop (i + 1) := by rw [List.drop_eq_getElem_cons hlt, hc2]
    rw [hd]
    unfold idx
    by_cases z : Int32.ofNat c = c8
    · rw [if_pos (by rw [z])]
      refine lGo.brF (decide_eq_false (fun w => w z)) ?_
      refine lGo.loadI rfl l5 ?_
      exact lGo.done rfl (fun _ => rfl)
    · rw [if_neg (fun w => z (Value.int.inj w))]
      refine lGo.brT (decide_eq_true z) ?_
      refine lGo.inc rfl l5 ?_
      refine lGo.step rfl (fun _ => rfl) ?_
      exact ih (i + 1) (by omega) _ (lGet_sn l0 (by decide) (Or.inl (by decide))) (lGet_sn l3 (by decide) (Or.inl (by decide))) (lGet_sn l4 (by decide) (Or.inr rfl)) (by rw [← i_suc]; exact lGet_s1) D
theorem sp_121 {e : Nat} {we : Bool} {xs : List Value} {c : Int32} (ge : M.1 e = some (we, true, 2, xs)) (hx : xs.length < 2147483648) (hj : jchr xs) : lSp E prog 1 121 [.ref e, .int c, .int 0, .int (Int32.ofNat xs.length)] M (.inl (some (.int (idx xs c.toInt8.toInt32 0))), M) := by
  refine lGo.sp (D := 0) pg_121 (Nat.le_of_ble_eq_true rfl) ?_
  refine lGo.step rfl (fun _ => rfl) ?_
  refine lGo.step rfl (fun _ => rfl) ?_
  refine lGo.step rfl (fun _ => rfl) ?_
  refine lGo.step rfl (fun _ => rfl) ?_
  refine lGo.step rfl (fun _ => rfl) ?_
  have := ix_lp (E := E) (c8 := c.toInt8.toInt32) ge hx hj xs.length 0 (by omega)
  rw [List.drop_zero] at this
  refine this _ ?_ ?_ ?_ ?_ 0
  all_goals rfl
theorem sp_120 {c : Int32} : lSp E prog 1 120 [.int c] M (.inl (some (.int (if c < 0 ∨ 255 < c then 0 else 1))), M) := by
  refine lGo.sp (D := 0) pg_120 (Nat.le_of_ble_eq_true rfl) ?_
  repeat (refine lGo.step rfl (fun _ => rfl) ?_; try dsimp only)
  by_cases h : c < 0
  · rw [if_pos (Or.inl h)]
    refine lGo.brT (decide_eq_true h) ?_
    repeat (refine lGo.step rfl (fun _ => rfl) ?_; try dsimp only)
    exact lGo.done rfl (fun _ => rfl)
  refine lGo.brF (decide_eq_false h) ?_
  repeat (refine lGo.step rfl (fun _ => rfl) ?_; try dsimp only)
  by_cases h2 : 255 < c
  · rw [if_pos (Or.inr h2)]
    refine lGo.brT (decide_eq_true h2) ?_
    repeat (refine lGo.step rfl (fun _ => rfl) ?_; try dsimp only)
    exact lGo.done rfl (fun _ => rfl)
  · rw [if_neg (fun z => z.elim h h2)]
    refine lGo.brF (decide_eq_false h2) ?_
    repeat (refine lGo.step rfl (fun _ => rfl) ?_; try dsimp only)
    exact lGo.done rfl (fun _ => rfl)
theorem c8_ok : ∀ b : Fin 256, ∀ c : Fin 128, (Int32.ofNat c.val = (Int32.ofNat b.val).toInt8.toInt32 ↔ Int32.ofNat c.val = Int32.ofNat b.val) := by decide +kernel
theorem sp_119 {e : Nat} {we : Bool} {xs : List Value} {c : Int32} (ge : M.1 e = some (we, true, 2, xs)) (hx : xs.length < 2147483648) (hj : jchr xs) : lSp E prog 4 119 [.ref e, .int c, .int 0, .int (Int32.ofNat xs.length)] M (.inl (some (.int (idx xs c 0))), M) := by
  refine lGo.sp (D := 3) pg_119 (Nat.le_of_ble_eq_true rfl) ?_
  repeat (refine lGo.step rfl (fun _ => rfl) ?_; try dsimp only)
  refine lGo.call (n := 1) rfl ⟨Nat.le_of_ble_eq_true rfl, Nat.le_of_ble_eq_true rfl⟩ ((sp_120 (c := c)).mono (by decide)) ?_
  refine lGo.step rfl (fun _ => rfl) ?_
  by_cases h : c < 0 ∨ 255 < c
  · rw [if_pos h]
    refine lGo.brF (by rfl) ?_
    repeat (refine lGo.step rfl (fun _ => rfl) ?_; try dsimp only)
    rw [idx_no (fun v hv z => ?_)]
    · exact lGo.done rfl (fun _ => rfl)
    · obtain ⟨b, hb, e⟩ := hj v hv
      rw [z] at e
      have e := Value.int.inj e
      subst e
      rcases h with h | h
      · exact i_nlt0 (by omega) h
      · have := (i_lt (j := 255) (k := b) (by omega) (by omega)).mp h
        omega
  rw [if_neg h]
  refine lGo.brT (by rfl) ?_
  repeat (refine lGo.step rfl (fun _ => rfl) ?_; try dsimp only)
  refine lGo.call (n := 2) rfl ⟨Nat.le_of_ble_eq_true rfl, Nat.le_of_ble_eq_true rfl⟩ ((sp_47n (x := 0) (y := 0) (by omega) (by omega)).mono (by decide)) ?_
  repeat (refine lGo.step rfl (fun _ => rfl) ?_; try dsimp only)
  refine lGo.len rfl ge ?_
  refine lGo.call (n := 2) rfl ⟨Nat.le_of_ble_eq_true rfl, Nat.le_of_ble_eq_true rfl⟩ ((sp_48n (x := xs.length) (y := xs.length) (by omega) (by omega)).mono (by decide)) ?_
  rw [Nat.min_self]
  repeat (refine lGo.step rfl (fun _ => rfl) ?_; try dsimp only)
  by_cases z : xs.length = 0
  · refine lGo.brF (decide_eq_false ?_) ?_
    · rw [z]; decide
    repeat (refine lGo.step rfl (fun _ => rfl) ?_; try dsimp only)
    have : xs = [] := List.eq_nil_of_length_eq_zero z
    subst this
    exact lGo.done rfl (fun _ => rfl)
  refine lGo.brT (decide_eq_true ((i_lt (j := 0) (by omega) (by omega)).mpr (by omega))) ?_
  repeat (refine lGo.step rfl (fun _ => rfl) ?_; try dsimp only)
  refine lGo.call (n := 4) rfl ⟨Nat.le_of_ble_eq_true rfl, Nat.le_of_ble_eq_true rfl⟩ ((sp_121 ge hx hj).mono (by decide)) ?_
  have e : idx xs c.toInt8.toInt32 0 = idx xs c 0 := by
    obtain ⟨b, hb, rfl⟩ := i_of (fun w => h (Or.inl w))
    have hb2 : b < 256 := by
      apply Classical.byContradiction
      intro w
      exact h (Or.inr ((i_lt (j := 255) (k := b) (by omega) (by omega)).mpr (by omega)))
    refine idx_cg (fun v hv => ?_) 0
    obtain ⟨c, hc, rfl⟩ := hj v hv
    have := c8_ok ⟨b, hb2⟩ ⟨c, hc⟩
    dsimp only at this
    rw [Value.int.injEq, Value.int.injEq]
    exact this
  rw [e]
  exact lGo.done rfl (fun _ => rfl)
theorem jp226 (hJE : jE E G) : JP_226 (lAb (lJd E G) G) E := by
  intro y s A0 a w c x hW hr hx M hM
  obtain ⟨own, cr, hA⟩ := hM
  obtain ⟨xs, hc, hx⟩ := bindC hx
  cases hx
  obtain ⟨w0, hc⟩ := stC_some hc
  obtain ⟨w', e, hs, hz, we, g1, g2, g3, g4, _⟩ := jp_W hW hA hc
  obtain ⟨_, _, _, hE27, _⟩ := hJE
  rw [hr.1]
  refine ⟨(.inl (some (.int _)), M), _, ?_, ⟨own, cr, hA⟩, trivial, rfl, rfl⟩
  refine lGo.sp (D := 6) pg_226 (Nat.le_of_ble_eq_true rfl) ?_
  repeat (refine lGo.step rfl (fun _ => rfl) ?_; try dsimp only)
  refine lGo.callV rfl rfl g1 rfl ⟨Nat.le_of_ble_eq_true rfl, Nat.le_of_ble_eq_true rfl⟩ (M' := M) (v := some (.int (idx xs c 0))) ?_ ?_
  · refine lGo.sp (D := 5) pg_227 (Nat.le_of_ble_eq_true rfl) ?_
    repeat (refine lGo.step rfl (fun _ => rfl) ?_; try dsimp only)
    refine lGo.callV rfl rfl g1 rfl ⟨Nat.le_of_ble_eq_true rfl, Nat.le_of_ble_eq_true rfl⟩ ((sp_228 hE27 g1).mono (by decide)) ?_
    refine lGo.step rfl (fun _ => rfl) ?_
    refine lGo.brF (by rfl) ?_
    repeat (refine lGo.step rfl (fun _ => rfl) ?_; try dsimp only)
    refine lGo.get rfl g1 rfl rfl ?_
    repeat (refine lGo.step rfl (fun _ => rfl) ?_; try dsimp only)
    refine lGo.callV rfl rfl g1 rfl ⟨Nat.le_of_ble_eq_true rfl, Nat.le_of_ble_eq_true rfl⟩ ((sp_229 hE27 g1 g2 (by omega)).mono (by decide)) ?_
    refine lGo.call (n := 4) rfl ⟨Nat.le_of_ble_eq_true rfl, Nat.le_of_ble_eq_true rfl⟩ ((sp_119 g2 (by omega) g4).mono (by decide)) ?_
    repeat (refine lGo.step rfl (fun _ => rfl) ?_; try dsimp only)
    exact lGo.done rfl (fun _ => rfl)
  · exact lGo.done rfl (fun _ => rfl)
end
