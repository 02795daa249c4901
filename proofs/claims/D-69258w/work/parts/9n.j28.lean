/-! the library: new texts -/
section
variable {E : lE} {G : lHeap}
/-- a memory with new cells -/
def Jn (M M' : lMem) : Prop := M.2.1 ≤ M'.2.1 ∧ (∀ q, M'.2.1 ≤ q → M'.1 q = none) ∧ (∀ q c, M'.1 q = some c → rk6 c) ∧ lKs M M' ∧ ∀ q, q < M.2.1 → M'.1 q = M.1 q
theorem Jn.rf {J : lJ} {own cr : Nat → Nat} {M A : lMem} (h : lAbo J G own cr M A) : Jn M M := ⟨Nat.le_refl _, h.2.2.1, h.2.2.2.1, lKs.rf M, fun _ _ => rfl⟩
theorem Jn.upd {M M' : lMem} (h : Jn M M') {q ci : Nat} {w w' b : Bool} {fs fs' : List Value} (e : M'.1 q = some (w, b, ci, fs)) (ho : M.2.1 ≤ q) (m : Nat) : Jn M (lUpd M'.1 q (w', b, ci, fs'), M'.2.1, m) := by
  obtain ⟨h1, h2, h3, h4, h5⟩ := h
  refine ⟨h1, fun p hp => ?_, fun p c hc => ?_, h4.upd e, fun p hp => ?_⟩
  · have z : p ≠ q := fun z => by
      have := h2 p hp
      rw [z, e] at this
      cases this
    exact (lUpd_ne _ _ z).trans (h2 p hp)
  · by_cases z : p = q
    · subst z
      have hc : lUpd M'.1 p _ p = some c := hc
      rw [lUpd_eq] at hc
      cases hc
      exact h3 p (w, b, ci, fs) e
    · have hc : lUpd M'.1 q _ p = some c := hc
      rw [lUpd_ne _ _ z] at hc
      exact h3 p c hc
  · exact (lUpd_ne _ _ (by omega)).trans (h5 p hp)
theorem Jn.new {M M' : lMem} (h : Jn M M') {c : lCell} (hk : rk6 c) (m : Nat) : Jn M (lUpd M'.1 M'.2.1 c, M'.2.1 + 1, m) := by
  obtain ⟨h1, h2, h3, h4, h5⟩ := h
  refine ⟨Nat.le_succ_of_le h1, fun p hp => ?_, fun p c' hc => ?_, h4.new (h2 _ (Nat.le_refl _)), fun p hp => ?_⟩
  · have hp : M'.2.1 + 1 ≤ p := hp
    exact (lUpd_ne _ _ (by omega)).trans (h2 p (by omega))
  · by_cases z : p = M'.2.1
    · subst z
      have hc : lUpd M'.1 M'.2.1 _ M'.2.1 = some c' := hc
      rw [lUpd_eq] at hc
      cases hc
      exact hk
    · have hc : lUpd M'.1 M'.2.1 _ p = some c' := hc
      rw [lUpd_ne _ _ z] at hc
      exact h3 p c' hc
  · exact (lUpd_ne _ _ (by omega)).trans (h5 p hp)
/-- the end of a call that makes one object -/
theorem jp_mk {y : lY} {s : CS} {A0 M M' : lMem} {J : lJ} {own cr : Nat → Nat} {q D mi k n m kc : Nat} {args fs f : List Value} (hW : cW E y s A0) (hA : lAbo J G own cr M (cp y s A0)) (hk : 1000 ≤ k) (hf : relC y.1 A0 q k fs f) (hv : ∀ q, .ref q ∈ fs → q < s.2.1) (hsp : lSp E prog D mi args M (.inl (some (.ref q)), M')) (hw : Jn M M') (hq : M.2.1 ≤ q) (hq2 : q < M'.2.1) (hJ : J k f q (lHp (ownN own M.2.1 q) M' q) kc) (hE : k = 1013 ∨ k = 1004 ∨ k = 1037 → okVs M' f) (hz1 : M'.2.1 ≤ n + M.2.1) (hz2 : M'.2.2 + kc ≤ m + M.2.2) :
    ∃ (fin : lF) (A' : lMem), lSp E prog D mi args M fin ∧ lAb J G fin.2 A' ∧ lXk A' fin.1 ∧ oE E y s A0 (.ref s.2.1) (lUpd s.1 s.2.1 (true, false, k, fs), s.2.1 + 1, s.2.2.1 + n, s.2.2.2 + m) fin.1 A' := by
  have hn : (cp y s A0).1 q = none := by
    cases e : (cp y s A0).1 q with
    | none => rfl
    | some c =>
      have := (hA.2.2.2.2.2 q c e).2.1
      omega
  obtain ⟨k1, k2, k3, k4⟩ := hW.new (x := (true, false, k, fs)) (n := q) (k := s.2.2.1 + n) (m := s.2.2.2 + m) (f := f) hn hv (fun _ => hf)
  obtain ⟨h1, h2, h3, h4, h5⟩ := hw
  refine ⟨_, _, hsp, ?_, trivial, some q, rfl, _, _, k1, k3 (Nat.le_add_right _ _), k4, rfl⟩
  rw [k2]
  dsimp only
  rw [if_pos hk]
  have hz : (cp y s A0).2.1 = s.2.2.1 := rfl
  have hz' : (cp y s A0).2.2 = s.2.2.2 := rfl
  have hG : G q = none := by
    cases e : G q with
    | none => rfl
    | some c =>
      have := (hA.2.2.2.2.1 q c e).1
      rw [hA.2.2.1 q hq] at this
      cases this
  have hA1 := hA.1
  refine ⟨_, _, hA.mk (k := kc) h4 h1 h2 h3 h5 hq ⟨ownN_ge hq, hq2, fun _ => hG, fun z => ?_, fun _ => ⟨rfl, ?_⟩, hE⟩ (by show M'.2.1 ≤ s.2.2.1 + n; omega) (by show M'.2.2 + kc + s.2.2.2 ≤ s.2.2.2 + m + M.2.2; omega)⟩
  · dsimp only at z
    omega
  · rw [crdN_a]
    exact hJ
/-- the memory with a new text -/
def mT (M : lMem) (xs : List Value) : lMem := (lUpd (lUpd (lUpd M.1 M.2.1 (true, false, 0, [.null, .int 0, .int 0, .int 0])) (M.2.1 + 1) (true, true, 2, xs)) M.2.1 (true, false, 0, [.ref (M.2.1 + 1), .int 0, .int 0, .int 0]), M.2.1 + 2, M.2.2 + 4 + xs.length)
theorem jp_newT {y : lY} {s : CS} {A0 M : lMem} {D mi : Nat} {args xs : List Value} (hW : cW E y s A0) (hM : lAb (lJd E G) G M (cp y s A0)) (hj : jchr xs) (hl : xs.length ≤ 200000) (hsp : lSp E prog D mi args M (.inl (some (.ref M.2.1)), mT M xs)) :
    ∃ (fin : lF) (A' : lMem), lSp E prog D mi args M fin ∧ lAb (lJd E G) G fin.2 A' ∧ lXk A' fin.1 ∧ oE E y s A0 (.ref (nwS s xs).1) (nwS s xs).2 fin.1 A' := by
  obtain ⟨own, cr, hA⟩ := hM
  have ne : M.2.1 ≠ M.2.1 + 1 := by omega
  have h1 := (Jn.rf hA).new (c := (true, false, 0, [.null, .int 0, .int 0, .int 0])) ⟨(show 0 < 1000 by decide), fun _ => rfl⟩ (M.2.2 + 4)
  have h2 := h1.new (c := (true, true, 2, xs)) ⟨(show 2 < 1000 by decide), fun w => by cases w⟩ (M.2.2 + 4 + xs.length)
  have h3 := h2.upd (w' := true) (fs' := [.ref (M.2.1 + 1), .int 0, .int 0, .int 0]) ((lUpd_ne _ _ ne).trans (lUpd_eq ..)) (Nat.le_refl _) (M.2.2 + 4 + xs.length)
  refine jp_mk (M' := mT M xs) (q := M.2.1) (k := 1000) (n := 2) (m := xs.length + 4) (kc := 0) (fs := xs) (f := xs) hW hA (by decide) (relC_W' (Or.inl rfl)) (fun q hq => jchr_nr hj hq) hsp h3 (Nat.le_refl _) (by show M.2.1 < M.2.1 + 2; omega) ?_ (fun z => by omega) (by show M.2.1 + 2 ≤ _; omega) (by show M.2.2 + 4 + xs.length + 0 ≤ _; omega)
  refine Or.inr (Or.inr (Or.inr (Or.inr (Or.inr (Or.inr ⟨rfl, true, M.2.1 + 1, 0, 0, ?_, ⟨true, Or.inl ?_⟩, ne.symm, hl, hj, fun z => absurd rfl z, fun z => absurd rfl z, fun _ => rfl⟩)))))
  · rw [hp_new (Nat.le_refl _)]
    exact lUpd_eq ..
  · rw [hp_new (Nat.le_succ _)]
    exact (lUpd_ne _ _ ne.symm).trans (lUpd_eq ..)
/-- Arrays.copyOfRange of bytes -/
theorem sp_58 {M : lMem} {e i j : Nat} {w : Bool} {xs : List Value} (he : M.1 e = some (w, true, 2, xs)) (hf : M.1 M.2.1 = none) (hv : jchr xs) (hij : i ≤ j) (hj : j ≤ xs.length) (hx : xs.length ≤ 1000000) : lSp E prog 4 58 [.ref e, .int (Int32.ofNat i), .int (Int32.ofNat j)] M (.inl (some (.ref M.2.1)), (lUpd M.1 M.2.1 (true, true, 2, (xs.drop i).take (j - i)), M.2.1 + 1, M.2.2 + (j - i))) := by
  have g60 : lSp E prog 1 60 [.int (Int32.ofNat i), .int (Int32.ofNat j)] M (.inl none, M) := by
    refine lGo.sp (D := 0) pg_60 (Nat.le_of_ble_eq_true rfl) ?_
    repeat (refine lGo.step rfl (fun _ => rfl) ?_; try dsimp only)
    refine lGo.brT (decide_eq_true ((i_le (by omega) (by omega)).mpr hij)) ?_
    exact lGo.done rfl (fun _ => rfl)
  have he' : lUpd M.1 M.2.1 (true, true, 2, List.replicate (j - i) (.int 0)) e = some (w, true, 2, xs) := (lUpd_ne _ _ (fun z => by rw [z, hf] at he; cases he)).trans he
  have e2 : (List.replicate (j - i) (Value.int 0)).take 0 ++ (xs.drop i).take (j - i) ++ (List.replicate (j - i) (Value.int 0)).drop (0 + (j - i)) = (xs.drop i).take (j - i) := by
    rw [List.take_zero, List.nil_append, List.drop_replicate, show j - i - (0 + (j - i)) = 0 by omega]
    simp
  have s59 : lSp E prog 3 59 [.ref e, .int (Int32.ofNat i), .int (Int32.ofNat j)] M (.inl (some (.ref M.2.1)), (lUpd M.1 M.2.1 (true, true, 2, (xs.drop i).take (j - i)), M.2.1 + 1, M.2.2 + (j - i))) := by
    refine lGo.sp (D := 2) pg_59 (Nat.le_of_ble_eq_true rfl) ?_
    repeat (refine lGo.step rfl (fun _ => rfl) ?_; try dsimp only)
    refine lGo.call (n := 2) rfl ⟨Nat.le_of_ble_eq_true rfl, Nat.le_of_ble_eq_true rfl⟩ (g60.mono (by decide)) ?_
    refine lGo.step rfl (fun _ => rfl) ?_; dsimp only
    refine lGo.step rfl (fun _ => rfl) ?_; dsimp only
    refine lGo.step rfl (fun _ => rfl) ?_; dsimp only
    rw [show Int32.ofNat j - Int32.ofNat i = Int32.ofNat (j - i) from i_sub hij]
    refine lGo.step rfl (fun _ => rfl) ?_; dsimp only
    refine lGo.step rfl (fun _ => rfl) ?_; dsimp only
    refine lGo.newa rfl (i_nlt0 (by omega)) (by rw [clampN (by omega)]; omega) ?_
    rw [clampN (by omega)]
    repeat (refine lGo.step rfl (fun _ => rfl) ?_; try dsimp only)
    refine lGo.len rfl he' ?_
    repeat (refine lGo.step rfl (fun _ => rfl) ?_; try dsimp only)
    rw [i_32, show Int32.ofNat xs.length - Int32.ofNat i = Int32.ofNat (xs.length - i) from i_sub (by omega)]
    refine lGo.call (n := 2) rfl ⟨Nat.le_of_ble_eq_true rfl, Nat.le_of_ble_eq_true rfl⟩ ((sp_48n (x := xs.length - i) (y := j - i) (by omega) (by omega)).mono (by decide)) ?_
    rw [Nat.min_eq_right (by omega)]
    refine lGo.copyB (sp := i) (dp := 0) (n := j - i) rfl he' (lUpd_eq ..) (by omega) (by rw [List.length_replicate]; omega) (by omega) (by rw [List.length_replicate]; omega) (cat8 (Nat.le_of_ble_eq_true rfl)) hv ?_
    rw [e2, lUpdU]
    repeat (refine lGo.step rfl (fun _ => rfl) ?_; try dsimp only)
    exact lGo.done rfl (fun _ => rfl)
  refine lGo.sp (D := 3) pg_58 (Nat.le_of_ble_eq_true rfl) ?_
  repeat (refine lGo.step rfl (fun _ => rfl) ?_; try dsimp only)
  by_cases z : i = 0
  · subst z
    refine lGo.brF (by decide) ?_
    repeat (refine lGo.step rfl (fun _ => rfl) ?_; try dsimp only)
    refine lGo.len rfl he ?_
    refine lGo.step rfl (fun _ => rfl) ?_
    by_cases z2 : j = xs.length
    · subst z2
      refine lGo.brT (decide_eq_true rfl) ?_
      repeat (refine lGo.step rfl (fun _ => rfl) ?_; try dsimp only)
      refine lGo.cloneB rfl he hv (cat8 (Nat.le_of_ble_eq_true rfl)) ?_
      refine lGo.castA rfl (lUpd_eq ..) rfl ?_
      rw [Nat.sub_zero, List.drop_zero, List.take_length]
      exact lGo.done rfl (fun _ => rfl)
    · refine lGo.brF (decide_eq_false (fun w => z2 ((i_inj (by omega) (by omega)).mp w))) ?_
      repeat (refine lGo.step rfl (fun _ => rfl) ?_; try dsimp only)
      refine lGo.call (n := 3) rfl ⟨Nat.le_of_ble_eq_true rfl, Nat.le_of_ble_eq_true rfl⟩ s59 ?_
      exact lGo.done rfl (fun _ => rfl)
  · refine lGo.brT (decide_eq_true (fun w => z ((i_inj (j := i) (k := 0) (by omega) (by omega)).mp w))) ?_
    repeat (refine lGo.step rfl (fun _ => rfl) ?_; try dsimp only)
    refine lGo.call (n := 3) rfl ⟨Nat.le_of_ble_eq_true rfl, Nat.le_of_ble_eq_true rfl⟩ s59 ?_
    exact lGo.done rfl (fun _ => rfl)
theorem jp201 (hJE : jE E G) : JP_201 (lAb (lJd E G) G) E := by
  intro y s A0 a w x hW hr hx M hM
  obtain ⟨own, cr, hA⟩ := id hM
  obtain ⟨_, _, _, hE27, _⟩ := hJE
  obtain ⟨xs, hc, hx1⟩ := bindC hx
  cases hx1
  have hc := cc_some hc
  obtain ⟨e, z, rest, S, hl2, hk⟩ := jp_S hW hA hc
  obtain ⟨hJw, _, hla, g, gea, _, ge, hj, hl16, hl3⟩ := S
  have hlx : (xs ++ rest).length = xs.length + rest.length := List.length_append
  have hjx : jchr xs := fun v hv => hj v (List.mem_append_left _ hv)
  rw [hr.1]
  refine jp_newT hW hM hjx (by omega) ?_
  have hf : ∀ q, M.2.1 ≤ q → M.1 q = none := hJw.2.1
  have o1 : ∀ q c, M.1 q = some c → q < M.2.1 := fun q c h => by
    apply Classical.byContradiction
    intro w
    rw [hf q (by omega)] at h
    cases h
  have u1 : ∀ {c : lCell} {q : Nat} {d : lCell}, M.1 q = some d → lUpd M.1 M.2.1 c q = some d := fun h => (lUpd_ne _ _ (by have := o1 _ _ h; omega)).trans h
  have ne : M.2.1 ≠ M.2.1 + 1 := by omega
  have f1 : ∀ {c : lCell}, lUpd M.1 M.2.1 c (M.2.1 + 1) = none := (lUpd_ne _ _ ne.symm).trans (hf _ (Nat.le_succ _))
  have s58 := sp_58 (E := E) (i := 0) (j := xs.length) (M := (lUpd M.1 M.2.1 (true, false, 0, [.null, .int 0, .int 0, .int 0]), M.2.1 + 1, M.2.2 + 4)) (u1 ge) f1 hj (Nat.zero_le _) (by omega) (by omega)
  rw [List.drop_zero, Nat.sub_zero, List.take_left' rfl] at s58
  refine lGo.sp (D := 400) pg_201 (Nat.le_of_ble_eq_true rfl) ?_
  repeat (refine lGo.step rfl (fun _ => rfl) ?_; try dsimp only)
  refine lGo.callV rfl rfl (lUpd_eq ..) rfl ⟨Nat.le_of_ble_eq_true rfl, Nat.le_of_ble_eq_true rfl⟩ (M' := mT M xs) (v := none) ?_ ?_
  rotate_left
  · exact lGo.done rfl (fun _ => rfl)
  refine lGo.sp (D := 399) pg_234 (Nat.le_of_ble_eq_true rfl) ?_
  repeat (refine lGo.step rfl (fun _ => rfl) ?_; try dsimp only)
  refine lGo.callV rfl rfl (lUpd_eq ..) rfl ⟨Nat.le_of_ble_eq_true rfl, Nat.le_of_ble_eq_true rfl⟩ (M' := mT M xs) (v := none) ?_ ?_
  rotate_left
  · exact lGo.done rfl (fun _ => rfl)
  refine lGo.sp (D := 398) pg_235 (Nat.le_of_ble_eq_true rfl) ?_
  repeat (refine lGo.step rfl (fun _ => rfl) ?_; try dsimp only)
  refine lGo.callV rfl rfl (u1 g) rfl ⟨Nat.le_of_ble_eq_true rfl, Nat.le_of_ble_eq_true rfl⟩ (M' := (lUpd M.1 M.2.1 (true, false, 0, [.null, .int 0, .int 0, .int 0]), M.2.1 + 1, M.2.2 + 4)) (v := some (.ref e)) ?_ ?_
  · refine lGo.sp (D := 397) pg_165 (Nat.le_of_ble_eq_true rfl) ?_
    repeat (refine lGo.step rfl (fun _ => rfl) ?_; try dsimp only)
    refine lGo.get rfl (u1 g) rfl rfl ?_
    exact lGo.done rfl (fun _ => rfl)
  repeat (refine lGo.step rfl (fun _ => rfl) ?_; try dsimp only)
  refine lGo.callV rfl rfl (u1 g) rfl ⟨Nat.le_of_ble_eq_true rfl, Nat.le_of_ble_eq_true rfl⟩ (M' := (lUpd M.1 M.2.1 (true, false, 0, [.null, .int 0, .int 0, .int 0]), M.2.1 + 1, M.2.2 + 4)) (v := some (.int (Int32.ofNat xs.length))) ?_ ?_
  · refine lGo.sp (D := 397) pg_196 (Nat.le_of_ble_eq_true rfl) ?_
    repeat (refine lGo.step rfl (fun _ => rfl) ?_; try dsimp only)
    refine lGo.callV rfl rfl (u1 g) rfl ⟨Nat.le_of_ble_eq_true rfl, Nat.le_of_ble_eq_true rfl⟩ (M' := (lUpd M.1 M.2.1 (true, false, 0, [.null, .int 0, .int 0, .int 0]), M.2.1 + 1, M.2.2 + 4)) (v := some (.int (Int32.ofNat xs.length))) ?_ ?_
    · refine lGo.sp (D := 396) pg_153 (Nat.le_of_ble_eq_true rfl) ?_
      repeat (refine lGo.step rfl (fun _ => rfl) ?_; try dsimp only)
      refine lGo.get rfl (u1 g) rfl rfl ?_
      exact lGo.done rfl (fun _ => rfl)
    · exact lGo.done rfl (fun _ => rfl)
  repeat (refine lGo.step rfl (fun _ => rfl) ?_; try dsimp only)
  refine lGo.callV rfl rfl (u1 g) rfl ⟨Nat.le_of_ble_eq_true rfl, Nat.le_of_ble_eq_true rfl⟩ ((sp_156 hE27 (u1 g)).mono (by decide)) ?_
  refine lGo.step rfl (fun _ => rfl) ?_
  refine lGo.brF (by rfl) ?_
  repeat (refine lGo.step rfl (fun _ => rfl) ?_; try dsimp only)
  refine lGo.put rfl (lUpd_eq ..) rfl (Nat.le_of_ble_eq_true rfl) rfl ?_
  rw [lUpdU]
  repeat (refine lGo.step rfl (fun _ => rfl) ?_; try dsimp only)
  refine lGo.call (n := 3) rfl ⟨Nat.le_of_ble_eq_true rfl, Nat.le_of_ble_eq_true rfl⟩ (s58.mono (by decide)) ?_
  repeat (refine lGo.step rfl (fun _ => rfl) ?_; try dsimp only)
  refine lGo.put rfl ((lUpd_ne _ _ ne).trans (lUpd_eq ..)) rfl (Nat.le_of_ble_eq_true rfl) rfl ?_
  repeat (refine lGo.step rfl (fun _ => rfl) ?_; try dsimp only)
  exact lGo.done rfl (fun _ => rfl)
theorem sp_96 {M : lMem} {i j n z : Nat} (hij : i ≤ j) (hj : j ≤ n) (hn : n < 2147483648) : lSp E prog 1 96 [.int (Int32.ofNat i), .int (Int32.ofNat j), .int (Int32.ofNat n), .ref z] M (.inl (some (.int (Int32.ofNat i))), M) := by
  refine lGo.sp (D := 0) pg_96 (Nat.le_of_ble_eq_true rfl) ?_
  repeat (refine lGo.step rfl (fun _ => rfl) ?_; try dsimp only)
  refine lGo.brF (decide_eq_false (i_nlt0 (by omega))) ?_
  repeat (refine lGo.step rfl (fun _ => rfl) ?_; try dsimp only)
  refine lGo.brF (decide_eq_false (fun w => ?_)) ?_
  · have := (i_lt (j := j) (k := i) (by omega) (by omega)).mp w
    omega
  repeat (refine lGo.step rfl (fun _ => rfl) ?_; try dsimp only)
  refine lGo.brT (decide_eq_true ((i_le (by omega) (by omega)).mpr hj)) ?_
  repeat (refine lGo.step rfl (fun _ => rfl) ?_; try dsimp only)
  exact lGo.done rfl (fun _ => rfl)
theorem jp198 (hJE : jE E G) : JP_198 (lAb (lJd E G) G) E := by
  intro y s A0 a w i j x hW hr hx M hM
  obtain ⟨own, cr, hA⟩ := id hM
  obtain ⟨_, _, _, hE27, ⟨z28, hE28⟩, _⟩ := hJE
  obtain ⟨xs, hc, hx1⟩ := bindC hx
  rcases iteC hx1 with ⟨⟨hi0, hij, hjl⟩, hx2⟩ | ⟨_, hx2⟩
  case inr => cases hx2
  cases hx2
  have hc := cc_some hc
  obtain ⟨e, z, rest, S, hl2, hk⟩ := jp_S hW hA hc
  obtain ⟨hJw, _, hla, g, gea, _, ge, hj, hl16, hl3⟩ := S
  have hlx : (xs ++ rest).length = xs.length + rest.length := List.length_append
  obtain ⟨i, hi, rfl⟩ := i_of hi0
  have hj0 : ¬ j < 0 := fun w => hi0 (Int32.lt_trans hij w)
  obtain ⟨j, hjb, rfl⟩ := i_of hj0
  rw [clampN hi, clampN hjb]
  rw [clampN hjb] at hjl
  have hij := (i_lt hi hjb).mp hij
  have hsub : ((xs ++ rest).drop i).take (j - i) = (xs.drop i).take (j - i) := by
    rw [List.drop_append_of_le_length (by omega), List.take_append_of_le_length (by rw [List.length_drop]; omega)]
  have hsl : ((xs.drop i).take (j - i)).length = j - i := by rw [List.length_take, List.length_drop]; omega
  have hjx : jchr ((xs.drop i).take (j - i)) := fun v hv => hj v (List.mem_append_left _ (List.mem_of_mem_drop (List.mem_of_mem_take hv)))
  rw [hr.1]
  refine jp_newT hW hM hjx (by omega) ?_
  have hf : ∀ q, M.2.1 ≤ q → M.1 q = none := hJw.2.1
  have o1 : ∀ q c, M.1 q = some c → q < M.2.1 := fun q c h => by
    apply Classical.byContradiction
    intro w
    rw [hf q (by omega)] at h
    cases h
  have u1 : ∀ {c : lCell} {q : Nat} {d : lCell}, M.1 q = some d → lUpd M.1 M.2.1 c q = some d := fun h => (lUpd_ne _ _ (by have := o1 _ _ h; omega)).trans h
  have ne : M.2.1 ≠ M.2.1 + 1 := by omega
  have f1 : ∀ {c : lCell}, lUpd M.1 M.2.1 c (M.2.1 + 1) = none := (lUpd_ne _ _ ne.symm).trans (hf _ (Nat.le_succ _))
  have s58 := sp_58 (E := E) (i := i) (j := j) (M := (lUpd M.1 M.2.1 (true, false, 0, [.null, .int 0, .int 0, .int 0]), M.2.1 + 1, M.2.2 + 4)) (u1 ge) f1 hj (by omega) (by omega) (by omega)
  rw [hsub] at s58
  have hmT : mT M ((xs.drop i).take (j - i)) = (lUpd (lUpd (lUpd M.1 M.2.1 (true, false, 0, [.null, .int 0, .int 0, .int 0])) (M.2.1 + 1) (true, true, 2, (xs.drop i).take (j - i))) M.2.1 (true, false, 0, [.ref (M.2.1 + 1), .int 0, .int 0, .int 0]), M.2.1 + 2, M.2.2 + 4 + (j - i)) := by
    unfold mT
    rw [hsl]
  refine lGo.sp (D := 402) pg_198 (Nat.le_of_ble_eq_true rfl) ?_
  repeat (refine lGo.step rfl (fun _ => rfl) ?_; try dsimp only)
  refine lGo.callV rfl rfl g rfl ⟨Nat.le_of_ble_eq_true rfl, Nat.le_of_ble_eq_true rfl⟩ (M' := mT M ((xs.drop i).take (j - i))) (v := some (.ref M.2.1)) ?_ ?_
  rotate_left
  · exact lGo.done rfl (fun _ => rfl)
  refine lGo.sp (D := 401) pg_155 (Nat.le_of_ble_eq_true rfl) ?_
  repeat (refine lGo.step rfl (fun _ => rfl) ?_; try dsimp only)
  refine lGo.get rfl g rfl rfl ?_
  refine lGo.step rfl (fun _ => rfl) ?_; dsimp only
  rw [hE28]
  refine lGo.call (n := 4) rfl ⟨Nat.le_of_ble_eq_true rfl, Nat.le_of_ble_eq_true rfl⟩ ((sp_96 (by omega) hjl (by omega)).mono (by decide)) ?_
  repeat (refine lGo.step rfl (fun _ => rfl) ?_; try dsimp only)
  refine lGo.callV rfl rfl g rfl ⟨Nat.le_of_ble_eq_true rfl, Nat.le_of_ble_eq_true rfl⟩ ((sp_156 hE27 g).mono (by decide)) ?_
  refine lGo.step rfl (fun _ => rfl) ?_
  refine lGo.brF (by rfl) ?_
  repeat (refine lGo.step rfl (fun _ => rfl) ?_; try dsimp only)
  refine lGo.get rfl g rfl rfl ?_
  refine lGo.step rfl (fun _ => rfl) ?_; dsimp only
  refine lGo.step rfl (fun _ => rfl) ?_; dsimp only
  refine lGo.step rfl (fun _ => rfl) ?_; dsimp only
  refine lGo.step rfl (fun _ => rfl) ?_; dsimp only
  rw [show Int32.ofNat j - Int32.ofNat i = Int32.ofNat (j - i) from i_sub (by omega)]
  refine lGo.call (n := 3) (M' := mT M ((xs.drop i).take (j - i))) (v := some (.ref M.2.1)) rfl ⟨Nat.le_of_ble_eq_true rfl, Nat.le_of_ble_eq_true rfl⟩ ?_ ?_
  rotate_left
  · exact lGo.done rfl (fun _ => rfl)
  refine lGo.sp (D := 400) pg_122 (Nat.le_of_ble_eq_true rfl) ?_
  refine lGo.step rfl (fun _ => rfl) ?_
  refine lGo.step rfl (fun _ => rfl) ?_
  refine lGo.brT (decide_eq_true (fun w => ?_)) ?_
  · have := (i_inj (j := j - i) (k := 0) (by omega) (by omega)).mp w
    omega
  repeat (refine lGo.step rfl (fun _ => rfl) ?_; try dsimp only)
  rw [show Int32.ofNat i + Int32.ofNat (j - i) = Int32.ofNat j from by rw [i_add, Nat.add_sub_cancel' (by omega)]]
  refine lGo.call (n := 3) rfl ⟨Nat.le_of_ble_eq_true rfl, Nat.le_of_ble_eq_true rfl⟩ (s58.mono (by decide)) ?_
  repeat (refine lGo.step rfl (fun _ => rfl) ?_; try dsimp only)
  refine lGo.callV rfl rfl ((lUpd_ne _ _ ne).trans (lUpd_eq ..)) rfl ⟨Nat.le_of_ble_eq_true rfl, Nat.le_of_ble_eq_true rfl⟩ (M' := mT M ((xs.drop i).take (j - i))) (v := none) ?_ ?_
  rotate_left
  · repeat (refine lGo.step rfl (fun _ => rfl) ?_; try dsimp only)
    exact lGo.done rfl (fun _ => rfl)
  rw [hmT]
  refine lGo.sp (D := 399) pg_236 (Nat.le_of_ble_eq_true rfl) ?_
  repeat (refine lGo.step rfl (fun _ => rfl) ?_; try dsimp only)
  refine lGo.put rfl ((lUpd_ne _ _ ne).trans (lUpd_eq ..)) rfl (Nat.le_of_ble_eq_true rfl) rfl ?_
  repeat (refine lGo.step rfl (fun _ => rfl) ?_; try dsimp only)
  refine lGo.put rfl (lUpd_eq ..) rfl (Nat.le_of_ble_eq_true rfl) rfl ?_
  rw [lUpdU]
  repeat (refine lGo.step rfl (fun _ => rfl) ?_; try dsimp only)
  exact lGo.done rfl (fun _ => rfl)
end
