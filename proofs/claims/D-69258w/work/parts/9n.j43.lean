/-! the library: PriorityQueue, how it lies; isEmpty, init -/
/-- the number in a box below the store -/
def kyA (A0 : lMem) : Value → Int32
  | .ref b => match A0.1 b with
    | some (_, _, _, [.int x]) => x
    | _ => 0
  | _ => 0
theorem ky_rel {l : List Nat} {A0 : lMem} {x : Int32} {r : Value} (h : relV l A0 (.int x) r) : kyA A0 r = x := by
  obtain ⟨q, w, h1, h2, h3⟩ := h
  rw [h1]
  simp only [kyA, h2]
/-- a box of a number -/
def aE (l : List Nat) (A0 : lMem) (r : Value) : Prop := relV l A0 (.int (kyA A0 r)) r
theorem relL_map {l : List Nat} {A0 : lMem} : ∀ {gs rs : List Value}, relL l A0 gs rs → (∀ v ∈ gs, ∃ x : Int32, v = .int x) → (∀ r ∈ rs, aE l A0 r) ∧ gs = rs.map (fun r => .int (kyA A0 r)) := by
  intro gs
  induction gs with
  | nil =>
    intro rs h _
    cases rs with
    | nil => exact ⟨fun r hr => by simp at hr, rfl⟩
    | cons r rs => exact h.elim
  | cons g gs ih =>
    intro rs h hi
    cases rs with
    | nil => exact h.elim
    | cons r rs =>
      obtain ⟨x, rfl⟩ := hi g (List.mem_cons_self ..)
      obtain ⟨h1, h2⟩ := h
      have k := ky_rel h1
      obtain ⟨q1, q2⟩ := ih h2 (fun v hv => hi v (List.mem_cons_of_mem _ hv))
      refine ⟨fun r' hr' => ?_, ?_⟩
      · rcases List.mem_cons.mp hr' with z | z
        · rw [z]
          unfold aE
          rw [k]
          exact h1
        · exact q1 r' z
      · rw [List.map_cons, k, q2]
theorem relL_map' {l : List Nat} {A0 : lMem} : ∀ {rs : List Value}, (∀ r ∈ rs, aE l A0 r) → relL l A0 (rs.map (fun r => .int (kyA A0 r))) rs := by
  intro rs
  induction rs with
  | nil => exact fun _ => trivial
  | cons r rs ih => exact fun h => ⟨h r (List.mem_cons_self ..), ih (fun v hv => h v (List.mem_cons_of_mem _ hv))⟩
theorem hp_map {f : Value → Int32} {rs : List Value} : HpO (rs.map (fun r => Value.int (f r))) ↔ HpF (fun i => f (rs.getD i .null)) rs.length := by
  have key : ∀ i, i < rs.length → vI ((rs.map (fun r => Value.int (f r))).getD i .null) = (f (rs.getD i .null)).toInt := fun i hi => by
    rw [List.getD_eq_getElem?_getD, List.getD_eq_getElem?_getD, List.getElem?_map, List.getElem?_eq_getElem hi]
    rfl
  unfold HpO HpF
  rw [List.length_map]
  constructor
  · intro h i hi hin
    have := h.2 i hi hin
    rw [key _ hin, key _ (by omega)] at this
    exact Int32.le_iff_toInt_le.mpr this
  · intro h
    refine ⟨fun v hv => ?_, fun i hi hin => ?_⟩
    · obtain ⟨r, _, rfl⟩ := List.mem_map.mp hv
      exact ⟨_, rfl⟩
    · rw [key _ hin, key _ (by omega)]
      exact Int32.le_iff_toInt_le.mp (h i hi hin)
theorem relC_Q {l : List Nat} {A0 : lMem} {sa : Nat} {fs rs : List Value} (h : relC l A0 sa 1037 fs rs) : (∀ r ∈ rs, aE l A0 r) ∧ HpF (fun i => kyA A0 (rs.getD i .null)) rs.length ∧ (rs.map (fun r => Value.int (kyA A0 r))).Perm fs ∧ SrV fs := by
  unfold relC at h
  rw [if_neg (by decide), if_neg (by decide), if_pos rfl] at h
  obtain ⟨gs, h1, h2, h3, h4⟩ := h
  obtain ⟨q1, rfl⟩ := relL_map h1 h2.1
  exact ⟨q1, hp_map.mp h2, h3, h4⟩
theorem relC_Q' {l : List Nat} {A0 : lMem} {sa : Nat} {fs rs : List Value} (h : (∀ r ∈ rs, aE l A0 r) ∧ HpF (fun i => kyA A0 (rs.getD i .null)) rs.length ∧ (rs.map (fun r => Value.int (kyA A0 r))).Perm fs ∧ SrV fs) : relC l A0 sa 1037 fs rs := by
  unfold relC
  rw [if_neg (by decide), if_neg (by decide), if_pos rfl]
  exact ⟨_, relL_map' h.1, hp_map.mpr h.2.1, h.2.2.1, h.2.2.2⟩
theorem jfil_of {L : List Value} {n : Nat} (hn : n ≤ L.length) (hd : L.drop n = List.replicate (L.length - n) .null) : L = jfil (L.take n) L.length := by
  unfold jfil
  rw [List.length_take, Nat.min_eq_left hn, ← hd, List.take_append_drop]
section
variable {E : lE} {y : lY} {s : CS} {A0 M : lMem} {G : lHeap} {own cr : Nat → Nat} {a : Nat} {fs : List Value}
theorem jp_Q (hW : cW E y s A0) (hA : lAbo (lJd E G) G own cr M (cp y s A0)) (hc : s.1 a = some (true, false, 1037, fs)) : ((∀ r ∈ y.2 a, aE y.1 A0 r) ∧ HpF (fun i => kyA A0 ((y.2 a).getD i .null)) (y.2 a).length ∧ ((y.2 a).map (fun r => Value.int (kyA A0 r))).Perm fs ∧ SrV fs) ∧ (∃ (e cap : Nat) (m : Int32), M.1 (adr y.1 a) = some (true, false, 37, [.ref e, .int (Int32.ofNat (y.2 a).length), .null, .int m]) ∧ (y.2 a).length ≤ cap ∧ 11 ≤ cap ∧ cap ≤ 300000 ∧ e ≠ adr y.1 a ∧ own e = adr y.1 a ∧ M.1 e = some (true, true, 6, jfil (y.2 a) cap)) ∧ own (adr y.1 a) = adr y.1 a ∧ adr y.1 a < M.2.1 := by
  obtain ⟨h1, h2, q1, q2, q3, q4, q5, q6⟩ := jp_at hW hA hc (by omega)
  obtain ⟨r1, r2⟩ := q5 (by dsimp only; omega)
  have r3 := lJd_Q r2
  obtain ⟨e, cap, m, g1, g2, g3, g4, g5, g6⟩ := r3
  exact ⟨relC_Q h2, ⟨e, cap, m, (hp_some g1).2, g2, g3, g4, g5, (hp_some g6).1, (hp_some g6).2⟩, q1, q2⟩
theorem aE.q {r : Value} (h : aE y.1 A0 r) (hA : lAbo (lJd E G) G own cr M (cp y s A0)) : qE (kyA A0) M r := by
  obtain ⟨q, w, h1, h2, h3⟩ := h
  obtain ⟨w', e, _⟩ := hA.pl ((cp_hid h3).trans h2) (by decide)
  exact ⟨q, w', h1, e⟩
theorem jp3 : JP_3 (lAb (lJd E G) G) E := by
  intro y s A0 a w x hW hr hx M hM
  obtain ⟨own, cr, hA⟩ := id hM
  obtain ⟨xs, hc, hx2⟩ := bindC hx
  cases hx2
  obtain ⟨⟨_, _, hp, _⟩, ⟨e, cap, m, g1, g2, g3, g4, _⟩, _⟩ := jp_Q hW hA (cc_some hc)
  have hl := hp.length_eq
  rw [List.length_map] at hl
  rw [hr.1]
  refine ⟨(.inl (some (.int (if xs.length = 0 then 1 else 0))), M), _, ?_, hM, trivial, rfl, rfl⟩
  refine lGo.sp (D := 2) pg_3 (Nat.le_of_ble_eq_true rfl) ?_
  refine lGo.step rfl (fun _ => rfl) ?_; dsimp only
  refine lGo.callV (v := some (.int (Int32.ofNat (y.2 a).length))) rfl rfl g1 rfl ⟨Nat.le_of_ble_eq_true rfl, Nat.le_of_ble_eq_true rfl⟩ (M' := M) ?_ ?_
  · refine lGo.sp (D := 1) pg_210 (Nat.le_of_ble_eq_true rfl) ?_
    refine lGo.step rfl (fun _ => rfl) ?_; dsimp only
    refine lGo.get rfl g1 rfl rfl ?_
    exact lGo.done rfl (fun _ => rfl)
  · refine lGo.step rfl (fun _ => rfl) ?_; dsimp only
    by_cases z : xs.length = 0
    · rw [if_pos z]
      refine lGo.brF (decide_eq_false (fun k => k ?_)) ?_
      · rw [hl, z]
        rfl
      refine lGo.step rfl (fun _ => rfl) ?_; dsimp only
      refine lGo.step rfl (fun _ => rfl) ?_; dsimp only
      exact lGo.done rfl (fun _ => rfl)
    · rw [if_neg z]
      refine lGo.brT (decide_eq_true (fun k => z ?_)) ?_
      · rw [← hl]
        exact (i_inj (by omega) (show 0 < 2147483648 by decide)).mp k
      refine lGo.step rfl (fun _ => rfl) ?_; dsimp only
      exact lGo.done rfl (fun _ => rfl)
/-- the end of a call that changes a queue -/
theorem q_fin {D mi m e cap : Nat} {args : List Value} {M' : lMem} {v : Option Value} {b : Bool} {k n : Nat} {fs' rs' : List Value} {mc : Int32} (hW : cW E y s A0) (hA : lAbo (lJd E G) G own cr M (cp y s A0)) (hc : s.1 a = some (true, b, k, fs)) (h42 : k ≠ 1042) (hsp : lSp E prog D mi args M (.inl v, M')) (hw : Jw own (adr y.1 a) M M') (ho : own (adr y.1 a) = adr y.1 a) (hla : adr y.1 a < M.2.1)
    (hR : (∀ r ∈ rs', aE y.1 A0 r) ∧ HpF (fun i => kyA A0 (rs'.getD i .null)) rs'.length ∧ (rs'.map (fun r => Value.int (kyA A0 r))).Perm fs' ∧ SrV fs') (g1 : M'.1 (adr y.1 a) = some (true, false, 37, [.ref e, .int (Int32.ofNat rs'.length), .null, .int mc])) (g2 : rs'.length ≤ cap) (g3 : 11 ≤ cap) (g4 : cap ≤ 300000) (g5 : e ≠ adr y.1 a) (g6 : e < M.2.1 → own e = adr y.1 a) (g7 : M'.1 e = some (true, true, 6, jfil rs' cap)) (hn : s.2.2.1 ≤ n) (hz1 : M'.2.1 + s.2.2.1 ≤ n + M.2.1) (hz2 : M'.2.2 + s.2.2.2 ≤ m + M.2.2) :
    ∃ (fin : lF) (A' : lMem), lSp E prog D mi args M fin ∧ lAb (lJd E G) G fin.2 A' ∧ lXk A' fin.1 ∧ (fin.1 = .inl v ∧ qP E y s A0 (lUpd s.1 a (true, false, 1037, fs'), s.2.1, n, m) A') := by
  refine jp_done (kc := 0) (f := rs') hW hA hc h42 (by decide) (relC_Q' hR) (fun q hq => ?_) hn hsp hw (Or.inr (Or.inr (Or.inr (Or.inr (Or.inr (Or.inl ⟨rfl, e, cap, mc, ?_, g2, g3, g4, g5, ?_⟩)))))) (fun _ p hp => ?_) hz1 (by omega)
  · obtain ⟨r, _, h⟩ := List.mem_map.mp (hR.2.2.1.mem_iff.mpr hq)
    cases h
  · rw [hp_old ho hla]
    exact g1
  · by_cases z : e < M.2.1
    · rw [hp_old (g6 z) z]
      exact g7
    · rw [hp_new (by omega)]
      exact g7
  · obtain ⟨q, w, h1, h2⟩ := (hR.1 _ hp).q hA
    cases h1
    obtain ⟨w2, fs2, e2⟩ := hw.2.2.2.1 _ _ _ _ _ h2
    exact ⟨w2, 19, fs2, e2⟩
theorem jp212 : JP_212 (lAb (lJd E G) G) E := by
  intro y s A0 a w x hW hr hx M hM
  obtain ⟨own, cr, hA⟩ := hM
  obtain ⟨s1, hc0, hx1⟩ := bindC hx
  obtain ⟨hc, hs1⟩ := ccI_some hc0
  subst hs1
  cases hx1
  rw [hr.1]
  obtain ⟨h0, w', h1, h2⟩ := jp_pl hW hA hc (by decide)
  have h2 := h2 rfl
  subst h2
  obtain ⟨q1, q2, q3, _⟩ := hA.2.2.2.2.2 _ _ h0
  have h1 : M.1 (adr y.1 a) = some (true, false, 37, [.null, .int 0, .null, .int 0]) := h1
  have ne : adr y.1 a ≠ M.2.1 := by omega
  have W := ((Jw.rf hA).new (c := (true, true, 6, List.replicate 11 .null)) ⟨(show 6 < 1000 by decide), fun w => by cases w⟩ (M.2.2 + 11)).upd (w' := true) (fs' := [.ref M.2.1, .int 0, .null, .int 0]) ((lUpd_ne _ _ ne).trans h1) (fun _ => q1)
  refine q_fin (fs' := []) (rs' := []) (n := s.2.2.1 + 1) (m := s.2.2.2 + 11) (M' := (lUpd (lUpd M.1 M.2.1 (true, true, 6, List.replicate 11 .null)) (adr y.1 a) (true, false, 37, [.ref M.2.1, .int 0, .null, .int 0]), M.2.1 + 1, M.2.2 + 11)) hW hA hc (by decide) ?_ W q1 q2 ⟨fun r hr => by simp at hr, fun i _ hi => absurd hi (Nat.not_lt_zero _), List.Perm.refl _, List.Pairwise.nil⟩ (lUpd_eq ..) (Nat.zero_le 11) (by decide) (by decide) ne.symm (fun z => by omega) ((lUpd_ne _ _ ne.symm).trans (lUpd_eq ..)) (Nat.le_succ _) (by show M.2.1 + 1 + _ ≤ _; omega) (by show M.2.2 + 11 + _ ≤ _; omega)
  refine lGo.sp (D := 5) pg_212 (Nat.le_of_ble_eq_true rfl) ?_
  refine lGo.step rfl (fun _ => rfl) ?_; dsimp only
  refine lGo.step rfl (fun _ => rfl) ?_; dsimp only
  refine lGo.step rfl (fun _ => rfl) ?_; dsimp only
  refine lGo.callV rfl rfl h1 rfl ⟨Nat.le_of_ble_eq_true rfl, Nat.le_of_ble_eq_true rfl⟩ (v := none) (M' := (lUpd (lUpd M.1 M.2.1 (true, true, 6, List.replicate 11 .null)) (adr y.1 a) (true, false, 37, [.ref M.2.1, .int 0, .null, .int 0]), M.2.1 + 1, M.2.2 + 11)) ?_ ?_
  · refine lGo.sp (D := 4) pg_213 (Nat.le_of_ble_eq_true rfl) ?_
    refine lGo.step rfl (fun _ => rfl) ?_; dsimp only
    refine lGo.callV rfl rfl h1 rfl ⟨Nat.le_of_ble_eq_true rfl, Nat.le_of_ble_eq_true rfl⟩ (v := none) (M' := M) ?_ ?_
    · refine lGo.sp (D := 3) pg_208 (Nat.le_of_ble_eq_true rfl) ?_
      refine lGo.step rfl (fun _ => rfl) ?_; dsimp only
      refine lGo.callV rfl rfl h1 rfl ⟨Nat.le_of_ble_eq_true rfl, Nat.le_of_ble_eq_true rfl⟩ (v := none) (M' := M) ?_ ?_
      · refine lGo.sp (D := 2) pg_0 (Nat.le_of_ble_eq_true rfl) ?_
        repeat (refine lGo.step rfl (fun _ => rfl) ?_; try dsimp only)
        exact lGo.done rfl (fun _ => rfl)
      · exact lGo.done rfl (fun _ => rfl)
    · repeat (refine lGo.step rfl (fun _ => rfl) ?_; try dsimp only)
      refine lGo.put rfl ((lUpd_ne _ _ ne).trans h1) rfl (Nat.le_of_ble_eq_true rfl) rfl ?_
      refine lGo.step rfl (fun _ => rfl) ?_; dsimp only
      refine lGo.step rfl (fun _ => rfl) ?_; dsimp only
      refine lGo.put rfl (lUpd_eq ..) rfl (Nat.le_of_ble_eq_true rfl) rfl ?_
      rw [lUpdU]
      exact lGo.done rfl (fun _ => rfl)
  · exact lGo.done rfl (fun _ => rfl)
end
