/-! maps -/
def cmpZ (a b : Int) : Int32 := if a < b then -1 else if a = b then 0 else 1
def KOk (s : CS) (rk : Value → Int) (ks : List Value) : Prop := ∀ x ∈ ks, ∀ y ∈ ks, cmpK s x y = some (cmpZ (rk x) (rk y))
def Mp (rk : Value → Int) (es : List (Value × Value)) (m : Int → Option Value) : Prop :=
  es.Pairwise (fun a b => rk a.1 < rk b.1) ∧ (∀ e ∈ es, m (rk e.1) = some e.2) ∧ (∀ z v, m z = some v → ∃ e ∈ es, rk e.1 = z)
theorem cmpZ_0 {a b : Int} : cmpZ a b = 0 ↔ a = b := by
  unfold cmpZ
  split
  · simp; omega
  · split <;> simp_all
theorem cmpZ_m {a b : Int} : cmpZ a b = -1 ↔ a < b := by
  unfold cmpZ
  split
  · simp_all
  · split <;> simp_all
theorem cmpZ_1 {a b : Int} : cmpZ a b = 1 ↔ b < a := by
  unfold cmpZ
  split
  · simp; omega
  · split
    · simp; omega
    · simp; omega
theorem prs_fl (es : List (Value × Value)) : prs (fl es) = es := by
  induction es with
  | nil => rfl
  | cons e r ih => show (e.1, e.2) :: prs (fl r) = _; rw [ih]
theorem tmC_of {s : CS} {a : Nat} {mc : Int32} {es : List (Value × Value)} (h : s.1 a = some (true, false, 1042, .int mc :: fl es)) : tmC s a = some (mc, es) := by
  unfold tmC cc
  rw [h]
  simp [prs_fl]
theorem srt_of {s : CS} {rk : Value → Int} {es : List (Value × Value)} (hk : KOk s rk (es.map Prod.fst)) (hp : es.Pairwise (fun a b => rk a.1 < rk b.1)) : srt s es := by
  induction es with
  | nil => trivial
  | cons e r ih =>
    rw [List.pairwise_cons] at hp
    refine ⟨?_, ih (fun x hx y hy => hk x (by simp at hx ⊢; exact Or.inr hx) y (by simp at hy ⊢; exact Or.inr hy)) hp.2⟩
    intro q hq
    rw [hk e.1 (by simp) q.1 (by simp; exact Or.inr ⟨q.2, hq⟩), cmpZ_m.mpr (hp.1 q hq)]
theorem tmK_of {s : CS} {a : Nat} {mc : Int32} {es : List (Value × Value)} {k : Value} {rk : Value → Int} (h : s.1 a = some (true, false, 1042, .int mc :: fl es)) (hk : KOk s rk (k :: es.map Prod.fst)) (hp : es.Pairwise (fun a b => rk a.1 < rk b.1)) : tmK s a k = some (mc, es) := by
  unfold tmK
  rw [tmC_of h, Option.bind_some]
  refine if_pos ⟨srt_of (fun x hx y hy => hk x (List.mem_cons_of_mem _ hx) y (List.mem_cons_of_mem _ hy)) hp, ?_, ?_⟩
  · intro e he
    rw [hk k (by simp) e.1 (by simp; exact Or.inr ⟨e.2, he⟩)]
    rfl
  · rw [hk k (by simp) k (by simp)]
    rfl
theorem mp_uniq {rk : Value → Int} {es : List (Value × Value)} (hp : es.Pairwise (fun a b => rk a.1 < rk b.1)) {e f : Value × Value} (he : e ∈ es) (hf : f ∈ es) (h : rk e.1 = rk f.1) : e = f := by
  induction es with
  | nil => cases he
  | cons x r ih =>
    rw [List.pairwise_cons] at hp
    rcases List.mem_cons.mp he with h1 | h1
    · rcases List.mem_cons.mp hf with h2 | h2
      · rw [h1, h2]
      · have := hp.1 f h2; rw [h1] at h; omega
    · rcases List.mem_cons.mp hf with h2 | h2
      · have := hp.1 e h1; rw [h2] at h; omega
      · exact ih hp.2 h1 h2
theorem fnd_of {s : CS} {rk : Value → Int} {es : List (Value × Value)} {k : Value} {m : Int → Option Value} (hk : KOk s rk (k :: es.map Prod.fst)) (hm : Mp rk es m) :
    (fnd s k es = none ∧ m (rk k) = none) ∨ ∃ e ∈ es, fnd s k es = some e ∧ rk e.1 = rk k ∧ m (rk k) = some e.2 := by
  unfold fnd
  cases hf : es.find? (fun e => cmpK s k e.1 == some 0) with
  | none =>
    refine Or.inl ⟨rfl, ?_⟩
    rw [List.find?_eq_none] at hf
    cases hz : m (rk k) with
    | none => rfl
    | some v =>
      obtain ⟨e, he, hr⟩ := hm.2.2 _ _ hz
      refine absurd ?_ (hf e he)
      rw [hk k (by simp) e.1 (by simp; exact Or.inr ⟨e.2, he⟩), cmpZ_0.mpr hr.symm]
      rfl
  | some e =>
    have he := List.mem_of_find?_eq_some hf
    have h0 := List.find?_some hf
    simp only [beq_iff_eq] at h0
    rw [hk k (by simp) e.1 (by simp; exact Or.inr ⟨e.2, he⟩)] at h0
    have h1 := cmpZ_0.mp (Option.some.inj h0)
    exact Or.inr ⟨e, he, rfl, h1.symm, by rw [h1]; exact hm.2.1 e he⟩
theorem tm_get {s : CS} {a : Nat} {mc : Int32} {es : List (Value × Value)} {k : Value} {rk : Value → Int} {m : Int → Option Value} (h : s.1 a = some (true, false, 1042, .int mc :: fl es)) (hk : KOk s rk (k :: es.map Prod.fst)) (hm : Mp rk es m) : tmGet s a k = some ((m (rk k)).getD .null) := by
  unfold tmGet
  rw [tmK_of h hk hm.1, Option.bind_some]
  rcases fnd_of hk hm with ⟨h1, h2⟩ | ⟨e, he, h1, h2, h3⟩
  · rw [h1, h2]; rfl
  · rw [h1, h3]; rfl
theorem tm_has {s : CS} {a : Nat} {mc : Int32} {es : List (Value × Value)} {k : Value} {rk : Value → Int} {m : Int → Option Value} (h : s.1 a = some (true, false, 1042, .int mc :: fl es)) (hk : KOk s rk (k :: es.map Prod.fst)) (hm : Mp rk es m) : tmHas s a k = some (if (m (rk k)).isSome = true then 1 else 0) := by
  unfold tmHas
  rw [tmK_of h hk hm.1, Option.bind_some]
  rcases fnd_of hk hm with ⟨h1, h2⟩ | ⟨e, he, h1, h2, h3⟩
  · rw [h1, h2]; rfl
  · rw [h1, h3]; rfl
theorem tm_size {s : CS} {a : Nat} {mc : Int32} {es : List (Value × Value)} (h : s.1 a = some (true, false, 1042, .int mc :: fl es)) : tmSize s a = some es.length.toInt32 := by
  unfold tmSize; rw [tmC_of h]; rfl
theorem tm_empty {s : CS} {a : Nat} {mc : Int32} {es : List (Value × Value)} (h : s.1 a = some (true, false, 1042, .int mc :: fl es)) : tmEmpty s a = some (if es.length = 0 then 1 else 0) := by
  unfold tmEmpty; rw [tmC_of h]; rfl
/-! putting -/
theorem ins_mem {s : CS} {k v : Value} {es : List (Value × Value)} {e : Value × Value} : e ∈ ins s k v es ↔ e = (k, v) ∨ e ∈ es := by
  induction es with
  | nil => simp [ins]
  | cons x r ih =>
    unfold ins
    split
    · simp
    · rw [List.mem_cons, ih, List.mem_cons]
      constructor
      · rintro (h | h | h) <;> simp [h]
      · rintro (h | h | h) <;> simp [h]
theorem ins_len {s : CS} {k v : Value} {es : List (Value × Value)} : (ins s k v es).length = es.length + 1 := by
  induction es with
  | nil => rfl
  | cons x r ih =>
    unfold ins
    split
    · rfl
    · rw [List.length_cons, ih]; rfl
theorem ins_srt {s : CS} {rk : Value → Int} {k v : Value} {es : List (Value × Value)} (hk : KOk s rk (k :: es.map Prod.fst)) (hp : es.Pairwise (fun a b => rk a.1 < rk b.1)) (hn : ∀ e ∈ es, rk e.1 ≠ rk k) : (ins s k v es).Pairwise (fun a b => rk a.1 < rk b.1) := by
  induction es with
  | nil => simp [ins]
  | cons x r ih =>
    rw [List.pairwise_cons] at hp
    have hx : cmpK s k x.1 = some (cmpZ (rk k) (rk x.1)) := hk k (by simp) x.1 (by simp)
    unfold ins
    split
    · rename_i e
      rw [hx] at e
      have e := cmpZ_m.mp (Option.some.inj e)
      refine List.pairwise_cons.mpr ⟨?_, List.pairwise_cons.mpr hp⟩
      intro q hq
      rcases List.mem_cons.mp hq with rfl | hq
      · exact e
      · exact Int.lt_trans e (hp.1 q hq)
    · rename_i e
      rw [hx] at e
      have e : ¬ rk k < rk x.1 := fun q => e (by rw [cmpZ_m.mpr q])
      have e2 := hn x (by simp)
      refine List.pairwise_cons.mpr ⟨?_, ih (fun a ha b hb => hk a ?_ b ?_) hp.2 (fun q hq => hn q (List.mem_cons_of_mem _ hq))⟩
      · intro q hq
        rcases ins_mem.mp hq with rfl | hq
        · show rk x.1 < rk k; omega
        · exact hp.1 q hq
      · rcases List.mem_cons.mp ha with rfl | ha
        · simp
        · exact List.mem_cons_of_mem _ (List.mem_cons_of_mem _ ha)
      · rcases List.mem_cons.mp hb with rfl | hb
        · simp
        · exact List.mem_cons_of_mem _ (List.mem_cons_of_mem _ hb)
theorem tm_put {s : CS} {a : Nat} {mc : Int32} {es : List (Value × Value)} {k v : Value} {rk : Value → Int} {m : Int → Option Value} (h : s.1 a = some (true, false, 1042, .int mc :: fl es)) (hk : KOk s rk (k :: es.map Prod.fst)) (hm : Mp rk es m) (hl : es.length < 100000) :
    ∃ es' mc' n j, tmPut s a k v = some ((m (rk k)).getD .null, cput s 1042 a n j (.int mc' :: fl es')) ∧ n ≤ 1 ∧ j ≤ 6 ∧ Mp rk es' (fun z => if z = rk k then some v else m z) ∧ (∀ x ∈ es'.map Prod.fst, x = k ∨ x ∈ es.map Prod.fst) ∧ es'.length = (if (m (rk k)).isSome = true then es.length else es.length + 1) ∧ (m (rk k) ≠ none → mc' = mc) := by
  unfold tmPut
  rw [tmK_of h hk hm.1, Option.bind_some]
  have hq : ∀ q ∈ es, cmpK s k q.1 = some (cmpZ (rk k) (rk q.1)) := fun q hq => hk k (by simp) q.1 (by simp; exact Or.inr ⟨q.2, hq⟩)
  rcases fnd_of hk hm with ⟨h1, h2⟩ | ⟨e, he, h1, h2, h3⟩
  · simp only [h1, h2, hl, if_true]
    refine ⟨_, _, _, _, rfl, Nat.le_refl _, Nat.le_refl _, ⟨?_, ?_, ?_⟩, ?_, ins_len, fun q => absurd rfl q⟩
    · refine ins_srt hk hm.1 ?_
      intro e he hr
      have := hm.2.1 e he
      rw [hr, h2] at this
      cases this
    · intro e he
      rcases ins_mem.mp he with rfl | he
      · simp
      · have h4 := hm.2.1 e he
        have : rk e.1 ≠ rk k := fun q => by rw [q, h2] at h4; cases h4
        simp only [if_neg this, h4]
    · intro z w hz
      by_cases hzk : z = rk k
      · exact ⟨(k, v), ins_mem.mpr (Or.inl rfl), hzk.symm⟩
      · simp only [if_neg hzk] at hz
        obtain ⟨e, he, hr⟩ := hm.2.2 z w hz
        exact ⟨e, ins_mem.mpr (Or.inr he), hr⟩
    · intro x hx
      rw [List.mem_map] at hx
      obtain ⟨e, he, rfl⟩ := hx
      rcases ins_mem.mp he with rfl | he
      · exact Or.inl rfl
      · exact Or.inr (List.mem_map.mpr ⟨e, he, rfl⟩)
  · simp only [h1, h3, hl, if_true]
    refine ⟨_, _, _, _, rfl, Nat.zero_le _, Nat.zero_le _, ⟨?_, ?_, ?_⟩, ?_, by simp, fun _ => rfl⟩
    · rw [List.pairwise_map]
      refine List.Pairwise.imp ?_ hm.1
      intro a b hab
      by_cases e1 : cmpK s k a.1 = some 0 <;> by_cases e2 : cmpK s k b.1 = some 0 <;> simpa [e1, e2] using hab
    · intro q hq1
      rw [List.mem_map] at hq1
      obtain ⟨f, hf, rfl⟩ := hq1
      by_cases e1 : cmpK s k f.1 = some 0
      · have : rk f.1 = rk k := by
          rw [hq f hf] at e1
          exact (cmpZ_0.mp (Option.some.inj e1)).symm
        simp only [if_pos e1, if_pos this]
      · have : rk f.1 ≠ rk k := fun q => e1 (by rw [hq f hf, cmpZ_0.mpr q.symm])
        simp only [if_neg e1, if_neg this]
        exact hm.2.1 f hf
    · intro z w hz
      by_cases hzk : z = rk k
      · refine ⟨_, List.mem_map.mpr ⟨e, he, rfl⟩, ?_⟩
        by_cases e1 : cmpK s k e.1 = some 0
        · simp only [if_pos e1, h2, hzk]
        · simp only [if_neg e1, h2, hzk]
      · simp only [if_neg hzk] at hz
        obtain ⟨f, hf, hr⟩ := hm.2.2 z w hz
        refine ⟨_, List.mem_map.mpr ⟨f, hf, rfl⟩, ?_⟩
        by_cases e1 : cmpK s k f.1 = some 0
        · simp only [if_pos e1, hr]
        · simp only [if_neg e1, hr]
    · intro x hx
      rw [List.mem_map] at hx
      obtain ⟨q, hq1, rfl⟩ := hx
      rw [List.mem_map] at hq1
      obtain ⟨f, hf, rfl⟩ := hq1
      refine Or.inr (List.mem_map.mpr ⟨f, hf, ?_⟩)
      by_cases e1 : cmpK s k f.1 = some 0 <;> simp [e1]
theorem tm_rem {s : CS} {a : Nat} {mc : Int32} {es : List (Value × Value)} {k : Value} {rk : Value → Int} {m : Int → Option Value} (h : s.1 a = some (true, false, 1042, .int mc :: fl es)) (hk : KOk s rk (k :: es.map Prod.fst)) (hm : Mp rk es m) {v : Value} (hv : m (rk k) = some v) :
    ∃ es' mc', tmRem s a k = some (v, cput s 1042 a 1 0 (.int mc' :: fl es')) ∧ Mp rk es' (fun z => if z = rk k then none else m z) ∧ (∀ x ∈ es'.map Prod.fst, x ∈ es.map Prod.fst) ∧ es'.length + 1 = es.length := by
  unfold tmRem
  rw [tmK_of h hk hm.1, Option.bind_some]
  have hq : ∀ q ∈ es, cmpK s k q.1 = some (cmpZ (rk k) (rk q.1)) := fun q hq => hk k (by simp) q.1 (by simp; exact Or.inr ⟨q.2, hq⟩)
  rcases fnd_of hk hm with ⟨h1, h2⟩ | ⟨e, he, h1, h2, h3⟩
  · rw [hv] at h2; cases h2
  · rw [hv] at h3
    cases h3
    simp only [h1]
    have hf : ∀ q ∈ es, (!(cmpK s k q.1 == some 0)) = true ↔ rk q.1 ≠ rk k := by
      intro q hqe
      rw [hq q hqe]
      simp only [Bool.not_eq_true', beq_eq_false_iff_ne, ne_eq, Option.some.injEq, cmpZ_0]
      exact ⟨fun a b => a b.symm, fun a b => a b.symm⟩
    refine ⟨_, _, rfl, ⟨?_, ?_, ?_⟩, ?_, ?_⟩
    · exact List.Pairwise.sublist List.filter_sublist hm.1
    · intro q hq1
      obtain ⟨h4, h5⟩ := List.mem_filter.mp hq1
      simp only [if_neg ((hf q h4).mp h5)]
      exact hm.2.1 q h4
    · intro z w hz
      by_cases hzk : z = rk k
      · simp [hzk] at hz
      · simp only [if_neg hzk] at hz
        obtain ⟨f, hf1, hr⟩ := hm.2.2 z w hz
        exact ⟨f, List.mem_filter.mpr ⟨hf1, (hf f hf1).mpr (by rw [hr]; exact hzk)⟩, hr⟩
    · intro x hx
      rw [List.mem_map] at hx ⊢
      obtain ⟨q, hq1, rfl⟩ := hx
      exact ⟨q, (List.mem_filter.mp hq1).1, rfl⟩
    · clear hk h h1 hv
      have hp := hm.1
      clear hm
      induction es with
      | nil => cases he
      | cons x r ih =>
        rw [List.pairwise_cons] at hp
        rw [List.filter_cons]
        by_cases hx : rk x.1 = rk k
        · have e1 : (!(cmpK s k x.1 == some 0)) = false := by
            have := (hf x (by simp))
            cases hb : (!(cmpK s k x.1 == some 0)) with
            | false => rfl
            | true => exact absurd hx (this.mp hb)
          rw [e1]
          simp only [Bool.false_eq_true, if_false, List.length_cons]
          rw [List.filter_eq_self.mpr]
          intro q hq1
          refine (hf q (List.mem_cons_of_mem _ hq1)).mpr ?_
          have := hp.1 q hq1
          omega
        · rw [(hf x (by simp)).mpr hx]
          simp only [if_true, List.length_cons]
          rcases List.mem_cons.mp he with rfl | he
          · exact absurd h2 hx
          · rw [ih (fun q hq1 => hq q (List.mem_cons_of_mem _ hq1)) he (fun q hq1 => hf q (List.mem_cons_of_mem _ hq1)) hp.2]
/-- keys that are numbers -/
def rkI (v : Value) : Int := match v with
  | .int x => x.toInt
  | .long x => x.toInt
  | _ => 0
theorem cmpI_Z (a b : Int32) : cmpI a b = cmpZ a.toInt b.toInt := by
  unfold cmpI cmpZ
  simp only [Int32.lt_iff_toInt_lt, Int32.toInt_inj]
theorem cmpL_Z (a b : Int64) : cmpL a b = cmpZ a.toInt b.toInt := by
  unfold cmpL cmpZ
  simp only [Int64.lt_iff_toInt_lt, Int64.toInt_inj]
theorem KOk_int {s : CS} {ks : List Value} (h : ∀ x ∈ ks, ∃ i, x = .int i) : KOk s rkI ks := by
  intro x hx y hy
  obtain ⟨i, rfl⟩ := h x hx
  obtain ⟨j, rfl⟩ := h y hy
  show some (cmpI i j) = _
  rw [cmpI_Z]
  rfl
theorem KOk_long {s : CS} {ks : List Value} (h : ∀ x ∈ ks, ∃ i, x = .long i) : KOk s rkI ks := by
  intro x hx y hy
  obtain ⟨i, rfl⟩ := h x hx
  obtain ⟨j, rfl⟩ := h y hy
  show some (cmpL i j) = _
  rw [cmpL_Z]
  rfl
