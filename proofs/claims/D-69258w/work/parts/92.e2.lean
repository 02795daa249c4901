/-! what an operation may change -/
def wfS (s : CS) : Prop := ∀ a, s.2.1 ≤ a → s.1 a = none
def Frm (X : Nat → Prop) (own own' : Nat → Nat) (s s' : CS) : Prop :=
  s.2.1 ≤ s'.2.1 ∧ (∀ a, a < s.2.1 → own' a = own a) ∧ (∀ a, a < s.2.1 → ¬ X (own a) → s'.1 a = s.1 a) ∧ (∀ a, s.2.1 ≤ a → a < s'.2.1 → X (own' a)) ∧ wfS s'
theorem Frm.refl {X : Nat → Prop} {own : Nat → Nat} {s : CS} (hw : wfS s) : Frm X own own s s :=
  ⟨Nat.le_refl _, fun _ _ => rfl, fun _ _ _ => rfl, fun a h1 h2 => absurd h2 (Nat.not_lt.mpr h1), hw⟩
theorem Frm.trans {X : Nat → Prop} {own own1 own2 : Nat → Nat} {s s1 s2 : CS} (h : Frm X own own1 s s1) (k : Frm X own1 own2 s1 s2) : Frm X own own2 s s2 := by
  obtain ⟨h1, h2, h3, h4, h5⟩ := h
  obtain ⟨k1, k2, k3, k4, k5⟩ := k
  refine ⟨Nat.le_trans h1 k1, ?_, ?_, ?_, k5⟩
  · intro a ha; rw [k2 a (by omega), h2 a ha]
  · intro a ha hx; rw [k3 a (by omega) (by rw [h2 a ha]; exact hx), h3 a ha hx]
  · intro a h6 h7
    by_cases e : a < s1.2.1
    · rw [k2 a e]; exact h4 a h6 e
    · exact k4 a (by omega) h7
theorem frm_rs {X : Nat → Prop} {own own' : Nat → Nat} {s s' : CS} {Y : Nat} (hw : wfS s) (h : Frm X own own' s s') (hY : ¬ X Y) : rs s'.1 own' Y = rs s.1 own Y := by
  obtain ⟨h1, h2, h3, h4, h5⟩ := h
  funext a
  unfold rs
  by_cases ha : a < s.2.1
  · rw [h2 a ha]
    by_cases e : own a = Y
    · rw [if_pos e, if_pos e, h3 a ha (by rw [e]; exact hY)]
    · rw [if_neg e, if_neg e]
  · rw [hw a (by omega)]
    by_cases hb : a < s'.2.1
    · rw [if_neg (fun e => hY (by rw [← e]; exact h4 a (by omega) hb))]
      simp
    · rw [h5 a (by omega)]
      simp
/-- a cell of the part is changed -/
theorem frm_cup {X : Nat → Prop} {own : Nat → Nat} {s : CS} {a : Nat} {c : lCell} (hw : wfS s) (ha : a < s.2.1) (hx : X (own a)) : Frm X own own s (cup s a c) := by
  refine ⟨Nat.le_refl _, fun _ _ => rfl, ?_, fun b h1 h2 => absurd h2 (Nat.not_lt.mpr h1), ?_⟩
  · intro b _ hb
    show lUpd s.1 a c b = s.1 b
    rw [lUpd_at, if_neg (fun e => hb (by rw [e]; exact hx))]
  · intro b hb
    have hb : s.2.1 ≤ b := hb
    show lUpd s.1 a c b = none
    rw [lUpd_at, if_neg (by omega), hw b hb]
theorem frm_chg {X : Nat → Prop} {own : Nat → Nat} {s : CS} {n m : Nat} (hw : wfS s) : Frm X own own s (chg s n m) :=
  ⟨Nat.le_refl _, fun _ _ => rfl, fun _ _ _ => rfl, fun a h1 h2 => absurd h2 (Nat.not_lt.mpr h1), hw⟩
/-- a new cell of the part -/
theorem frm_nwc {X : Nat → Prop} {own : Nat → Nat} {s : CS} {T : Nat} {c : lCell} {n m : Nat} (hw : wfS s) (hx : X T) : Frm X own (giv own s.2.1 T) s (nwc s c n m).2 := by
  refine ⟨Nat.le_succ _, ?_, ?_, ?_, ?_⟩
  · intro a ha; unfold giv; rw [if_neg (by omega)]
  · intro a ha _
    show lUpd s.1 s.2.1 c a = s.1 a
    rw [lUpd_at, if_neg (by omega)]
  · intro a h1 h2
    have h2 : a < s.2.1 + 1 := h2
    have : a = s.2.1 := by omega
    subst this
    unfold giv; rw [if_pos rfl]; exact hx
  · intro a h1
    have h1 : s.2.1 + 1 ≤ a := h1
    show lUpd s.1 s.2.1 c a = none
    rw [lUpd_at, if_neg (by omega), hw a (by omega)]
theorem wf_lt {s : CS} {a : Nat} {c : lCell} (hw : wfS s) (h : s.1 a = some c) : a < s.2.1 := by
  rcases Nat.lt_or_ge a s.2.1 with e | e
  · exact e
  · rw [hw a e] at h; cases h
theorem wf_exs {s : CS} {k : Nat} (hw : wfS s) : wfS (exs s k) := by
  intro a h
  have h : s.2.1 + 1 ≤ a := h
  show lUpd s.1 s.2.1 _ a = none
  rw [lUpd_at, if_neg (by omega), hw a (by omega)]
/-- an operation of a part: both sides alike -/
def Res {α : Type} (X : Nat → Prop) (Y : Nat) (RX : (Nat → lHeap) → TS → Prop) (own : Nat → Nat) (s : CS) (t : TS) (n m : Nat) (c : Option (Sum (α × CS) (Nat × CS))) (d : Option (α × TS)) : Prop :=
  (∃ x s' t' own', c = some (.inl (x, s')) ∧ d = some (x, t') ∧ t'.1 0 = 0 ∧ (∀ Z, Z ≠ Y → Z ≠ 99 → rt t' Z = rt t Z) ∧ Frm X own own' s s' ∧ RX (rs s'.1 own') t' ∧ s'.2.2.1 ≤ s.2.2.1 + n ∧ s'.2.2.2 ≤ s.2.2.2 + m)
  ∨ (∃ x, c = some (.inr (s.2.1, exs s 11)) ∧ d = some (x, ptI t 0 1))
  ∨ (∃ x, c = some (.inr (s.2.1, exs s 12)) ∧ d = some (x, ptI t 0 2))
theorem bindId {α : Type} (o : Option (Sum (α × CS) (Nat × CS))) : Option.bind o (Sum.elim (fun x => some (.inl (x.1, x.2))) (fun q => some (.inr (q.1, q.2)))) = o := by
  cases o with
  | none => rfl
  | some z => cases z <;> rfl
theorem isIn_or (v n : Int32) : (if v < 0 then some (0 : Int32) else if v < n then some 1 else some 0) = some (if ¬ v < 0 ∧ v < n then 1 else 0) := by
  by_cases h1 : v < 0
  · simp [h1]
  · by_cases h2 : v < n
    · simp [h1, h2]
    · simp [h1, h2]
