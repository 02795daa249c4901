/-! what a function of the reference leaves alone -/
def Ok {A : Type} (P : A → Prop) (o : Option A) : Prop := True ∧ ∀ x, o = some x → P x
def Fr (R : Nat → Prop) (t t' : TS) : Prop := t'.1 = t.1 ∧ ∀ c j, ¬ R c → t'.2.2.1 c j = t.2.2.1 c j
theorem Fr.rf {R : Nat → Prop} {t : TS} : Fr R t t := ⟨rfl, fun _ _ _ => rfl⟩
theorem Fr.tr {R : Nat → Prop} {t t1 t2 : TS} (h : Fr R t t1) (k : Fr R t1 t2) : Fr R t t2 := ⟨k.1.trans h.1, fun c j q => (k.2 c j q).trans (h.2 c j q)⟩
theorem ok_some {A : Type} {P : A → Prop} {x : A} (h : P x) : Ok P (some x) := ⟨trivial, fun _ e => Option.some.inj e ▸ h⟩
theorem ok_ite {A : Type} {P : A → Prop} {c : Prop} [Decidable c] {a b : Option A} (h1 : Ok P a) (h2 : Ok P b) : Ok P (if c then a else b) := by split <;> assumption
theorem ok_I {A : Type} {P : A → Prop} {o : Option Int32} {f : Int32 → Option A} (h : ∀ x, Ok P (f x)) : Ok P (Option.bind o f) := ⟨trivial, fun y e => by
  obtain ⟨x, _, e2⟩ := Option.bind_eq_some_iff.mp e
  exact (h x).2 y e2⟩
theorem ok_T {A : Type} {P : A → Prop} {R : Nat → Prop} {t : TS} {o : Option TS} {f : TS → Option A} (h1 : Ok (Fr R t) o) (h : ∀ x, Fr R t x → Ok P (f x)) : Ok P (Option.bind o f) := ⟨trivial, fun y e => by
  obtain ⟨x, e1, e2⟩ := Option.bind_eq_some_iff.mp e
  exact (h x (h1.2 x e1)).2 y e2⟩
theorem ok_S {A : Type} {P : A → Prop} {R : Nat → Prop} {t : TS} {o : Option (Unit ⊕ TS)} {f : Unit ⊕ TS → Option A} (h1 : Ok (fun q => Sum.elim (fun _ => True) (Fr R t) q) o) (h2 : Ok P (f (.inl ()))) (h : ∀ x, Fr R t x → Ok P (f (.inr x))) : Ok P (Option.bind o f) := ⟨trivial, fun y e => by
  obtain ⟨x, e1, e2⟩ := Option.bind_eq_some_iff.mp e
  cases x with
  | inl u => exact h2.2 y e2
  | inr x => exact (h x (h1.2 _ e1)).2 y e2⟩
theorem ok_st {R : Nat → Prop} {t s : TS} {c l : Nat} {k v : Int32} (h : Fr R t s) (hc : R c) : Ok (Fr R t) (stI s c l k v) := ⟨trivial, fun y e => by
  unfold stI at e
  split at e
  · obtain rfl := Option.some.inj e
    exact ⟨h.1, fun q j hq => by rw [wr_at, if_neg (fun z : q = c ∧ j = k.toNatClampNeg => hq (by rw [z.1]; exact hc))]; exact h.2 q j hq⟩
  · cases e⟩
theorem ok_wh {R : Nat → Prop} {t : TS} {step : TS × Int32 → Option ((TS × Int32) ⊕ TS)} {p : TS × Int32} (h : ∀ q, Fr R t q.1 → Ok (fun z => Sum.elim (fun w => Fr R t w.1) (Fr R t) z) (step q)) (hp : Fr R t p.1) : Ok (Fr R t) (wh step p) := ⟨trivial, fun y e => by
  obtain ⟨n, hn⟩ := wh_to e
  clear e
  induction n generalizing p with
  | zero => cases hn
  | succ n ih =>
    unfold whn at hn
    have hs := h p hp
    cases es : step p with
    | none => rw [es] at hn; cases hn
    | some z =>
      rw [es] at hn
      cases z with
      | inl q => exact ih (hs.2 _ es) hn
      | inr x => obtain rfl := Option.some.inj hn; exact hs.2 _ es⟩
abbrev RSt (c : Nat) : Prop := 143 ≤ c ∧ c ≤ 154
theorem fr_826 {t u : TS} {a : Int32} (hu : Fr RSt t u) : Ok (Fr RSt t) (t_826 a u) := by
  unfold t_826
  repeat (first | assumption | exact trivial | apply ok_ite | apply ok_I | (refine ok_T (R := RSt) (t := t) (ok_st ?_ (by constructor <;> decide)) ?_) | (refine ok_T (R := RSt) (t := t) (ok_wh ?_ ?_) ?_) | (refine ok_T (R := RSt) (t := t) ?_ ?_) | (refine ok_S (R := RSt) (t := t) ?_ ?_ ?_) | apply ok_some | intro)
theorem fr_832 {t u : TS} {a b : Int32} (hu : Fr RSt t u) : Ok (Fr RSt t) (t_832 a b u) := by
  unfold t_832
  repeat (first | assumption | exact trivial | (refine ok_T (R := RSt) (t := t) (fr_826 (by assumption)) ?_) | apply ok_ite | apply ok_I | (refine ok_T (R := RSt) (t := t) (ok_st ?_ (by constructor <;> decide)) ?_) | (refine ok_T (R := RSt) (t := t) (ok_wh ?_ ?_) ?_) | (refine ok_T (R := RSt) (t := t) ?_ ?_) | (refine ok_S (R := RSt) (t := t) ?_ ?_ ?_) | apply ok_some | intro)
theorem fr_833 {t u : TS} (hu : Fr RSt t u) : Ok (Fr RSt t) (t_833 u) := by
  unfold t_833
  repeat (first | assumption | exact trivial | (refine ok_T (R := RSt) (t := t) (fr_826 (by assumption)) ?_) | apply ok_ite | apply ok_I | (refine ok_T (R := RSt) (t := t) (ok_st ?_ (by constructor <;> decide)) ?_) | (refine ok_T (R := RSt) (t := t) (ok_wh ?_ ?_) ?_) | (refine ok_T (R := RSt) (t := t) ?_ ?_) | (refine ok_S (R := RSt) (t := t) ?_ ?_ ?_) | apply ok_some | intro)
theorem fr_838 {t u : TS} {a : Int32} (hu : Fr RSt t u) : Ok (Fr RSt t) (t_838 a u) := by
  unfold t_838
  repeat (first | assumption | exact trivial | (refine ok_T (R := RSt) (t := t) (fr_826 (by assumption)) ?_) | apply ok_ite | apply ok_I | (refine ok_T (R := RSt) (t := t) (ok_st ?_ (by constructor <;> decide)) ?_) | (refine ok_T (R := RSt) (t := t) (ok_wh ?_ ?_) ?_) | (refine ok_T (R := RSt) (t := t) ?_ ?_) | (refine ok_S (R := RSt) (t := t) ?_ ?_ ?_) | apply ok_some | intro)
theorem fr_842 {t u : TS} {a : Int32} (hu : Fr RSt t u) : Ok (Fr RSt t) (t_842 a u) := by
  unfold t_842
  repeat (first | assumption | exact trivial | (refine ok_T (R := RSt) (t := t) (fr_826 (by assumption)) ?_) | apply ok_ite | apply ok_I | (refine ok_T (R := RSt) (t := t) (ok_st ?_ (by constructor <;> decide)) ?_) | (refine ok_T (R := RSt) (t := t) (ok_wh ?_ ?_) ?_) | (refine ok_T (R := RSt) (t := t) ?_ ?_) | (refine ok_S (R := RSt) (t := t) ?_ ?_ ?_) | apply ok_some | intro)
