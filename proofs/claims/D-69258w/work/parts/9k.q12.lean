/-! permits: what a row of steps makes, plain -/
section
variable {t : TS} {nf : Nat}
abbrev StP := List (Int64 × Int64)
noncomputable def pshR (r : Int32 × Int64 × Int64) (st : StP) : Sum (Int32 × Int64) StP := if r.1 = 0 then .inr ((r.2.1, r.2.2) :: st) else .inl (r.1, 0)
noncomputable def opSt (k : Int32) : StP → Sum (Int32 × Int64) StP
  | (c, d) :: (a, b) :: r => pshR (frop k a b c d) r
  | st => .inr st
/-- one step: 0 a number, 1 a name, else an operation -/
noncomputable def stp1 (t : TS) (nf : Nat) (k : Int32) (v : Int64) (st : StP) : Sum (Int32 × Int64) StP :=
  if k = 0 then pshR (frR v 1) st
  else if k = 1 then (fcI t v nf).elim (.inl (1, v)) (fun j => pshR (frR (t.2.2.1 78 j).toInt64 1) st)
  else opSt k st
noncomputable def evS (t : TS) (nf : Nat) : List (Int32 × Int64) → StP → Sum (Int32 × Int64) StP
  | [], st => .inr st
  | e :: l, st => Sum.elim .inl (evS t nf l) (stp1 t nf e.1 e.2 st)
theorem evS_1 (k : Int32) (v : Int64) (st : StP) : evS t nf [(k, v)] st = stp1 t nf k v st := by
  unfold evS
  cases stp1 t nf k v st <;> rfl
theorem evS_app (l1 l2 : List (Int32 × Int64)) (st : StP) : evS t nf (l1 ++ l2) st = Sum.elim .inl (evS t nf l2) (evS t nf l1 st) := by
  induction l1 generalizing st with
  | nil => rfl
  | cons e l ih =>
    show Sum.elim .inl (evS t nf (l ++ l2)) (stp1 t nf e.1 e.2 st) = Sum.elim .inl (evS t nf l2) (Sum.elim .inl (evS t nf l) (stp1 t nf e.1 e.2 st))
    cases stp1 t nf e.1 e.2 st with
    | inl x => rfl
    | inr x => exact ih x
/-- what a tree's row makes: something open, or one fraction more -/
def EvT (t : TS) (nf : Nat) (l : List (Int32 × Int64)) : Prop := (∃ e, e.1 ≠ 0 ∧ ∀ st, evS t nf l st = .inl e) ∨ ∃ x y, y ≠ 0 ∧ ∀ st, evS t nf l st = .inr ((x, y) :: st)
theorem pshR_fr {u l : Int64} (h : l ≠ 0) : (∃ e, e.1 ≠ 0 ∧ ∀ st, pshR (frR u l) st = .inl e) ∨ ∃ x y, y ≠ 0 ∧ ∀ st, pshR (frR u l) st = .inr ((x, y) :: st) := by
  unfold pshR frR
  by_cases z : frO u l = true
  · rw [if_pos z]
    exact Or.inl ⟨(2, 0), by decide, fun st => if_neg (by decide)⟩
  · rw [if_neg z]
    exact Or.inr ⟨frU u l, frL u l, frL_ne h, fun st => if_pos rfl⟩
theorem pshR_P {r : Int32 × Int64 × Int64} (o : Bool) (h : o = false → (∃ e, e.1 ≠ 0 ∧ ∀ st, pshR r st = .inl e) ∨ ∃ x y, y ≠ 0 ∧ ∀ st, pshR r st = .inr ((x, y) :: st)) : (∃ e, e.1 ≠ 0 ∧ ∀ st, pshR (frP o r) st = .inl e) ∨ ∃ x y, y ≠ 0 ∧ ∀ st, pshR (frP o r) st = .inr ((x, y) :: st) := by
  cases o with
  | true => exact Or.inl ⟨(2, 0), by decide, fun st => if_neg (show ¬ (2 : Int32) = 0 by decide)⟩
  | false => exact h rfl
theorem pshR_op (k : Int32) {a b c d : Int64} (hb : b ≠ 0) (hd : d ≠ 0) : (∃ e, e.1 ≠ 0 ∧ ∀ st, pshR (frop k a b c d) st = .inl e) ∨ ∃ x y, y ≠ 0 ∧ ∀ st, pshR (frop k a b c d) st = .inr ((x, y) :: st) := by
  have nt : ∀ {o : Bool}, o = false → ¬ o = true := fun h w => by rw [h] at w; exact absurd w (by decide)
  unfold frop
  by_cases k5 : k = 5
  · rw [if_pos k5]
    by_cases c0 : c = 0
    · rw [if_pos c0]
      exact Or.inl ⟨(3, 0), by decide, fun st => if_neg (show ¬ (3 : Int32) = 0 by decide)⟩
    · rw [if_neg c0]
      exact pshR_P _ (fun _ => pshR_P _ (fun h => pshR_fr (ovM_ne (nt h) hb c0)))
  · rw [if_neg k5]
    by_cases k4 : k = 4
    · rw [if_pos k4]
      exact pshR_P _ (fun _ => pshR_P _ (fun h => pshR_fr (ovM_ne (nt h) hb hd)))
    · rw [if_neg k4]
      by_cases k3 : k = 3
      · rw [if_pos k3]
        exact pshR_P _ (fun _ => pshR_P _ (fun _ => pshR_P _ (fun _ => pshR_P _ (fun h => pshR_fr (ovM_ne (nt h) hb hd)))))
      · rw [if_neg k3]
        exact pshR_P _ (fun _ => pshR_P _ (fun _ => pshR_P _ (fun _ => pshR_P _ (fun h => pshR_fr (ovM_ne (nt h) hb hd)))))
theorem EvT_PT {h : lHeap} {n a : Nat} {l : List (Int32 × Int64)} (r : PT h n a l) : EvT t nf l := by
  induction n generalizing a l with
  | zero => exact absurd r id
  | succ n ih =>
    unfold PT at r
    rcases r with ⟨v, r1, rfl⟩ | ⟨b, w, xs, r1, r2, r3, rfl⟩ | ⟨c, k, b1, b2, l1, l2, r1, r2, r3, r4, rfl⟩
    · have e : ∀ st, evS t nf [(0, v.toInt64)] st = pshR (frR v.toInt64 1) st := fun st => (evS_1 ..).trans (if_pos rfl)
      unfold EvT
      simp only [e]
      exact pshR_fr (by decide)
    · cases f : fcI t (nmL xs) nf with
      | none =>
        refine Or.inl ⟨(1, nmL xs), by show (1 : Int32) ≠ 0; decide, fun st => ?_⟩
        rw [evS_1]
        unfold stp1
        rw [if_neg (by decide), if_pos rfl, f]; rfl
      | some j =>
        have e : ∀ st, evS t nf [(1, nmL xs)] st = pshR (frR (t.2.2.1 78 j).toInt64 1) st := fun st => by
          rw [evS_1]
          unfold stp1
          rw [if_neg (by decide), if_pos rfl, f]; rfl
        unfold EvT
        simp only [e]
        exact pshR_fr (by decide)
    · have k01 : k ≠ 0 ∧ k ≠ 1 := by
        rcases r2 with ⟨_, z⟩ | ⟨_, z⟩ | ⟨_, z⟩ | ⟨_, z⟩ <;> rw [z] <;> decide
      rcases ih r3 with ⟨e, e0, h1⟩ | ⟨x, y, y0, h1⟩
      · exact Or.inl ⟨e, e0, fun st => by rw [List.append_assoc, evS_app, h1]; rfl⟩
      · rcases ih r4 with ⟨e, e0, h2⟩ | ⟨x2, y2, y20, h2⟩
        · exact Or.inl ⟨e, e0, fun st => by rw [List.append_assoc, evS_app, h1, Sum.elim_inr, evS_app, h2]; rfl⟩
        · have e : ∀ st, evS t nf (l1 ++ l2 ++ [(k, 0)]) st = pshR (frop k x y x2 y2) st := fun st => by
            rw [List.append_assoc, evS_app, h1, Sum.elim_inr, evS_app, h2, Sum.elim_inr]
            rw [evS_1]
            unfold stp1
            rw [if_neg k01.1, if_neg k01.2]; rfl
          unfold EvT
          simp only [e]
          exact pshR_op k y0 y20
end
