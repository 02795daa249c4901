/-! permits: words of a text, plain -/
section
def dgB (c : Nat) : Bool := decide (48 ≤ c ∧ c ≤ 57)
def ltB (c : Nat) : Bool := decide (97 ≤ c ∧ c ≤ 122)
def spB (c : Nat) : Bool := decide (c = 32)
def sgns : List Nat := [43, 45, 42, 47, 40, 41, 60, 61, 62, 58, 59, 33, 64]
/-- the word at the head of a row -/
def tkC : List Nat → List Nat
  | [] => []
  | c :: r => if dgB c = true then (c :: r).takeWhile dgB else if ltB c = true then (c :: r).takeWhile ltB else if (c = 60 ∨ c = 62) ∧ r.head? = some 61 then [c, 61] else [c]
/-- whether it may be -/
def tkO : List Nat → Bool
  | [] => true
  | c :: r => if dgB c = true then decide (r.length < 9) else if ltB c = true then decide (r.length < 8) else if r = [] then sgns.contains c else true
def tkK : List Nat → Nat
  | [] => 0
  | c :: r => if dgB c = true then 1 else if ltB c = true then 2 else if r = [] then c else c + 256
def dgS (v : Int64) (c : Nat) : Int64 := 10 * v + (Int32.ofNat c).toInt64 - 48
def tkV : List Nat → Int64
  | [] => 0
  | c :: r => if dgB c = true then (c :: r).foldl dgS 0 else if ltB c = true then nmL (c :: r) else 0
theorem tkC_c (c : Nat) (r : List Nat) : tkC (c :: r) = if dgB c = true then (c :: r).takeWhile dgB else if ltB c = true then (c :: r).takeWhile ltB else if (c = 60 ∨ c = 62) ∧ r.head? = some 61 then [c, 61] else [c] := rfl
theorem tkO_c (c : Nat) (r : List Nat) : tkO (c :: r) = if dgB c = true then decide (r.length < 9) else if ltB c = true then decide (r.length < 8) else if r = [] then sgns.contains c else true := rfl
theorem tkK_c (c : Nat) (r : List Nat) : tkK (c :: r) = if dgB c = true then 1 else if ltB c = true then 2 else if r = [] then c else c + 256 := rfl
theorem tkV_c (c : Nat) (r : List Nat) : tkV (c :: r) = if dgB c = true then (c :: r).foldl dgS 0 else if ltB c = true then nmL (c :: r) else 0 := rfl
/-- the first place that isn't blank -/
def skp (x : List Nat) (p : Nat) : Nat := p + ((x.drop p).takeWhile spB).length
theorem wh_st {A X : Type} {f : A → Option (A ⊕ X)} {x : X} : ∀ {n : Nat} (st : Nat → A), (∀ j, j < n → f (st j) = some (.inl (st (j + 1)))) → f (st n) = some (.inr x) → wh f (st 0) = some x := by
  intro n
  induction n with
  | zero => intro st _ h2; exact wh_inr h2
  | succ n ih =>
    intro st h1 h2
    rw [wh_inl (h1 0 (Nat.succ_pos n))]
    exact ih (fun j => st (j + 1)) (fun j hj => h1 (j + 1) (by omega)) h2
theorem tw_in {B : Nat → Bool} : ∀ {y : List Nat} {j : Nat}, j < (y.takeWhile B).length → ∃ h : j < y.length, B y[j] = true ∧ (y.takeWhile B)[j]? = some y[j] := by
  intro y
  induction y with
  | nil => intro j h; simp at h
  | cons c r ih =>
    intro j h
    by_cases z : B c = true
    · rw [List.takeWhile_cons_of_pos z] at h ⊢
      cases j with
      | zero => exact ⟨by simp, z, rfl⟩
      | succ j =>
        obtain ⟨h1, h2, h3⟩ := ih (j := j) (by simpa using h)
        exact ⟨by simpa using h1, by simpa using h2, by simpa using h3⟩
    · rw [List.takeWhile_cons_of_neg z] at h; simp at h
theorem tw_out {B : Nat → Bool} : ∀ {y : List Nat} (h : (y.takeWhile B).length < y.length), B y[(y.takeWhile B).length] = false := by
  intro y
  induction y with
  | nil => intro h; simp at h
  | cons c r ih =>
    intro h
    by_cases z : B c = true
    · have e : (c :: r).takeWhile B = c :: r.takeWhile B := List.takeWhile_cons_of_pos z
      have h' : (r.takeWhile B).length < r.length := by rw [e] at h; simpa using h
      have := ih h'
      simp only [e, List.length_cons, List.getElem_cons_succ]
      exact this
    · have e : (c :: r).takeWhile B = [] := List.takeWhile_cons_of_neg z
      simp only [e, List.length_nil, List.getElem_cons_zero]
      simpa using z
theorem tw_le {B : Nat → Bool} (y : List Nat) : (y.takeWhile B).length ≤ y.length := (List.takeWhile_sublist B).length_le
theorem tw_take {B : Nat → Bool} (y : List Nat) : y.takeWhile B = y.take (y.takeWhile B).length := by
  induction y with
  | nil => rfl
  | cons c r ih =>
    by_cases z : B c = true
    · rw [List.takeWhile_cons_of_pos z, List.length_cons, List.take_succ_cons, ← ih]
    · rw [List.takeWhile_cons_of_neg z]; rfl
theorem skp_le {x : List Nat} {p : Nat} (h : p ≤ x.length) : p ≤ skp x p ∧ skp x p ≤ x.length := by
  unfold skp
  have := tw_le (B := spB) (x.drop p)
  rw [List.length_drop] at this
  omega
theorem skp_in {x : List Nat} {p j : Nat} (h1 : p ≤ j) (h2 : j < skp x p) : ∃ h : j < x.length, x[j] = 32 := by
  unfold skp at h2
  obtain ⟨h, e, _⟩ := tw_in (B := spB) (y := x.drop p) (j := j - p) (by omega)
  rw [List.length_drop] at h
  refine ⟨by omega, ?_⟩
  rw [List.getElem_drop] at e
  simp only [show p + (j - p) = j by omega] at e
  exact of_decide_eq_true e
theorem skp_out {x : List Nat} {p : Nat} (hp : p ≤ x.length) (h : skp x p < x.length) : x[skp x p] ≠ 32 := by
  have h' : ((x.drop p).takeWhile spB).length < (x.drop p).length := by
    rw [List.length_drop]; unfold skp at h; omega
  have e := tw_out (B := spB) h'
  rw [List.getElem_drop] at e
  exact of_decide_eq_false e
theorem tkC_take (y : List Nat) : tkC y = y.take (tkC y).length := by
  cases y with
  | nil => rfl
  | cons c r =>
    rw [tkC_c]
    by_cases d : dgB c = true
    · rw [if_pos d]; exact tw_take _
    · rw [if_neg d]
      by_cases l : ltB c = true
      · rw [if_pos l]; exact tw_take _
      · rw [if_neg l]
        by_cases z : (c = 60 ∨ c = 62) ∧ r.head? = some 61
        · rw [if_pos z]
          obtain ⟨a, rr, rfl⟩ : ∃ a rr, r = a :: rr := by
            cases r with
            | nil => exact absurd z.2 (by simp)
            | cons a rr => exact ⟨a, rr, rfl⟩
          have : a = 61 := by simpa using z.2
          rw [this]; rfl
        · rw [if_neg z]; rfl
theorem tkC_ne {c : Nat} {r : List Nat} : ∃ w, tkC (c :: r) = c :: w := by
  rw [tkC_c]
  by_cases d : dgB c = true
  · rw [if_pos d]; exact ⟨_, List.takeWhile_cons_of_pos d⟩
  · rw [if_neg d]
    by_cases l : ltB c = true
    · rw [if_pos l]; exact ⟨_, List.takeWhile_cons_of_pos l⟩
    · rw [if_neg l]
      by_cases z : (c = 60 ∨ c = 62) ∧ r.head? = some 61
      · rw [if_pos z]; exact ⟨_, rfl⟩
      · rw [if_neg z]; exact ⟨_, rfl⟩
theorem tkC_le (y : List Nat) : (tkC y).length ≤ y.length := by
  rw [tkC_take y, List.length_take]; omega
/-- where the k-th word begins and ends -/
def tkS (x : List Nat) : Nat → Nat × Nat
  | 0 => (0, 0)
  | k + 1 => (skp x (tkS x k).2, skp x (tkS x k).2 + (tkC (x.drop (skp x (tkS x k).2))).length)
def tkW (x : List Nat) (k : Nat) : List Nat := if k = 0 then [] else tkC (x.drop (tkS x k).1)
theorem tkS_le (x : List Nat) (k : Nat) : (tkS x k).1 ≤ (tkS x k).2 ∧ (tkS x k).2 ≤ x.length := by
  induction k with
  | zero => exact ⟨Nat.le_refl _, Nat.zero_le _⟩
  | succ k ih =>
    have h := skp_le ih.2
    have := tkC_le (x.drop (skp x (tkS x k).2))
    rw [List.length_drop] at this
    show skp x (tkS x k).2 ≤ skp x (tkS x k).2 + _ ∧ skp x (tkS x k).2 + _ ≤ _
    omega
theorem tkW_s (x : List Nat) (k : Nat) : tkW x (k + 1) = tkC (x.drop (tkS x (k + 1)).1) := if_neg (by omega)
theorem tkW_len (x : List Nat) (k : Nat) : (tkS x (k + 1)).2 = (tkS x (k + 1)).1 + (tkW x (k + 1)).length := by rw [tkW_s]; rfl
theorem tkW_nil (x : List Nat) (k : Nat) : tkW x (k + 1) = [] ↔ (tkS x (k + 1)).1 = x.length := by
  rw [tkW_s]
  have h1 : (tkS x (k + 1)).1 ≤ x.length := Nat.le_trans (tkS_le x (k + 1)).1 (tkS_le x (k + 1)).2
  cases h : x.drop (tkS x (k + 1)).1 with
  | nil =>
    have := List.drop_eq_nil_iff.mp h
    exact ⟨fun _ => by omega, fun _ => rfl⟩
  | cons c r =>
    obtain ⟨w, e⟩ := tkC_ne (c := c) (r := r)
    rw [e]
    refine ⟨fun z => (List.cons_ne_nil _ _ z).elim, fun z => ?_⟩
    rw [z, List.drop_length] at h
    cases h
end
