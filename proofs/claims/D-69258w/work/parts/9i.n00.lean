/-! the plan: lines, points, pieces -/
abbrev PLn : Type := Nat → Nat × Nat × Bool × Nat
def pX (L : PLn) (l : Nat) : Nat := (L l).1
def pY (L : PLn) (l : Nat) : Nat := (L l).2.1
def pFl (L : PLn) (l : Nat) : Bool := (L l).2.2.1
def pN (L : PLn) (l : Nat) : Nat := (L l).2.2.2
def pHX (L : PLn) (l : Nat) : Nat := pX L l + (if pFl L l = true then pN L l else 0)
def pHY (L : PLn) (l : Nat) : Nat := pY L l + (if pFl L l = true then 0 else pN L l)
/-- the point at a distance from the low end -/
def aX (L : PLn) (l d : Nat) : Nat := pX L l + (if pFl L l = true then d else 0)
def aY (L : PLn) (l d : Nat) : Nat := pY L l + (if pFl L l = true then 0 else d)
def onL (L : PLn) (l x y : Nat) : Prop := pX L l ≤ x ∧ x ≤ pHX L l ∧ pY L l ≤ y ∧ y ≤ pHY L l
/-- lines that lie along one another have at most an end in common -/
def nov (L : PLn) (l m : Nat) : Prop := pFl L l = pFl L m → (if pFl L l = true then pY L l ≠ pY L m ∨ pHX L l ≤ pX L m ∨ pHX L m ≤ pX L l else pX L l ≠ pX L m ∨ pHY L l ≤ pY L m ∨ pHY L m ≤ pY L l)
def gdL (L : PLn) (nl : Nat) : Prop := nl ≤ 20 ∧ (∀ l, l < nl → 0 < pN L l ∧ pHX L l ≤ 24 ∧ pHY L l ≤ 24) ∧ ∀ l m, l < nl → m < nl → l ≠ m → nov L l m
def endL (L : PLn) (l x y : Nat) : Prop := (x = pX L l ∧ y = pY L l) ∨ (x = pHX L l ∧ y = pHY L l)
def isPt (L : PLn) (nl x y : Nat) : Prop := ∃ l, l < nl ∧ onL L l x y ∧ (endL L l x y ∨ ∃ m, m < nl ∧ pFl L m ≠ pFl L l ∧ onL L m x y)
noncomputable def cts (L : PLn) (nl l : Nat) : List Nat := by classical exact ((List.range (pN L l + 1)).filter (fun d => decide (isPt L nl (aX L l d) (aY L l d))))
def prsC : List Nat → List (Nat × Nat)
  | a :: b :: r => (a, b) :: prsC (b :: r)
  | _ => []
theorem prs_snoc (xs : List Nat) (a b : Nat) : prsC (xs ++ [a, b]) = prsC (xs ++ [a]) ++ [(a, b)] := by
  induction xs with
  | nil => rfl
  | cons x r ih =>
    cases r with
    | nil => rfl
    | cons y r => exact congrArg (List.cons (x, y)) ih
theorem prs_mem {xs : List Nat} (hp : xs.Pairwise (· < ·)) {a b : Nat} (h : (a, b) ∈ prsC xs) : a ∈ xs ∧ b ∈ xs ∧ a < b ∧ ∀ c ∈ xs, c ≤ a ∨ b ≤ c := by
  induction xs with
  | nil => cases h
  | cons x r ih =>
    cases r with
    | nil => cases h
    | cons y r =>
      have hp' := (List.pairwise_cons.mp hp)
      rcases List.mem_cons.mp h with e | e
      · obtain ⟨rfl, rfl⟩ := Prod.mk.inj e
        refine ⟨by simp, by simp, hp'.1 _ (by simp), fun c hc => ?_⟩
        rcases List.mem_cons.mp hc with rfl | hc
        · exact Or.inl (Nat.le_refl _)
        · rcases List.mem_cons.mp hc with rfl | hc
          · exact Or.inr (Nat.le_refl _)
          · exact Or.inr (Nat.le_of_lt ((List.pairwise_cons.mp hp'.2).1 c hc))
      · obtain ⟨h1, h2, h3, h4⟩ := ih hp'.2 e
        refine ⟨List.mem_cons_of_mem _ h1, List.mem_cons_of_mem _ h2, h3, fun c hc => ?_⟩
        rcases List.mem_cons.mp hc with rfl | hc
        · exact Or.inl (Nat.le_of_lt (hp'.1 a h1))
        · exact h4 c hc
theorem prs_cov {xs : List Nat} (hp : xs.Pairwise (· < ·)) {u v c : Nat} (hu : u ∈ xs) (hv : v ∈ xs) (h1 : u ≤ c) (h2 : c < v) : ∃ a b, (a, b) ∈ prsC xs ∧ a ≤ c ∧ c < b := by
  induction xs generalizing u v with
  | nil => cases hu
  | cons x r ih =>
    have hp' := (List.pairwise_cons.mp hp)
    have hxc : x ≤ c := by
      rcases List.mem_cons.mp hu with rfl | hu
      · exact h1
      · have := hp'.1 u hu; omega
    have hv' : v ∈ r := by
      rcases List.mem_cons.mp hv with rfl | hv
      · omega
      · exact hv
    cases r with
    | nil => cases hv'
    | cons y r =>
      by_cases hy : c < y
      · exact ⟨x, y, List.mem_cons_self, hxc, hy⟩
      · obtain ⟨a, b, h3, h4⟩ := ih hp'.2 (u := y) (by simp) hv' (by omega)  h2
        exact ⟨a, b, List.mem_cons_of_mem _ h3, h4⟩
theorem prs_pw {xs : List Nat} (hp : xs.Pairwise (· < ·)) : (prsC xs).Pairwise (fun p q => p.2 ≤ q.1) := by
  induction xs with
  | nil => exact List.Pairwise.nil
  | cons x r ih =>
    have hp' := (List.pairwise_cons.mp hp)
    cases r with
    | nil => exact List.Pairwise.nil
    | cons y r =>
      refine List.pairwise_cons.mpr ⟨?_, ih hp'.2⟩
      rintro ⟨a, b⟩ hq
      have h1 := (prs_mem hp'.2 hq).1
      rcases List.mem_cons.mp h1 with rfl | h1
      · exact Nat.le_refl _
      · exact Nat.le_of_lt ((List.pairwise_cons.mp hp'.2).1 a h1)
theorem prs_len : ∀ (xs : List Nat), (prsC xs).length = xs.length - 1
  | [] => rfl
  | [_] => rfl
  | a :: b :: r => by
    show (prsC (b :: r)).length + 1 = _
    rw [prs_len (b :: r)]
    simp
/-! pieces: line, from, to -/
noncomputable def pcL (L : PLn) (nl l : Nat) : List (Nat × Nat × Nat) := (prsC (cts L nl l)).map (fun q => (l, q.1, q.2))
noncomputable def PC (L : PLn) (nl n : Nat) : List (Nat × Nat × Nat) := (List.range n).flatMap (pcL L nl)
section PCS
variable {L : PLn} {nl : Nat}
theorem cts_mem {l d : Nat} : by classical exact (d ∈ cts L nl l ↔ d ≤ pN L l ∧ isPt L nl (aX L l d) (aY L l d)) := by
  classical
  unfold cts
  rw [List.mem_filter, List.mem_range, decide_eq_true_eq, Nat.lt_succ_iff]
theorem cts_pw (l : Nat) : (cts L nl l).Pairwise (· < ·) := List.pairwise_lt_range.sublist List.filter_sublist
theorem a_on {l d : Nat} (h : d ≤ pN L l) : onL L l (aX L l d) (aY L l d) := by
  unfold onL aX aY pHX pHY
  split <;> omega
theorem cts_0 {l : Nat} (hl : l < nl) : 0 ∈ cts L nl l := by
  refine cts_mem.mpr ⟨Nat.zero_le _, l, hl, a_on (Nat.zero_le _), Or.inl (Or.inl ?_)⟩
  unfold aX aY
  constructor <;> split <;> rfl
theorem cts_N {l : Nat} (hl : l < nl) : pN L l ∈ cts L nl l := by
  refine cts_mem.mpr ⟨Nat.le_refl _, l, hl, a_on (Nat.le_refl _), Or.inl (Or.inr ?_)⟩
  unfold aX aY pHX pHY
  constructor <;> split <;> rfl
theorem PC_succ (n : Nat) : PC L nl (n + 1) = PC L nl n ++ pcL L nl n := by
  unfold PC
  rw [List.range_succ, List.flatMap_append]
  simp
theorem PC_mem {n : Nat} {q : Nat × Nat × Nat} : q ∈ PC L nl n ↔ q.1 < n ∧ (q.2.1, q.2.2) ∈ prsC (cts L nl q.1) := by
  unfold PC pcL
  rw [List.mem_flatMap]
  constructor
  · rintro ⟨l, h1, h2⟩
    obtain ⟨z, h3, rfl⟩ := List.mem_map.mp h2
    exact ⟨List.mem_range.mp h1, h3⟩
  · rintro ⟨h1, h2⟩
    exact ⟨q.1, List.mem_range.mpr h1, List.mem_map.mpr ⟨_, h2, rfl⟩⟩
theorem PC_pw (n : Nat) : (PC L nl n).Pairwise (fun p q => p.1 < q.1 ∨ (p.1 = q.1 ∧ p.2.2 ≤ q.2.1)) := by
  induction n with
  | zero => exact List.Pairwise.nil
  | succ n ih =>
    rw [PC_succ]
    refine List.pairwise_append.mpr ⟨ih, ?_, ?_⟩
    · unfold pcL
      rw [List.pairwise_map]
      exact (prs_pw (cts_pw n)).imp (fun h => Or.inr ⟨rfl, h⟩)
    · intro p hp q hq
      obtain ⟨z, _, rfl⟩ := List.mem_map.mp hq
      exact Or.inl (PC_mem.mp hp).1
/-- the piece p: its line, from where, to where -/
noncomputable def kL (L : PLn) (nl p : Nat) : Nat := ((PC L nl nl).getD p (0, 0, 0)).1
noncomputable def kAn (L : PLn) (nl p : Nat) : Nat := ((PC L nl nl).getD p (0, 0, 0)).2.1
noncomputable def kB (L : PLn) (nl p : Nat) : Nat := ((PC L nl nl).getD p (0, 0, 0)).2.2
noncomputable def nP (L : PLn) (nl : Nat) : Nat := (PC L nl nl).length
theorem k_mem {p : Nat} (h : p < nP L nl) : (kL L nl p, kAn L nl p, kB L nl p) ∈ PC L nl nl := by
  unfold kL kAn kB
  rw [List.getD_eq_getElem?_getD, List.getElem?_eq_getElem h]
  exact List.getElem_mem h
theorem k_in {p : Nat} (h : p < nP L nl) : kL L nl p < nl ∧ kAn L nl p < kB L nl p ∧ kB L nl p ≤ pN L (kL L nl p) ∧ isPt L nl (aX L (kL L nl p) (kAn L nl p)) (aY L (kL L nl p) (kAn L nl p)) ∧ isPt L nl (aX L (kL L nl p) (kB L nl p)) (aY L (kL L nl p) (kB L nl p)) ∧ ∀ d, kAn L nl p < d → d < kB L nl p → ¬ isPt L nl (aX L (kL L nl p) d) (aY L (kL L nl p) d) := by
  obtain ⟨h1, h2⟩ := PC_mem.mp (k_mem h)
  obtain ⟨h3, h4, h5, h6⟩ := prs_mem (cts_pw _) h2
  have h7 := cts_mem.mp h3
  have h8 := cts_mem.mp h4
  refine ⟨h1, h5, h8.1, h7.2, h8.2, fun d g1 g2 g3 => ?_⟩
  have g1 : kAn L nl p < d := g1
  have g2 : d < kB L nl p := g2
  have h8' : kB L nl p ≤ pN L (kL L nl p) := h8.1
  have := h6 d (cts_mem.mpr ⟨by show d ≤ pN L (kL L nl p); omega, g3⟩)
  have : d ≤ kAn L nl p ∨ kB L nl p ≤ d := this
  omega
theorem k_cov {l d : Nat} (hl : l < nl) (hd : d < pN L l) : ∃ p, p < nP L nl ∧ kL L nl p = l ∧ kAn L nl p ≤ d ∧ d < kB L nl p := by
  obtain ⟨a, b, h1, h2, h3⟩ := prs_cov (cts_pw l) (cts_0 hl) (cts_N hl) (Nat.zero_le d) hd
  obtain ⟨p, h4, h5⟩ := List.getElem_of_mem (PC_mem.mpr (show (l, a, b).1 < nl ∧ _ from ⟨hl, h1⟩))
  have e : (PC L nl nl).getD p (0, 0, 0) = (l, a, b) := by
    rw [List.getD_eq_getElem?_getD, List.getElem?_eq_getElem h4, h5]; rfl
  refine ⟨p, h4, ?_⟩
  unfold kL kAn kB
  rw [e]
  exact ⟨rfl, h2, h3⟩
theorem k_uni {p q d : Nat} (hp : p < nP L nl) (hq : q < nP L nl) (e : kL L nl p = kL L nl q) (h1 : kAn L nl p ≤ d) (h2 : d < kB L nl p) (h3 : kAn L nl q ≤ d) (h4 : d < kB L nl q) : p = q := by
  have key : ∀ p q, p < nP L nl → q < nP L nl → p < q → kL L nl p < kL L nl q ∨ (kL L nl p = kL L nl q ∧ kB L nl p ≤ kAn L nl q) := by
    intro p q hp hq hpq
    have := List.pairwise_iff_getElem.mp (PC_pw (L := L) (nl := nl) nl) p q hp hq hpq
    unfold kL kAn kB
    rw [List.getD_eq_getElem?_getD, List.getElem?_eq_getElem hp, List.getD_eq_getElem?_getD, List.getElem?_eq_getElem hq]
    exact this
  rcases Nat.lt_trichotomy p q with h | h | h
  · have := key p q hp hq h; omega
  · exact h
  · have := key q p hq hp h; omega
end PCS
