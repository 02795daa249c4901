/-! the plan: the grid of cells -/
def colO (xs : List Nat) (i : Int) : Nat := (xs.filter (fun x : Nat => decide ((x : Int) ≤ i))).length
def Tok (L : PLn) (nl : Nat) (T : Int → Int → Prop) : Prop := (∀ i j, ¬ gwV (gS L nl) (2 * nP L nl) i j → (T (i - 1) j ↔ T i j)) ∧ ∀ i j, ¬ gwH (gS L nl) (2 * nP L nl) i j → (T i (j - 1) ↔ T i j)
def TG (L : PLn) (nl : Nat) (T : Int → Int → Prop) (k : Nat) : Prop := T (rep (edX L nl) (k % 42)) (rep (edY L nl) (k / 42))
/-- cells of the grid that hang together -/
def cnG (L : PLn) (nl k k' : Nat) : Prop := ∀ T, Tok L nl T → (TG L nl T k ↔ TG L nl T k')
def grC (L : PLn) (nl k : Nat) : Prop := k % 42 ≤ (edX L nl).length ∧ k / 42 ≤ (edY L nl).length
theorem cnG_refl {L : PLn} {nl k : Nat} : cnG L nl k k := fun _ _ => Iff.rfl
theorem cnG_symm {L : PLn} {nl k k' : Nat} (h : cnG L nl k k') : cnG L nl k' k := fun T hT => (h T hT).symm
theorem cnG_trans {L : PLn} {nl k k' k'' : Nat} (h : cnG L nl k k') (g : cnG L nl k' k'') : cnG L nl k k'' := fun T hT => (h T hT).trans (g T hT)
theorem colO_le (xs : List Nat) (i : Int) : colO xs i ≤ xs.length := List.length_filter_le _ _
theorem colO_cons {x : Nat} {r : List Nat} (i : Int) : colO (x :: r) i = (if (x : Int) ≤ i then 1 else 0) + colO r i := by
  unfold colO
  by_cases h : (x : Int) ≤ i
  · rw [if_pos h, List.filter_cons_of_pos (by simpa using h), List.length_cons, Nat.add_comm]
  · rw [if_neg h, List.filter_cons_of_neg (by simpa using h), Nat.zero_add]
theorem colO_0 {xs : List Nat} {i : Int} (h : ∀ x ∈ xs, i < (x : Int)) : colO xs i = 0 := by
  induction xs with
  | nil => rfl
  | cons x r ih =>
    have := h x (by simp)
    rw [colO_cons, if_neg (by omega), ih (fun q hq => h q (by simp [hq]))]
/-- the column of a number: those before it are no greater, it is greater -/
theorem colO_at {xs : List Nat} (hp : xs.Pairwise (· < ·)) (i : Int) {k : Nat} (hk : k < xs.length) : (xs.getD k 0 : Int) ≤ i ↔ k < colO xs i := by
  induction xs generalizing k with
  | nil => exact absurd hk (Nat.not_lt_zero _)
  | cons x r ih =>
    have hp' := List.pairwise_cons.mp hp
    rw [colO_cons]
    cases k with
    | zero =>
      show (x : Int) ≤ i ↔ _
      by_cases h : (x : Int) ≤ i
      · rw [if_pos h]; omega
      · rw [if_neg h, colO_0 (fun q hq => by have := hp'.1 q hq; omega)]; omega
    | succ k =>
      have hk' : k < r.length := by simpa using hk
      have e : (x :: r).getD (k + 1) 0 = r.getD k 0 := rfl
      rw [e]
      by_cases h : (x : Int) ≤ i
      · rw [if_pos h, ih hp'.2 hk']; omega
      · rw [if_neg h, colO_0 (fun q hq => by have := hp'.1 q hq; omega)]
        have : x < r.getD k 0 := by rw [getD_lt hk']; exact hp'.1 _ (List.getElem_mem hk')
        omega
theorem colO_mono {xs : List Nat} {i j : Int} (h : i ≤ j) : colO xs i ≤ colO xs j := by
  induction xs with
  | nil => exact Nat.le_refl _
  | cons x r ih =>
    rw [colO_cons, colO_cons]
    by_cases h1 : (x : Int) ≤ i
    · rw [if_pos h1, if_pos (by omega)]; omega
    · rw [if_neg h1]; split <;> omega
theorem colO_no {xs : List Nat} {i : Int} (h : ∀ x ∈ xs, (x : Int) ≠ i) : colO xs (i - 1) = colO xs i := by
  unfold colO
  congr 1
  refine List.filter_congr (fun x hx => decide_eq_decide.mpr ?_)
  have := h x hx
  omega
theorem colO_in {xs : List Nat} (hp : xs.Pairwise (· < ·)) {k : Nat} (hk : k < xs.length) : colO xs ((xs.getD k 0 : Nat) - 1 : Int) = k ∧ colO xs (xs.getD k 0 : Nat) = k + 1 := by
  have h1 := colO_at hp ((xs.getD k 0 : Nat) : Int) hk
  have h2 := colO_at hp ((xs.getD k 0 : Nat) - 1 : Int) hk
  have l1 := colO_le xs ((xs.getD k 0 : Nat) : Int)
  have l2 := colO_le xs ((xs.getD k 0 : Nat) - 1 : Int)
  constructor
  · by_cases z : k = 0
    · omega
    · have h3 := colO_at hp ((xs.getD k 0 : Nat) - 1 : Int) (show k - 1 < xs.length by omega)
      have := pw_lt hp (show k - 1 < k by omega) hk
      omega
  · by_cases z : k + 1 < xs.length
    · have h3 := colO_at hp ((xs.getD k 0 : Nat) : Int) z
      have := pw_lt hp (show k < k + 1 by omega) z
      omega
    · omega
theorem colO_rep {xs : List Nat} (hp : xs.Pairwise (· < ·)) {c : Nat} (hc : c ≤ xs.length) : colO xs (rep xs c) = c := by
  unfold rep
  by_cases z : c = 0
  · rw [if_pos z, z]; exact colO_0 (fun x _ => by omega)
  · rw [if_neg z, (colO_in hp (show c - 1 < xs.length by omega)).2]; omega
section
variable {L : PLn} {nl : Nat}
theorem wV_x {i j : Int} (h : gwV (gS L nl) (2 * nP L nl) i j) : ∃ x ∈ edX L nl, (x : Int) = i := by
  obtain ⟨l, d, h1, _, _, h4, _⟩ := gwV_i.mp h
  exact ⟨pX L l, edX_mem.mpr ⟨l, h1, Or.inl rfl⟩, h4.symm⟩
theorem wH_y {i j : Int} (h : gwH (gS L nl) (2 * nP L nl) i j) : ∃ y ∈ edY L nl, (y : Int) = j := by
  obtain ⟨l, d, h1, _, _, h4, _⟩ := gwH_i.mp h
  exact ⟨pY L l, edY_mem.mpr ⟨l, h1, Or.inl rfl⟩, h4.symm⟩
/-- within a column all hangs together -/
theorem Tok_x {T : Int → Int → Prop} (hT : Tok L nl T) (j : Int) : ∀ (n : Nat) (i : Int), colO (edX L nl) (i + n) = colO (edX L nl) i → (T i j ↔ T (i + n) j) := by
  intro n
  induction n with
  | zero => intro i _; simp
  | succ n ih =>
    intro i h
    have m1 := colO_mono (xs := edX L nl) (show i ≤ i + n by omega)
    have m2 := colO_mono (xs := edX L nl) (show i + n ≤ i + (n + 1 : Nat) by omega)
    rw [ih i (by omega)]
    have := hT.1 (i + (n + 1 : Nat)) j (fun w => by
      obtain ⟨x, hx, e⟩ := wV_x w
      obtain ⟨k, hk, ek⟩ := List.getElem_of_mem hx
      rw [← getD_lt hk] at ek
      have z := colO_in (edX_pw L nl) hk
      rw [ek, e, show i + ((n + 1 : Nat) : Int) - 1 = i + n by omega] at z
      omega)
    rw [← this, show i + ((n + 1 : Nat) : Int) - 1 = i + n by omega]
theorem Tok_y {T : Int → Int → Prop} (hT : Tok L nl T) (i : Int) : ∀ (n : Nat) (j : Int), colO (edY L nl) (j + n) = colO (edY L nl) j → (T i j ↔ T i (j + n)) := by
  intro n
  induction n with
  | zero => intro j _; simp
  | succ n ih =>
    intro j h
    have m1 := colO_mono (xs := edY L nl) (show j ≤ j + n by omega)
    have m2 := colO_mono (xs := edY L nl) (show j + n ≤ j + (n + 1 : Nat) by omega)
    rw [ih j (by omega)]
    have := hT.2 i (j + (n + 1 : Nat)) (fun w => by
      obtain ⟨x, hx, e⟩ := wH_y w
      obtain ⟨k, hk, ek⟩ := List.getElem_of_mem hx
      rw [← getD_lt hk] at ek
      have z := colO_in (edY_pw L nl) hk
      rw [ek, e, show j + ((n + 1 : Nat) : Int) - 1 = j + n by omega] at z
      omega)
    rw [← this, show j + ((n + 1 : Nat) : Int) - 1 = j + n by omega]
theorem Tok_xx {T : Int → Int → Prop} (hT : Tok L nl T) {i i' : Int} (j : Int) (h : colO (edX L nl) i = colO (edX L nl) i') : T i j ↔ T i' j := by
  rcases Int.le_total i i' with z | z
  · have := Tok_x hT j (i' - i).toNat i (by rw [show i + ((i' - i).toNat : Int) = i' by omega]; exact h.symm)
    rw [show i + ((i' - i).toNat : Int) = i' by omega] at this
    exact this
  · have := Tok_x hT j (i - i').toNat i' (by rw [show i' + ((i - i').toNat : Int) = i by omega]; exact h)
    rw [show i' + ((i - i').toNat : Int) = i by omega] at this
    exact this.symm
theorem Tok_yy {T : Int → Int → Prop} (hT : Tok L nl T) (i : Int) {j j' : Int} (h : colO (edY L nl) j = colO (edY L nl) j') : T i j ↔ T i j' := by
  rcases Int.le_total j j' with z | z
  · have := Tok_y hT i (j' - j).toNat j (by rw [show j + ((j' - j).toNat : Int) = j' by omega]; exact h.symm)
    rw [show j + ((j' - j).toNat : Int) = j' by omega] at this
    exact this
  · have := Tok_y hT i (j - j').toNat j' (by rw [show j' + ((j - j').toNat : Int) = j by omega]; exact h)
    rw [show j' + ((j - j').toNat : Int) = j by omega] at this
    exact this.symm
/-- the cell of the grid in which a unit lies -/
noncomputable def gOf (L : PLn) (nl : Nat) (i j : Int) : Nat := 42 * colO (edY L nl) j + colO (edX L nl) i
theorem gOf_c (hg : gdL L nl) (i j : Int) : gOf L nl i j % 42 = colO (edX L nl) i ∧ gOf L nl i j / 42 = colO (edY L nl) j ∧ gOf L nl i j < 1764 ∧ grC L nl (gOf L nl i j) := by
  have h1 := colO_le (edX L nl) i
  have h2 := colO_le (edY L nl) j
  have n1 := edX_len hg (Nat.le_refl nl)
  have n2 := edY_len hg (Nat.le_refl nl)
  unfold gOf grC
  omega
theorem TG_of (hg : gdL L nl) {T : Int → Int → Prop} (hT : Tok L nl T) (i j : Int) : TG L nl T (gOf L nl i j) ↔ T i j := by
  obtain ⟨e1, e2, _, h1, h2⟩ := gOf_c hg i j
  unfold TG
  rw [e1, e2]
  rw [e1] at h1
  rw [e2] at h2
  rw [Tok_xx hT _ (colO_rep (edX_pw L nl) h1), Tok_yy hT _ (colO_rep (edY_pw L nl) h2)]
theorem cnG_R {c r : Nat} (hc : c < (edX L nl).length) (h42 : (edX L nl).length < 42) (hw : ¬ gwV (gS L nl) (2 * nP L nl) ((edX L nl).getD c 0 : Nat) (rep (edY L nl) r)) : cnG L nl (42 * r + c) (42 * r + c + 1) := by
  intro T hT
  unfold TG
  rw [show (42 * r + c) % 42 = c by omega, show (42 * r + c) / 42 = r by omega, show (42 * r + c + 1) % 42 = c + 1 by omega, show (42 * r + c + 1) / 42 = r by omega]
  have := hT.1 _ _ hw
  obtain ⟨z1, z2⟩ := colO_in (edX_pw L nl) hc
  rw [Tok_xx hT _ ((colO_rep (edX_pw L nl) (Nat.le_of_lt hc)).trans z1.symm), this]
  exact Tok_xx hT _ (z2.trans (colO_rep (edX_pw L nl) hc).symm)
theorem cnG_U {c r : Nat} (hc : c < 42) (hr : r < (edY L nl).length) (hw : ¬ gwH (gS L nl) (2 * nP L nl) (rep (edX L nl) c) ((edY L nl).getD r 0 : Nat)) : cnG L nl (42 * r + c) (42 * r + c + 42) := by
  intro T hT
  unfold TG
  rw [show (42 * r + c) % 42 = c by omega, show (42 * r + c) / 42 = r by omega, show (42 * r + c + 42) % 42 = c by omega, show (42 * r + c + 42) / 42 = r + 1 by omega]
  have := hT.2 _ _ hw
  obtain ⟨z1, z2⟩ := colO_in (edY_pw L nl) hr
  rw [Tok_yy hT _ ((colO_rep (edY_pw L nl) (Nat.le_of_lt hr)).trans z1.symm), this]
  exact Tok_yy hT _ (z2.trans (colO_rep (edY_pw L nl) hr).symm)
/-- numbers of the grid's cells that are the same where nothing is between -/
theorem gLab_of (hg : gdL L nl) {f : Nat → Nat} (h1 : ∀ k, grC L nl k → grC L nl (f k) ∧ cnG L nl k (f k)) (h2 : ∀ c r, c < (edX L nl).length → r ≤ (edY L nl).length → ¬ gwV (gS L nl) (2 * nP L nl) ((edX L nl).getD c 0 : Nat) (rep (edY L nl) r) → f (42 * r + c) = f (42 * r + c + 1))
    (h3 : ∀ c r, c ≤ (edX L nl).length → r < (edY L nl).length → ¬ gwH (gS L nl) (2 * nP L nl) (rep (edX L nl) c) ((edY L nl).getD r 0 : Nat) → f (42 * r + c) = f (42 * r + c + 42)) : gLab (gS L nl) (2 * nP L nl) (fun i j => (f (gOf L nl i j) : Int)) := by
  -- walls of a row of the grid are alike
  have wV : ∀ i j, gwV (gS L nl) (2 * nP L nl) i (rep (edY L nl) (colO (edY L nl) j)) → gwV (gS L nl) (2 * nP L nl) i j := by
    intro i j hw
    obtain ⟨l, d, a1, a2, a3, a4, a5⟩ := gwV_i.mp hw
    have hh := pHX_f a3
    have e := colO_rep (edY_pw L nl) (colO_le (edY L nl) j)
    obtain ⟨k, hk, ek⟩ := List.getElem_of_mem (edY_mem.mpr ⟨l, a1, Or.inl rfl⟩ : pY L l ∈ edY L nl)
    obtain ⟨k', hk', ek'⟩ := List.getElem_of_mem (edY_mem.mpr ⟨l, a1, Or.inr rfl⟩ : pHY L l ∈ edY L nl)
    rw [← getD_lt hk] at ek
    rw [← getD_lt hk'] at ek'
    have b1 := colO_at (edY_pw L nl) j hk
    have b2 := colO_at (edY_pw L nl) j hk'
    have b3 := colO_at (edY_pw L nl) (rep (edY L nl) (colO (edY L nl) j)) hk
    have b4 := colO_at (edY_pw L nl) (rep (edY L nl) (colO (edY L nl) j)) hk'
    rw [e] at b3 b4
    exact gwV_i.mpr ⟨l, (j - pY L l).toNat, a1, by omega, a3, a4, by omega⟩
  have wH : ∀ i j, gwH (gS L nl) (2 * nP L nl) (rep (edX L nl) (colO (edX L nl) i)) j → gwH (gS L nl) (2 * nP L nl) i j := by
    intro i j hw
    obtain ⟨l, d, a1, a2, a3, a4, a5⟩ := gwH_i.mp hw
    have hh := pHX_t a3
    have e := colO_rep (edX_pw L nl) (colO_le (edX L nl) i)
    obtain ⟨k, hk, ek⟩ := List.getElem_of_mem (edX_mem.mpr ⟨l, a1, Or.inl rfl⟩ : pX L l ∈ edX L nl)
    obtain ⟨k', hk', ek'⟩ := List.getElem_of_mem (edX_mem.mpr ⟨l, a1, Or.inr rfl⟩ : pHX L l ∈ edX L nl)
    rw [← getD_lt hk] at ek
    rw [← getD_lt hk'] at ek'
    have b1 := colO_at (edX_pw L nl) i hk
    have b2 := colO_at (edX_pw L nl) i hk'
    have b3 := colO_at (edX_pw L nl) (rep (edX L nl) (colO (edX L nl) i)) hk
    have b4 := colO_at (edX_pw L nl) (rep (edX L nl) (colO (edX L nl) i)) hk'
    rw [e] at b3 b4
    exact gwH_i.mpr ⟨l, (i - pX L l).toNat, a1, by omega, a3, a4, by omega⟩
  refine ⟨fun i j hn => ?_, fun i j hn => ?_, fun T hV hH i j i' j' e => ?_⟩
  · by_cases z : ∀ x ∈ edX L nl, (x : Int) ≠ i
    · show (f (gOf L nl (i - 1) j) : Int) = f (gOf L nl i j)
      unfold gOf
      rw [colO_no z]
    · have z : ∃ x ∈ edX L nl, (x : Int) = i := by
        by_cases w : ∃ x ∈ edX L nl, (x : Int) = i
        · exact w
        · exact absurd (fun x hx e => w ⟨x, hx, e⟩) z
      obtain ⟨x, hx, ex⟩ := z
      obtain ⟨k, hk, ek⟩ := List.getElem_of_mem hx
      rw [← getD_lt hk] at ek
      obtain ⟨z1, z2⟩ := colO_in (edX_pw L nl) hk
      rw [ek, ex] at z1 z2
      have := h2 k (colO (edY L nl) j) hk (colO_le _ _) (fun hw => hn (wV i j (by rw [ek, ex] at hw; exact hw)))
      show (f (gOf L nl (i - 1) j) : Int) = f (gOf L nl i j)
      unfold gOf
      rw [z1, z2]
      exact congrArg _ this
  · by_cases z : ∀ x ∈ edY L nl, (x : Int) ≠ j
    · show (f (gOf L nl i (j - 1)) : Int) = f (gOf L nl i j)
      unfold gOf
      rw [colO_no z]
    · have z : ∃ x ∈ edY L nl, (x : Int) = j := by
        by_cases w : ∃ x ∈ edY L nl, (x : Int) = j
        · exact w
        · exact absurd (fun x hx e => w ⟨x, hx, e⟩) z
      obtain ⟨x, hx, ex⟩ := z
      obtain ⟨k, hk, ek⟩ := List.getElem_of_mem hx
      rw [← getD_lt hk] at ek
      obtain ⟨z1, z2⟩ := colO_in (edY_pw L nl) hk
      rw [ek, ex] at z1 z2
      have := h3 (colO (edX L nl) i) k (colO_le _ _) hk (fun hw => hn (wH i j (by rw [ek, ex] at hw; exact hw)))
      show (f (gOf L nl i (j - 1)) : Int) = f (gOf L nl i j)
      unfold gOf
      rw [z1, z2, show 42 * (k + 1) + colO (edX L nl) i = 42 * k + colO (edX L nl) i + 42 by omega]
      exact congrArg _ this
  · have hT : Tok L nl T := ⟨hV, hH⟩
    have e' : f (gOf L nl i j) = f (gOf L nl i' j') := by
      have e : (f (gOf L nl i j) : Int) = f (gOf L nl i' j') := e
      omega
    intro ht
    have c1 := (h1 _ (gOf_c hg i j).2.2.2).2 T hT
    have c2 := (h1 _ (gOf_c hg i' j').2.2.2).2 T hT
    rw [TG_of hg hT] at c1 c2
    exact c2.mpr (by rw [← e']; exact c1.mp ht)
end
