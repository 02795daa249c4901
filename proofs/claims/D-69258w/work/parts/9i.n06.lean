/-! the plan in the reference: what stays; lines -/
def agr (I R : List Nat) (t T : TS) : Prop := (∀ c, c ∉ I → T.1 c = t.1 c) ∧ T.2.1 = t.2.1 ∧ (∀ c, c ∉ R → T.2.2.1 c = t.2.2.1 c) ∧ T.2.2.2 = t.2.2.2
theorem agr_refl {I R : List Nat} {t : TS} : agr I R t t := ⟨fun _ _ => rfl, rfl, fun _ _ => rfl, rfl⟩
theorem agr_trans {I R : List Nat} {t u v : TS} (h : agr I R t u) (k : agr I R u v) : agr I R t v := ⟨fun c hc => (k.1 c hc).trans (h.1 c hc), k.2.1.trans h.2.1, fun c hc => (k.2.2.1 c hc).trans (h.2.2.1 c hc), k.2.2.2.trans h.2.2.2⟩
theorem agr_mono {I R I' R' : List Nat} {t T : TS} (h : agr I R t T) (h1 : ∀ c ∈ I, c ∈ I') (h2 : ∀ c ∈ R, c ∈ R') : agr I' R' t T := ⟨fun c hc => h.1 c (fun z => hc (h1 c z)), h.2.1, fun c hc => h.2.2.1 c (fun z => hc (h2 c z)), h.2.2.2⟩
theorem agr_w {I R : List Nat} {t T : TS} {c k : Nat} {v : Int32} (h : agr I R t T) (hc : c ∈ R) : agr I R t (wrI T c k v) := by
  refine ⟨h.1, h.2.1, fun q hq => ?_, h.2.2.2⟩
  rw [← h.2.2.1 q hq]
  funext j
  rw [wr_at, if_neg (fun z => hq (by rw [z.1]; exact hc))]
theorem agr_p {I R : List Nat} {t T : TS} {c : Nat} {v : Int32} (h : agr I R t T) (hc : c ∈ I) : agr I R t (ptI T c v) := by
  refine ⟨fun q hq => ?_, h.2.1, h.2.2.1, h.2.2.2⟩
  rw [← h.1 q hq, pt_1, if_neg (fun z => hq (by rw [z]; exact hc))]
/-- the lines, as the reference has them -/
def lnR (t : TS) (L : PLn) (nl : Nat) : Prop := t.1 100 = Int32.ofNat nl ∧ ∀ l, l < nl → t.2.2.1 50 l = Int32.ofNat (pX L l) ∧ t.2.2.1 51 l = Int32.ofNat (pY L l) ∧ t.2.2.1 52 l = (if pFl L l = true then 1 else 0) ∧ t.2.2.1 53 l = Int32.ofNat (pN L l)
section TL
variable {t T : TS} {L : PLn} {nl : Nat} {I R : List Nat}
theorem lnR_cg (h : lnR t L nl) (a : agr I R t T) (h0 : 100 ∉ I) (h1 : 50 ∉ R ∧ 51 ∉ R ∧ 52 ∉ R ∧ 53 ∉ R) : lnR T L nl := by
  unfold lnR
  rw [a.1 _ h0, a.2.2.1 _ h1.1, a.2.2.1 _ h1.2.1, a.2.2.1 _ h1.2.2.1, a.2.2.1 _ h1.2.2.2]
  exact h
theorem r50 (h : lnR t L nl) (hn : nl ≤ 20) {l : Nat} (hl : l < nl) : rdI t 50 20 (Int32.ofNat l) = some (Int32.ofNat (pX L l)) := by rw [rdI_n (by omega) (by omega), (h.2 l hl).1]
theorem r51 (h : lnR t L nl) (hn : nl ≤ 20) {l : Nat} (hl : l < nl) : rdI t 51 20 (Int32.ofNat l) = some (Int32.ofNat (pY L l)) := by rw [rdI_n (by omega) (by omega), (h.2 l hl).2.1]
theorem r52 (h : lnR t L nl) (hn : nl ≤ 20) {l : Nat} (hl : l < nl) : rdI t 52 20 (Int32.ofNat l) = some (if pFl L l = true then 1 else 0) := by rw [rdI_n (by omega) (by omega), (h.2 l hl).2.2.1]
theorem r53 (h : lnR t L nl) (hn : nl ≤ 20) {l : Nat} (hl : l < nl) : rdI t 53 20 (Int32.ofNat l) = some (Int32.ofNat (pN L l)) := by rw [rdI_n (by omega) (by omega), (h.2 l hl).2.2.2]
theorem iteF {α : Type} {b : Bool} {x y : α} : (if (if b = true then (1 : Int32) else 0) = 0 then x else y) = if b = true then y else x := by
  cases b <;> rfl
theorem t_hX (h : lnR t L nl) (hn : nl ≤ 20) {l : Nat} (hl : l < nl) : t_679 (Int32.ofNat l) t = some (Int32.ofNat (pHX L l)) := by
  unfold t_679 pHX
  rw [r50 h hn hl]; repeat (first | rw [Option.bind_some] | rw [Sum.elim_inl] | rw [Sum.elim_inr])
  rw [r52 h hn hl]; repeat (first | rw [Option.bind_some] | rw [Sum.elim_inl] | rw [Sum.elim_inr])
  rw [iteF, r53 h hn hl]; repeat (first | rw [Option.bind_some] | rw [Sum.elim_inl] | rw [Sum.elim_inr])
  by_cases z : pFl L l = true
  · rw [if_pos z, if_pos z, i_add]
  · rw [if_neg z, if_neg z]; exact congrArg some (i_add (pX L l) 0)
theorem t_hY (h : lnR t L nl) (hn : nl ≤ 20) {l : Nat} (hl : l < nl) : t_680 (Int32.ofNat l) t = some (Int32.ofNat (pHY L l)) := by
  unfold t_680 pHY
  rw [r51 h hn hl]; repeat (first | rw [Option.bind_some] | rw [Sum.elim_inl] | rw [Sum.elim_inr])
  rw [r52 h hn hl]; repeat (first | rw [Option.bind_some] | rw [Sum.elim_inl] | rw [Sum.elim_inr])
  rw [iteF, r53 h hn hl]; repeat (first | rw [Option.bind_some] | rw [Sum.elim_inl] | rw [Sum.elim_inr])
  by_cases z : pFl L l = true
  · rw [if_pos z, if_pos z]; exact congrArg some (i_add (pY L l) 0)
  · rw [if_neg z, if_neg z, i_add]
theorem t_on (h : lnR t L nl) (hg : gdL L nl) {l x y : Nat} (hl : l < nl) (hx : x < 1000) (hy : y < 1000) : by classical exact (t_694 (Int32.ofNat l) (Int32.ofNat x) (Int32.ofNat y) t = some (if onL L l x y then 1 else 0)) := by
  classical
  have hn := hg.1
  obtain ⟨g1, g2, g3⟩ := hg.2.1 l hl
  have g4 : pX L l ≤ pHX L l := Nat.le_add_right _ _
  have g5 : pY L l ≤ pHY L l := Nat.le_add_right _ _
  unfold t_694
  rw [r50 h hn hl]; repeat (first | rw [Option.bind_some] | rw [Sum.elim_inl] | rw [Sum.elim_inr])
  rw [t_hX h hn hl]; repeat (first | rw [Option.bind_some] | rw [Sum.elim_inl] | rw [Sum.elim_inr])
  rw [r51 h hn hl]; repeat (first | rw [Option.bind_some] | rw [Sum.elim_inl] | rw [Sum.elim_inr])
  rw [t_hY h hn hl]; repeat (first | rw [Option.bind_some] | rw [Sum.elim_inl] | rw [Sum.elim_inr])
  by_cases z1 : x < pX L l
  · rw [if_pos ((i_lt (by omega) (by omega)).mpr z1), if_neg (show ¬ onL L l x y from fun z => by unfold onL at z; omega)]
  rw [if_neg (fun z => z1 ((i_lt (by omega) (by omega)).mp z))]
  by_cases z2 : pHX L l < x
  · rw [if_pos ((i_lt (by omega) (by omega)).mpr z2), if_neg (show ¬ onL L l x y from fun z => by unfold onL at z; omega)]
  rw [if_neg (fun z => z2 ((i_lt (by omega) (by omega)).mp z))]
  by_cases z3 : y < pY L l
  · rw [if_pos ((i_lt (by omega) (by omega)).mpr z3), if_neg (show ¬ onL L l x y from fun z => by unfold onL at z; omega)]
  rw [if_neg (fun z => z3 ((i_lt (by omega) (by omega)).mp z))]
  by_cases z4 : pHY L l < y
  · rw [if_pos ((i_lt (by omega) (by omega)).mpr z4), if_neg (show ¬ onL L l x y from fun z => by unfold onL at z; omega)]
  rw [if_neg (fun z => z4 ((i_lt (by omega) (by omega)).mp z)), if_pos (show onL L l x y from ⟨by omega, by omega, by omega, by omega⟩)]
end TL
/-! rows that rise -/
def insS (v : Nat) : List Nat → List Nat
  | [] => [v]
  | x :: r => if x < v then x :: insS v r else if x = v then x :: r else v :: x :: r
theorem insS_mem {v q : Nat} {xs : List Nat} : q ∈ insS v xs ↔ q = v ∨ q ∈ xs := by
  induction xs with
  | nil => simp [insS]
  | cons x r ih =>
    unfold insS
    split
    · rw [List.mem_cons, ih, List.mem_cons]
      constructor
      · rintro (h | h | h) <;> simp [h]
      · rintro (h | h | h) <;> simp [h]
    · split
      · rename_i _ e
        rw [List.mem_cons, e]
        constructor
        · rintro (h | h) <;> simp [h]
        · rintro (h | h | h) <;> simp [h]
      · simp
theorem insS_pw {v : Nat} {xs : List Nat} (h : xs.Pairwise (· < ·)) : (insS v xs).Pairwise (· < ·) := by
  induction xs with
  | nil => simp [insS]
  | cons x r ih =>
    have h' := List.pairwise_cons.mp h
    unfold insS
    split
    · refine List.pairwise_cons.mpr ⟨fun q hq => ?_, ih h'.2⟩
      rcases insS_mem.mp hq with rfl | hq
      · assumption
      · exact h'.1 q hq
    · split
      · exact h
      · refine List.pairwise_cons.mpr ⟨fun q hq => ?_, h⟩
        rcases List.mem_cons.mp hq with rfl | hq
        · omega
        · have := h'.1 q hq; omega
/-- how it is made: the first that isn't less -/
theorem insS_eq {v : Nat} {xs : List Nat} {k : Nat} (hk : k ≤ xs.length) (h1 : ∀ j, j < k → xs.getD j 0 < v) (h2 : k < xs.length → v ≤ xs.getD k 0) : insS v xs = if k < xs.length ∧ xs.getD k 0 = v then xs else xs.take k ++ v :: xs.drop k := by
  induction xs generalizing k with
  | nil =>
    have : k = 0 := by simp at hk; omega
    subst this
    rfl
  | cons x r ih =>
    unfold insS
    cases k with
    | zero =>
      have h3 := h2 (by simp)
      have h3 : v ≤ x := h3
      rw [if_neg (by omega)]
      by_cases e : x = v
      · rw [if_pos e, if_pos ⟨by simp, e⟩]
      · rw [if_neg e, if_neg (fun z => e z.2)]; rfl
    | succ k =>
      have h3 : x < v := h1 0 (by omega)
      rw [if_pos h3, ih (k := k) (by simpa using hk) (fun j hj => h1 (j + 1) (by omega)) (fun z => h2 (by simpa using z))]
      by_cases e : k < r.length ∧ r.getD k 0 = v
      · rw [if_pos e, if_pos ⟨by simpa using e.1, e.2⟩]
      · rw [if_neg e, if_neg (fun z => e ⟨by simpa using z.1, z.2⟩)]; rfl
def rwR (t : TS) (c : Nat) (xs : List Nat) : Prop := ∀ k, k < xs.length → t.2.2.1 c k = Int32.ofNat (xs.getD k 0)
