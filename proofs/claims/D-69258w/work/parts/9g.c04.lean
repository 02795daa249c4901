/-! cells: how many have smoke -/
def ctB (p : Nat → Bool) (n : Nat) : Nat := ((List.range n).filter p).length
theorem ctB_s (p : Nat → Bool) (n : Nat) : ctB p (n + 1) = ctB p n + if p n = true then 1 else 0 := by
  unfold ctB
  rw [List.range_succ, List.filter_append, List.length_append]
  cases h : p n <;> simp [h]
theorem ctB_eq {p : Nat → Bool} {j k : Nat} (h : j ≤ k) (hp : ∀ i, j ≤ i → i < k → p i = false) : ctB p k = ctB p j := by
  induction k with
  | zero => rw [show j = 0 by omega]
  | succ k ih =>
    by_cases e : j = k + 1
    · rw [e]
    · rw [ctB_s, ih (by omega) (fun i h1 h2 => hp i h1 (by omega)), hp k (by omega) (by omega)]; simp
theorem ctB_le (p : Nat → Bool) (n : Nat) : ctB p n ≤ n := by
  unfold ctB
  exact Nat.le_trans (List.length_filter_le _ _) (by rw [List.length_range]; exact Nat.le_refl _)
theorem ctB_cg {p q : Nat → Bool} {n : Nat} (h : ∀ k, k < n → p k = q k) : ctB p n = ctB q n := by
  unfold ctB
  rw [List.filter_congr (fun k hk => h k (List.mem_range.mp hk))]
theorem ctB_bits (xs : List Value) : (xs.filter (fun v => v == .int 1)).length = ctB (bit xs) xs.length := by
  have : ∀ n, n ≤ xs.length → ((xs.take n).filter (fun v => v == .int 1)).length = ctB (bit xs) n := by
    intro n
    induction n with
    | zero => intro _; simp [ctB]
    | succ n ih =>
      intro hn
      have e : xs[n]? = some (xs[n]'(by omega)) := List.getElem?_eq_getElem (by omega)
      rw [List.take_add_one, List.filter_append, List.length_append, ih (by omega), ctB_s, e]
      unfold bit
      rw [e]
      by_cases h : xs[n]'(by omega) = Value.int 1
      · rw [h]; simp
      · have : (xs[n]'(by omega) == Value.int 1) = false := by simpa using h
        simp [this]
  have h := this xs.length (Nat.le_refl _)
  rw [List.take_length] at h
  exact h
theorem bsCard_r {s : CS} {a : Nat} {xs : List Value} (h : s.1 a = some (true, false, 1003, xs)) : bsCard s a = some (Int32.ofNat (ctB (bit xs) xs.length)) := by
  unfold bsCard bsC cc
  rw [h]; simp only [if_true, Option.bind_some]
  rw [ctB_bits]
  try rfl
/-- cells with smoke -/
def smB (t : TS) (v : Int32) (c : Nat) : Bool := decide (t.2.2.1 44 c = 1) && (decide (v < 0) || decide (t.2.2.1 47 c = v))
section
variable {own : Nat → Nat} {s : CS} {t : TS} {nl nr nd sm : Nat} {W : Nat → Nat} {e q g wn : Nat → Int32} {sc : Nat → Nat}
theorem t_smk (hv : ∀ c, c < 576 → v01 (t.2.2.1 44 c)) (v : Int32) : t_666 v t = some (Int32.ofNat (ctB (smB t v) 576)) := by
  unfold t_666
  obtain ⟨x, h1, rfl⟩ := wh_cnt (f := (fun p4 : Int32 × Int32 => (if p4.2 < 576 then Option.bind (rdI t 44 576 p4.2) (fun x1 => Option.bind ((if x1 = 0 then some (0 : Int32) else (if v < 0 then some (1 : Int32) else Option.bind (rdI t 47 576 p4.2) (fun x2 => (if x2 = v then some (1 : Int32) else some (0 : Int32)))))) (fun v24 => some (Sum.inl (β := Int32) (p4.1 + v24, p4.2 + 1)))) else some (.inr p4.1)))) (a := ((0 : Int32), (0 : Int32))) (Q := fun x => x = Int32.ofNat (ctB (smB t v) 576)) 576 (fun k a => a.1 = Int32.ofNat (ctB (smB t v) k) ∧ a.2 = Int32.ofNat k) (by
    rintro k ⟨_, _⟩ hk ⟨rfl, rfl⟩
    right
    refine ⟨(Int32.ofNat (ctB (smB t v) (k + 1)), Int32.ofNat (k + 1)), ?_, rfl, rfl⟩
    dsimp only
    rw [if_pos ((i_ltL (by omega) (by omega)).mpr hk), rdI_n (by omega) (by omega), rdI_n (by omega) (by omega), Option.bind_some, Option.bind_some, i_suc]
    have : (if t.2.2.1 44 k = 0 then some (0 : Int32) else (if v < 0 then some 1 else (if t.2.2.1 47 k = v then some 1 else some 0))) = some (Int32.ofNat (if smB t v k = true then 1 else 0)) := by
      unfold smB
      rcases hv k hk with z | z
      · rw [z]; rfl
      · rw [z, if_neg (by decide)]
        by_cases h1 : v < 0 <;> by_cases h2 : t.2.2.1 47 k = v <;> simp [h1, h2]
    rw [this, Option.bind_some, i_add, ctB_s]) (by
    rintro ⟨_, _⟩ ⟨rfl, rfl⟩
    refine ⟨_, ?_, rfl⟩
    dsimp only
    rw [if_neg (show ¬ Int32.ofNat 576 < (576 : Int32) by decide)]) ⟨rfl, rfl⟩
  rw [h1]; rfl
theorem ce_all (r : R9x s.1 t nl nr nd sm W e q g wn sc) : ∃ n, n ≤ 576 ∧ c_549 170 s = some (Int32.ofNat n) ∧ t_666 (-1) t = some (Int32.ofNat n) := by
  obtain ⟨⟨a1, _⟩, ⟨s1, ⟨xs, s2, s3, s4⟩, s5⟩, _⟩ := r
  have hl : xs.length ≤ 576 := by
    rcases s3 with h | h
    · omega
    · have := ((s4 _).mp h).1; omega
  refine ⟨ctB (smB t (-1)) 576, ctB_le _ _, ?_, t_smk s5 (-1)⟩
  unfold c_549
  rw [xN_o (b := sm) a1 rfl rfl]; repeat (first | rw [Option.bind_some] | rw [Sum.elim_inl] | rw [Sum.elim_inr])
  rw [if_pos (isK_t s2 rfl), bsCard_r s2]; repeat (first | rw [Option.bind_some] | rw [Sum.elim_inl] | rw [Sum.elim_inr])
  rw [← ctB_eq hl (fun i h1 h2 => bit_len h1)]
  refine congrArg (fun n => some (Int32.ofNat n)) (ctB_cg (fun k hk => ?_))
  have := s4 k
  unfold smB
  cases hb : bit xs k with
  | true => rw [hb] at this; simp [(this.mp rfl).2]
  | false =>
    rw [hb] at this
    have : ¬ t.2.2.1 44 k = 1 := fun z => absurd (this.mpr ⟨hk, z⟩) (by decide)
    simp [this]
theorem ce_room (r : R9x s.1 t nl nr nd sm W e q g wn sc) {v : Int32} (hv : ¬ v < 0) : ∃ n, n ≤ 576 ∧ c_548 170 v s = some (Int32.ofNat n) ∧ t_666 v t = some (Int32.ofNat n) := by
  obtain ⟨⟨a1, a2, _⟩, ⟨s1, ⟨xs, s2, s3, s4⟩, s5⟩, _⟩ := r
  refine ⟨ctB (smB t v) 576, ctB_le _ _, ?_, t_smk s5 v⟩
  have hsm : ∀ k, k < 576 → smB t v k = (bit xs k && decide (t.2.2.1 47 k = v)) := fun k hk => by
    have := s4 k
    unfold smB
    cases hb : bit xs k with
    | true => rw [hb] at this; simp [(this.mp rfl).2, hv]
    | false =>
      rw [hb] at this
      have : ¬ t.2.2.1 44 k = 1 := fun z => absurd (this.mpr ⟨hk, z⟩) (by decide)
      simp [this]
  have key : ∀ i : Nat, ∀ n : Int32, (bsNext s sm (Int32.ofNat i) = some n) → i ≤ 576 → (n < 0 ∧ ctB (smB t v) 576 = ctB (smB t v) i) ∨ ∃ j, n = Int32.ofNat j ∧ i ≤ j ∧ j < 576 ∧ bit xs j = true ∧ ctB (smB t v) j = ctB (smB t v) i := fun i n hn hi => by
    rcases bsNext_r s2 (show i < 2147483648 by omega) with ⟨h1, h2⟩ | ⟨j, h1, h2, h3, h4⟩
    · rw [h1] at hn
      obtain rfl := Option.some.inj hn
      exact Or.inl ⟨by decide, ctB_eq hi (fun k h5 h6 => by rw [hsm k h6, h2 k h5]; rfl)⟩
    · rw [h1] at hn
      obtain rfl := Option.some.inj hn
      have hj := ((s4 j).mp h3).1
      exact Or.inr ⟨j, rfl, h2, hj, h3, ctB_eq h2 (fun k h5 h6 => by rw [hsm k (by omega), h4 k h5 h6]; rfl)⟩
  have ex : ∀ i : Nat, i ≤ 576 → ∃ n, bsNext s sm (Int32.ofNat i) = some n := fun i hi => by
    rcases bsNext_r s2 (show i < 2147483648 by omega) with ⟨h1, _⟩ | ⟨j, h1, _⟩
    · exact ⟨_, h1⟩
    · exact ⟨_, h1⟩
  unfold c_548
  obtain ⟨n0, e0⟩ := ex 0 (by omega)
  rw [xN_o (b := sm) a1 rfl rfl]; repeat (first | rw [Option.bind_some] | rw [Sum.elim_inl] | rw [Sum.elim_inr])
  replace e0 : bsNext s sm 0 = some n0 := e0
  rw [if_pos (isK_t s2 rfl), e0]; repeat (first | rw [Option.bind_some] | rw [Sum.elim_inl] | rw [Sum.elim_inr])
  obtain ⟨x, h1, rfl⟩ := wh_ind (step := (fun p7 : Int32 × Int32 => (if p7.2 < 0 then some (.inr p7.1) else Option.bind (xN s [(50, 2)] 170) (fun a3 => Option.bind (aI s [0, 12] a3 p7.2) (fun x4 => Option.bind ((if x4 = v then some (1 : Int32) else some (0 : Int32))) (fun v19 => Option.bind (some sm) (fun a5 => (if isK s [3] a5 = true then Option.bind (bsNext s a5 (p7.2 + 1)) (fun x6 => some (Sum.inl (β := Int32) (p7.1 + v19, x6))) else none)))))))) (st := ((0 : Int32), n0)) (P := fun a : Int32 × Int32 => (a.2 < 0 ∧ a.1 = Int32.ofNat (ctB (smB t v) 576)) ∨ ∃ j, a.2 = Int32.ofNat j ∧ j < 576 ∧ bit xs j = true ∧ a.1 = Int32.ofNat (ctB (smB t v) j)) (Q := fun x => x = Int32.ofNat (ctB (smB t v) 576)) (fun a => if a.2 < 0 then 0 else 577 - bN a.2) (by
    rintro ⟨i, n⟩ (⟨h1, h2⟩ | ⟨j, rfl, hj, hb, h2⟩)
    · left
      dsimp only at h1 h2 ⊢
      exact ⟨_, by rw [if_pos h1], h2⟩
    · right
      dsimp only at h2 ⊢
      obtain ⟨n, en⟩ := ex (j + 1) (by omega)
      have hc : ∀ {A : Type} (f : Int32 → Option A), Option.bind (if t.2.2.1 47 j = v then some (1 : Int32) else some 0) f = f (Int32.ofNat (if t.2.2.1 47 j = v then 1 else 0)) := fun f => by split <;> rfl
      have hcs : ctB (smB t v) (j + 1) = ctB (smB t v) j + (if t.2.2.1 47 j = v then 1 else 0) := by
        rw [ctB_s, hsm j hj, hb]
        by_cases z : t.2.2.1 47 j = v <;> simp [z]
      refine ⟨(Int32.ofNat (ctB (smB t v) (j + 1)), n), ?_, ?_, ?_⟩
      · rw [if_neg (i_nlt0 (by omega)), xN_o (b := 171) a1 rfl rfl, Option.bind_some, aI_r a2 (by omega) rfl hj (by omega) rfl, Option.bind_some, hc, Option.bind_some, if_pos (isK_t s2 rfl), i_suc, en, h2, Option.bind_some, i_add, hcs]
      · rcases key (j + 1) n en (by omega) with ⟨h3, h4⟩ | ⟨k, rfl, h3, h4, h5, h6⟩
        · exact Or.inl ⟨h3, by rw [h4]⟩
        · exact Or.inr ⟨k, rfl, h4, h5, by rw [h6]⟩
      · rw [if_neg (i_nlt0 (by omega)), bN_of (by omega)]
        rcases key (j + 1) n en (by omega) with ⟨h3, h4⟩ | ⟨k, rfl, h3, h4, h5, h6⟩
        · rw [if_pos h3]; omega
        · rw [if_neg (i_nlt0 (by omega)), bN_of (by omega)]; omega) (by
    rcases key 0 n0 e0 (by omega) with ⟨h3, h4⟩ | ⟨k, rfl, h3, h4, h5, h6⟩
    · exact Or.inl ⟨h3, by rw [h4]; rfl⟩
    · exact Or.inr ⟨k, rfl, h4, h5, by rw [h6]; rfl⟩)
  rw [h1]; rfl
end
