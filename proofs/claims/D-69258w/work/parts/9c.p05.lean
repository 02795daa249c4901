/-! the program: what a block hangs on -/
theorem kcl_1 {K : Nat} (h : K < 26) : lLook [(102, 1), (103, 1), (104, 1), (105, 1), (106, 1), (107, 1), (108, 1), (109, 1), (110, 1), (112, 1), (113, 1), (114, 1), (115, 1), (116, 1), (117, 1), (118, 1), (119, 1), (120, 1), (121, 1), (123, 1), (124, 1), (125, 1), (126, 1), (127, 1), (128, 1), (129, 1)] (kci K) = some 1 := by
  have : ∀ K : Fin 26, lLook [(102, 1), (103, 1), (104, 1), (105, 1), (106, 1), (107, 1), (108, 1), (109, 1), (110, 1), (112, 1), (113, 1), (114, 1), (115, 1), (116, 1), (117, 1), (118, 1), (119, 1), (120, 1), (121, 1), (123, 1), (124, 1), (125, 1), (126, 1), (127, 1), (128, 1), (129, 1)] (kci K.val) = some 1 := by decide
  exact this ⟨K, h⟩
theorem kcl_w {K : Nat} (h : K < 26) : [102, 103, 104, 105, 106, 107, 108, 109, 110, 113, 114, 115, 116, 117, 118, 119, 120, 121, 123, 124, 125, 126, 127, 128, 129].contains (kci K % 1000) = !(K == 16) := by
  have : ∀ K : Fin 26, [102, 103, 104, 105, 106, 107, 108, 109, 110, 113, 114, 115, 116, 117, 118, 119, 120, 121, 123, 124, 125, 126, 127, 128, 129].contains (kci K.val % 1000) = !(K.val == 16) := by decide
  exact this ⟨K, h⟩
theorem any_suc (n : Nat) (p : Nat → Bool) : (List.range (n + 1)).any p = ((List.range n).any p || p n) := by
  rw [List.range_succ, List.any_append]; simp
theorem wv_eq {B : Nat → Nat → Nat} {n w w' : Nat} {x : Int32} (hi : injB n B) (hn : n ≤ 40) (hw : w < n) (hx : x = -1 ∨ ∃ w, w < n ∧ x = Int32.ofNat w) : toO (wv B x) = some (if x = -1 then none else some (B (bN x) 0)) ∧ ((if x = -1 then none else some (B (bN x) 0)) = some (B w 0) ↔ x = Int32.ofNat w) := by
  rcases hx with rfl | ⟨w', h1, rfl⟩
  · refine ⟨rfl, by simp; exact fun e => i_ne1 (show w < 2147483648 by omega) e.symm⟩
  · have e := i_ne1 (show w' < 2147483648 by omega)
    unfold wv
    rw [if_neg e, if_neg e]
    refine ⟨rfl, ?_⟩
    rw [bN, i_clamp (by omega), i_inj (by omega) (by omega)]
    constructor
    · intro z
      exact (hi.1 _ _ _ _ h1 (by omega) hw (by omega) (Option.some.inj z)).1
    · rintro rfl; rfl
theorem c_hang {s : CS} {t : TS} {n b w : Nat} {B : Nat → Nat → Nat} (hK : RK s.1) (hB : ∀ k, k < n → R5b s.1 t n B k) (hi : injB n B) (hn : n ≤ 40) (hb : b < n) (hw : w < n) : c_1068 (B b 0) (B w 0) s = some (if dep t b w = true then 1 else 0) := by
  obtain ⟨r1, r2, r3, ⟨K, hK1, hK2⟩, r5, r6⟩ := hB b hb
  have hk := hK.1 K hK1
  have h3 := inp_3 K
  have hb2 : bN (t.2.2.1 125 b) = K := by rw [hK2, bN, i_clamp (by omega)]
  suffices h : Tr (c_1068 (B b 0) (B w 0) s) (fun v => v = if dep t b w = true then 1 else 0) by
    obtain ⟨x, h1, h2⟩ := h
    rw [h1, h2]
  unfold c_1068 dep
  have e1 : xN s [(94, 1)] (B b 0) = some (kid K) := xN_o r1 rfl (by simp [bC, hb2])
  have e2 : xN s [(94, 5)] (B b 0) = some (B b 1) := xN_o r1 rfl rfl
  rw [hb2]
  simp only [e1, Option.bind_some, xI_o hk (kcl_1 hK1) rfl, isK_o hk, kcl_w hK1, e2]
  refine Tr.bd (P := fun v => v = if (!(K == 16) && (List.range (inp K)).any (fun i => wire t b i == Int32.ofNat w)) = true then (1 : Int32) else 0) (wh_cnt (inp K) (fun i a => a = (if (!(K == 16) && (List.range i).any (fun i => wire t b i == Int32.ofNat w)) = true then (1 : Int32) else 0, Int32.ofNat i)) ?_ ?_ (by simp)) ?_
  · rintro i _ hi' rfl
    refine Or.inr ⟨_, ?_, rfl⟩
    dsimp only
    rw [if_pos ((i_lt (by omega) (by omega)).mpr hi'), any_suc, i_suc]
    by_cases h16 : K = 16
    · subst h16
      simp [c_1120, isK_o hk, kci, kcl]
    · simp only [beq_iff_eq, h16, Bool.not_false, if_true, c_1118, Option.bind_some, show ¬ (1 : Int32) = 0 by decide, if_false, Bool.true_and, show (K == 16) = false from by simp [h16]]
      obtain ⟨q1, q2⟩ := wv_eq (w' := 0) hi hn hw (r5 i (by omega))
      have e3 : aR s (B b 1) (Int32.ofNat i) = some (if wire t b i = -1 then none else some (B (bN (wire t b i)) 0)) := by
        unfold aR; rw [aV_r r2 (by omega) rfl (by omega) (by omega), Option.bind_some, q1]
      rw [e3, Option.bind_some]
      have e4 : nst s (vR (if wire t b i = -1 then none else some (B (bN (wire t b i)) 0))) = true := by
        rcases r5 i (by omega) with e | ⟨w', h1, e⟩
        · rw [if_pos e]; rfl
        · rw [e, if_neg (i_ne1 (by omega)), bN, i_clamp (by omega)]
          unfold nst vR
          simp only [(hB w' h1).1]; rfl
      by_cases hq : wire t b i = Int32.ofNat w
      · rw [if_pos (q2.mpr hq)]
        cases (List.range i).any (fun i => wire t b i == Int32.ofNat w) <;> simp [hq]
      · rw [if_neg (fun z => hq (q2.mp z)), if_pos e4]
        cases (List.range i).any (fun i => wire t b i == Int32.ofNat w) <;> simp [hq]
  · rintro _ rfl
    refine ⟨_, ?_, rfl⟩
    dsimp only
    rw [if_neg (by rw [i_lt (by omega) (by omega)]; omega)]
  · rintro _ rfl
    refine ⟨_, if_pos ?_, rfl⟩
    split
    · rfl
    · rfl
/-! rows of numbers that rise -/
theorem sorted_ext : ∀ {l m : List Nat}, l.Pairwise (· < ·) → m.Pairwise (· < ·) → (∀ x, x ∈ l ↔ x ∈ m) → l = m := by
  intro l
  induction l with
  | nil =>
    intro m _ _ h
    cases m with
    | nil => rfl
    | cons y r => exact absurd ((h y).mpr (by simp)) (by simp)
  | cons x r ih =>
    intro m hl hm h
    cases m with
    | nil => exact absurd ((h x).mp (by simp)) (by simp)
    | cons y q =>
      rw [List.pairwise_cons] at hl hm
      have e : x = y := by
        have h1 := (h x).mp (by simp)
        have h2 := (h y).mpr (by simp)
        rcases List.mem_cons.mp h1 with e | e
        · exact e
        · rcases List.mem_cons.mp h2 with e' | e'
          · exact e'.symm
          · have := hm.1 x e; have := hl.1 y e'; omega
      subst e
      congr 1
      refine ih hl.2 hm.2 (fun z => ?_)
      constructor
      · intro hz
        rcases List.mem_cons.mp ((h z).mp (List.mem_cons_of_mem _ hz)) with e | e
        · subst e; exact absurd (hl.1 z hz) (by omega)
        · exact e
      · intro hz
        rcases List.mem_cons.mp ((h z).mpr (List.mem_cons_of_mem _ hz)) with e | e
        · subst e; exact absurd (hm.1 z hz) (by omega)
        · exact e
def iV (b : Nat) : Value := .int (Int32.ofNat b)
def nins (x : Nat) : List Nat → List Nat
  | [] => [x]
  | y :: r => if x < y then x :: y :: r else y :: nins x r
theorem nins_mem {x z : Nat} {l : List Nat} : z ∈ nins x l ↔ z = x ∨ z ∈ l := by
  induction l with
  | nil => simp [nins]
  | cons y r ih =>
    unfold nins
    split
    · simp
    · rw [List.mem_cons, ih, List.mem_cons]
      constructor
      · rintro (h | h | h) <;> simp [h]
      · rintro (h | h | h) <;> simp [h]
theorem nins_sorted {x : Nat} {l : List Nat} (hl : l.Pairwise (· < ·)) (hx : x ∉ l) : (nins x l).Pairwise (· < ·) := by
  induction l with
  | nil => simp [nins]
  | cons y r ih =>
    rw [List.pairwise_cons] at hl
    unfold nins
    split
    · rename_i e
      refine List.pairwise_cons.mpr ⟨?_, List.pairwise_cons.mpr hl⟩
      intro z hz
      rcases List.mem_cons.mp hz with rfl | hz
      · exact e
      · exact Nat.lt_trans e (hl.1 z hz)
    · rename_i e
      have : x ≠ y := fun q => hx (by simp [q])
      refine List.pairwise_cons.mpr ⟨?_, ih hl.2 (fun q => hx (List.mem_cons_of_mem _ q))⟩
      intro z hz
      rcases nins_mem.mp hz with rfl | hz
      · omega
      · exact hl.1 z hz
theorem pins_n {x : Nat} {l : List Nat} (hx : x < 2147483648) (hl : ∀ y ∈ l, y < 2147483648) : pins (Int32.ofNat x) (l.map iV) = (nins x l).map iV := by
  induction l with
  | nil => rfl
  | cons y r ih =>
    have hy := hl y (by simp)
    simp only [List.map_cons, iV, pins, nins]
    by_cases e : x < y
    · rw [if_pos ((i_lt hx hy).mpr e), if_pos e]; rfl
    · rw [if_neg (fun z => e ((i_lt hx hy).mp z)), if_neg e]
      have := ih (fun z hz => hl z (List.mem_cons_of_mem _ hz))
      simp only [List.map_cons, iV] at this ⊢
      rw [← this]
theorem range_sorted (n : Nat) : (List.range n).Pairwise (· < ·) := List.pairwise_lt_range
theorem nins_filter {n j : Nat} {p p' : Nat → Bool} (hj : j < n) (hp : p j = false) (h : ∀ x, x < n → p' x = (p x || x == j)) : nins j ((List.range n).filter p) = (List.range n).filter p' := by
  refine sorted_ext (nins_sorted (List.Pairwise.sublist List.filter_sublist (range_sorted n)) ?_) (List.Pairwise.sublist List.filter_sublist (range_sorted n)) ?_
  · intro z
    have := (List.mem_filter.mp z).2
    rw [hp] at this; cases this
  · intro x
    rw [nins_mem, List.mem_filter, List.mem_filter, List.mem_range]
    constructor
    · rintro (rfl | ⟨h1, h2⟩)
      · exact ⟨hj, by rw [h _ hj]; simp⟩
      · exact ⟨h1, by rw [h _ h1, h2]; rfl⟩
    · rintro ⟨h1, h2⟩
      rw [h _ h1] at h2
      simp only [Bool.or_eq_true, beq_iff_eq] at h2
      rcases h2 with h2 | h2
      · exact Or.inr ⟨h1, h2⟩
      · exact Or.inl h2
