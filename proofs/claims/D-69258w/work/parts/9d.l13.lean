/-! the lifts: dealing out (plain) -/
def bt (a i : Nat) : Nat := a / 2 ^ i % 2
theorem bt_2 (a i : Nat) : bt a i = 0 ∨ bt a i = 1 := by unfold bt; omega
theorem bt_add {a e i k : Nat} (h : i < k) : bt (a + e * 2 ^ k) i = bt a i := by
  unfold bt
  have e1 : e * 2 ^ k = (e * 2 ^ (k - i - 1) * 2) * 2 ^ i := by
    rw [Nat.mul_assoc, Nat.mul_assoc, ← Nat.pow_succ', Nat.mul_comm (2 ^ _), ← Nat.pow_add]
    congr 2
    omega
  rw [e1, Nat.add_mul_div_right _ _ (Nat.two_pow_pos i), Nat.add_mul_mod_self_right]
theorem bt_top {a k : Nat} (h : a < 2 ^ k) (e : Nat) (he : e < 2) : bt (a + e * 2 ^ k) k = e := by
  unfold bt
  rw [Nat.add_mul_div_right _ _ (Nat.two_pow_pos k), Nat.div_eq_of_lt h, Nat.zero_add, Nat.mod_eq_of_lt he]
theorem bt_hi {a i k : Nat} (h : a < 2 ^ k) (hi : k ≤ i) : bt a i = 0 := by
  unfold bt
  rw [Nat.div_eq_of_lt (Nat.lt_of_lt_of_le h (Nat.pow_le_pow_right (by omega) hi))]
def bitW (nc : Nat) : Nat → Nat → Nat → Nat
  | 0, _, _ => 0
  | k + 1, w, c => bitW nc k (w / nc) c + (if w % nc = c then 1 else 0) * 2 ^ k
theorem bitW_lt (nc k w c : Nat) : bitW nc k w c < 2 ^ k := by
  induction k generalizing w with
  | zero => exact Nat.zero_lt_one
  | succ k ih =>
    have := ih (w / nc)
    unfold bitW
    rw [Nat.pow_succ]
    split <;> omega
theorem bitW_suc {nc k P c' : Nat} (hc : c' < nc) (c : Nat) : bitW nc (k + 1) (P * nc + c') c = bitW nc k P c + (if c' = c then 1 else 0) * 2 ^ k := by
  show bitW nc k ((P * nc + c') / nc) c + (if (P * nc + c') % nc = c then 1 else 0) * 2 ^ k = _
  rw [Nat.mul_comm P nc, Nat.mul_add_div (by omega), Nat.div_eq_of_lt hc, Nat.add_zero, Nat.mul_add_mod, Nat.mod_eq_of_lt hc]
theorem bitW_pre {nc k m : Nat} (hn : 0 < nc) : ∀ {w c i : Nat}, i < k → bt (bitW nc (k + m) w c) i = bt (bitW nc k (w / nc ^ m) c) i := by
  induction m with
  | zero => intro w c i _; rw [Nat.pow_zero, Nat.div_one]; rfl
  | succ m ih =>
    intro w c i hi
    show bt (bitW nc (k + m) (w / nc) c + _ * 2 ^ (k + m)) i = _
    rw [bt_add (by omega), ih hi, Nat.pow_succ', Nat.div_div_eq_div_mul]
def updW (S : Nat → Nat) (b : Nat × Nat) (w : Nat) : Nat × Nat := if S w < b.1 then (S w, w) else b
def dealF (nc : Nat) (S : Nat → Nat) (m P : Nat) (b : Nat × Nat) : Nat × Nat := (List.range' (P * nc ^ m) (nc ^ m)).foldl (updW S) b
theorem dealF_0 (nc : Nat) (S : Nat → Nat) (P : Nat) (b : Nat × Nat) : dealF nc S 0 P b = updW S b P := by
  unfold dealF
  rw [Nat.pow_zero, Nat.mul_one]; rfl
theorem dealF_suc (nc : Nat) (S : Nat → Nat) (m P : Nat) (b : Nat × Nat) : dealF nc S (m + 1) P b = (List.range nc).foldl (fun b c => dealF nc S m (P * nc + c) b) b := by
  have : ∀ j, (List.range' (P * nc * nc ^ m) (j * nc ^ m)).foldl (updW S) b = (List.range j).foldl (fun b c => dealF nc S m (P * nc + c) b) b := by
    intro j
    induction j with
    | zero => rw [Nat.zero_mul]; rfl
    | succ j ih =>
      rw [List.range_succ, List.foldl_append, ← ih, Nat.succ_mul, ← List.range'_append_1, List.foldl_append]
      show _ = dealF nc S m (P * nc + j) _
      unfold dealF
      rw [Nat.add_mul]
  have h := this nc
  unfold dealF at h ⊢
  rw [Nat.pow_succ, ← h, Nat.mul_comm (nc ^ m) nc, Nat.mul_assoc]
theorem foldW_ge {S : Nat → Nat} {b : Nat × Nat} : ∀ {l : List Nat}, (∀ w ∈ l, b.1 ≤ S w) → l.foldl (updW S) b = b
  | [], _ => rfl
  | w :: l, h => by
    rw [List.foldl_cons, show updW S b w = b from if_neg (Nat.not_lt.mpr (h w (by simp)))]
    exact foldW_ge (fun v hv => h v (List.mem_cons_of_mem _ hv))
theorem dealF_skip {nc : Nat} {S : Nat → Nat} {m P : Nat} {b : Nat × Nat} (h : ∀ w, w / nc ^ m = P → b.1 ≤ S w) (hn : 0 < nc) : dealF nc S m P b = b := by
  refine foldW_ge (fun w hw => h w ?_)
  rw [List.mem_range'_1] at hw
  have hp : 0 < nc ^ m := Nat.pow_pos hn
  refine Nat.div_eq_of_lt_le hw.1 ?_
  rw [Nat.add_mul, Nat.one_mul]
  exact hw.2
theorem foldW_le {S : Nat → Nat} : ∀ {l : List Nat} {b : Nat × Nat}, (l.foldl (updW S) b).1 ≤ b.1
  | [], _ => Nat.le_refl _
  | w :: l, b => by
    rw [List.foldl_cons]
    refine Nat.le_trans foldW_le ?_
    unfold updW
    split
    · exact Nat.le_of_lt (by assumption)
    · exact Nat.le_refl _
theorem foldW_mem {S : Nat → Nat} : ∀ {l : List Nat} {b : Nat × Nat} {w : Nat}, w ∈ l → (l.foldl (updW S) b).1 ≤ S w
  | v :: l, b, w, h => by
    rw [List.foldl_cons]
    rcases List.mem_cons.mp h with rfl | h
    · refine Nat.le_trans foldW_le ?_
      unfold updW
      split
      · exact Nat.le_refl _
      · omega
    · exact foldW_mem h
theorem foldW_in {S : Nat → Nat} : ∀ {l : List Nat} {b : Nat × Nat}, l.foldl (updW S) b = b ∨ ((l.foldl (updW S) b).2 ∈ l ∧ (l.foldl (updW S) b).1 = S (l.foldl (updW S) b).2)
  | [], _ => Or.inl rfl
  | w :: l, b => by
    rw [List.foldl_cons]
    rcases foldW_in (S := S) (l := l) (b := updW S b w) with h | h
    · rw [h]
      unfold updW
      split
      · exact Or.inr ⟨by simp, rfl⟩
      · exact Or.inl rfl
    · exact Or.inr ⟨List.mem_cons_of_mem _ h.1, h.2⟩
/-- two bounds that no sum lies between give one choice -/
theorem foldW_two {S : Nat → Nat} {N x y : Nat} : ∀ {l : List Nat} {b b' : Nat × Nat}, (∀ w ∈ l, S w < N ∨ N + 1 ≤ S w) → (b = b' ∨ (b = (N + 1, x) ∧ b' = (N, y))) → (l.foldl (updW S) b = l.foldl (updW S) b' ∨ (l.foldl (updW S) b = (N + 1, x) ∧ l.foldl (updW S) b' = (N, y)))
  | [], _, _, _, h => h
  | w :: l, b, b', hw, h => by
    rw [List.foldl_cons, List.foldl_cons]
    refine foldW_two (fun v hv => hw v (List.mem_cons_of_mem _ hv)) ?_
    rcases h with rfl | ⟨rfl, rfl⟩
    · exact Or.inl rfl
    · unfold updW
      rcases hw w (by simp) with z | z
      · rw [if_pos (by show S w < N + 1; omega), if_pos (by show S w < N; omega)]; exact Or.inl rfl
      · rw [if_neg (by show ¬ S w < N + 1; omega), if_neg (by show ¬ S w < N; omega)]; exact Or.inr ⟨rfl, rfl⟩
def sumN (f : Nat → Nat) : Nat → Nat
  | 0 => 0
  | k + 1 => sumN f k + f k
theorem sumN_le {f : Nat → Nat} {B : Nat} : ∀ {k : Nat}, (∀ c, c < k → f c ≤ B) → sumN f k ≤ k * B
  | 0, _ => Nat.zero_le _
  | k + 1, h => by
    have h1 := sumN_le (k := k) (fun c hc => h c (by omega))
    have h2 := h k (by omega)
    unfold sumN
    rw [Nat.succ_mul]; omega
theorem sumN_ge {f : Nat → Nat} {c : Nat} : ∀ {k : Nat}, c < k → f c ≤ sumN f k
  | k + 1, h => by
    unfold sumN
    by_cases e : c = k
    · rw [e]; omega
    · have := sumN_ge (f := f) (k := k) (c := c) (by omega); omega
/-- a set that a car can take -/
def feas (fz : Nat → Nat → Bool) (n c σ : Nat) : Prop := ∀ k, k < n → bt σ k = 1 → fz c k = true
/-- each call has a car: there is a way for all -/
theorem way_ex {fz : Nat → Nat → Bool} {nc : Nat} : ∀ n, (∀ k, k < n → ∃ c, c < nc ∧ fz c k = true) → ∃ w, w < nc ^ n ∧ ∀ c, feas fz n c (bitW nc n w c)
  | 0, _ => ⟨0, Nat.zero_lt_one, fun _ k hk => by omega⟩
  | n + 1, h => by
    obtain ⟨w, h1, h2⟩ := way_ex n (fun k hk => h k (by omega))
    obtain ⟨c', h3, h4⟩ := h n (by omega)
    refine ⟨w * nc + c', ?_, fun c k hk hb => ?_⟩
    · rw [Nat.pow_succ]
      have : (w + 1) * nc ≤ nc ^ n * nc := Nat.mul_le_mul_right _ h1
      rw [Nat.succ_mul] at this; omega
    · rw [bitW_suc h3] at hb
      by_cases e : k = n
      · subst e
        by_cases e2 : c' = c
        · rw [← e2]; exact h4
        · rw [if_neg e2, bt_top (bitW_lt ..) 0 (by omega)] at hb; omega
      · rw [bt_add (by omega)] at hb
        exact h2 c k (by omega) hb
