/-! the program: kinds of the reference, one by one -/
theorem i_min (x y : Int32) : (if x < y then some x else some y) = some (if y < x then y else x) := by
  by_cases h1 : x < y
  · rw [if_pos h1, if_neg (fun z => Int32.lt_irrefl (Int32.lt_trans h1 z))]
  · rw [if_neg h1]
    by_cases h2 : y < x
    · rw [if_pos h2]
    · rw [if_neg h2]
      congr 1
      exact Int32.le_antisymm (Int32.not_lt.mp h2) (Int32.not_lt.mp h1) |>.symm
theorem i_min2 (x y : Int32) : (if x < y then x else y) = (if y < x then y else x) := by
  have := i_min x y
  rw [iteS] at this
  exact Option.some.inj this
theorem i_max (x y : Int32) : (if y < x then some x else some y) = some (if x < y then y else x) := by
  by_cases h1 : y < x
  · rw [if_pos h1, if_neg (fun z => Int32.lt_irrefl (Int32.lt_trans h1 z))]
  · rw [if_neg h1]
    by_cases h2 : x < y
    · rw [if_pos h2]
    · rw [if_neg h2]
      congr 1
      exact Int32.le_antisymm (Int32.not_lt.mp h2) (Int32.not_lt.mp h1)
theorem lc_neg (a b : Int64) : lg_cmp a b < 0 ↔ a < b := by
  unfold lg_cmp
  by_cases h1 : b < a
  · rw [if_pos h1]
    exact ⟨fun z => absurd z (by decide), fun z => absurd (Int64.lt_trans h1 z) Int64.lt_irrefl⟩
  · rw [if_neg h1]
    by_cases h2 : a = b
    · rw [if_pos h2, h2]
      exact ⟨fun z => absurd z (by decide), fun z => absurd z Int64.lt_irrefl⟩
    · rw [if_neg h2]
      exact ⟨fun _ => Int64.lt_of_le_of_ne (Int64.not_lt.mp h1) h2, fun _ => by decide⟩
theorem lc_pos (a b : Int64) : 0 < lg_cmp a b ↔ b < a := by
  unfold lg_cmp
  by_cases h1 : b < a
  · rw [if_pos h1]
    exact ⟨fun _ => h1, fun _ => by decide⟩
  · rw [if_neg h1]
    by_cases h2 : a = b
    · rw [if_pos h2, h2]
      exact ⟨fun z => absurd z (by decide), fun z => absurd z Int64.lt_irrefl⟩
    · rw [if_neg h2]
      exact ⟨fun z => absurd z (by decide), fun z => absurd z h1⟩
theorem l_min2 (x y : Int64) : (if x < y then x else y) = (if y < x then y else x) := by
  by_cases h1 : x < y
  · rw [if_pos h1, if_neg (fun z => Int64.lt_irrefl (Int64.lt_trans h1 z))]
  · rw [if_neg h1]
    by_cases h2 : y < x
    · rw [if_pos h2]
    · rw [if_neg h2]
      exact Int64.le_antisymm (Int64.not_lt.mp h1) (Int64.not_lt.mp h2)
theorem l_max2 (x y : Int64) : (if y < x then x else y) = (if x < y then y else x) := by
  by_cases h1 : y < x
  · rw [if_pos h1, if_neg (fun z => Int64.lt_irrefl (Int64.lt_trans h1 z))]
  · rw [if_neg h1]
    by_cases h2 : x < y
    · rw [if_pos h2]
    · rw [if_neg h2]
      exact Int64.le_antisymm (Int64.not_lt.mp h2) (Int64.not_lt.mp h1)
theorem l_step (P : Int32) : (if P < 0 then (0 : Int64) else P.toInt64) = (if 0 < P then P else 0).toInt64 := by
  by_cases h1 : P < 0
  · rw [if_pos h1, if_neg (fun z => Int32.lt_irrefl (Int32.lt_trans h1 z))]; rfl
  · rw [if_neg h1]
    by_cases h2 : 0 < P
    · rw [if_pos h2]
    · rw [if_neg h2, Int32.le_antisymm (Int32.not_lt.mp h2) (Int32.not_lt.mp h1)]
theorem fg_f {t : TS} {k : Nat} {f : Int32} : fg t k f (t.2.2.1 133 k) = wrI t 132 k f := by
  unfold fg
  have : (wrI t 132 k f).2.2.1 133 k = t.2.2.1 133 k := wr_ne (by omega) k
  rw [← this, wr_id]
theorem fg_c {t : TS} {k : Nat} {f g : Int32} : fg t k f g = wrI (wrI t 133 k g) 132 k f := by
  unfold fg
  refine Prod.ext rfl (Prod.ext rfl (Prod.ext ?_ rfl))
  funext c j
  rw [wr_at, wr_at, wr_at, wr_at]
  by_cases h1 : c = 133 ∧ j = k
  · rw [if_pos h1, if_neg (by omega), if_pos h1]
  · rw [if_neg h1]
    by_cases h2 : c = 132 ∧ j = k
    · rw [if_pos h2, if_pos h2]
    · rw [if_neg h2, if_neg h2, if_neg h1]
theorem fg_g {t : TS} {k : Nat} {g : Int32} : fg t k (t.2.2.1 132 k) g = wrI t 133 k g := by
  unfold fg; rw [wr_id]
section
variable {t : TS} {n k : Nat}
theorem t_814d {i : Nat} {x : Int32} (ho : okW t n) (hk : k < n) (hx : inV t k 1 = some x) : t_814 (Int32.ofNat k) 1 t = some x := t_in (i := 1) ho hk (by omega) hx
theorem t_8140 {x : Int32} (ho : okW t n) (hk : k < n) (hx : inV t k 0 = some x) : t_814 (Int32.ofNat k) 0 t = some x := t_in (i := 0) ho hk (by omega) hx
theorem t_8142 {x : Int32} (ho : okW t n) (hk : k < n) (hx : inV t k 2 = some x) : t_814 (Int32.ofNat k) 2 t = some x := t_in (i := 2) ho hk (by omega) hx
theorem t_813d {K : Nat} {x y : Int32} (ho : okW t n) (hk : k < n) (hK : K = 5 ∨ K = 6) (hKe : t.2.2.1 125 k = Int32.ofNat K) (h0 : inV t k 0 = some x) (h1 : inV t k 1 = some y) : t_813 (Int32.ofNat k) t = some (if y = 0 then 1 else 0) := by
  have hn := ho.1
  have hi : inp K = 2 := by rcases hK with rfl | rfl <;> rfl
  unfold t_813
  rw [rdI_n (by omega) (by omega), Option.bind_some, hKe, t_wl ho hk (by omega), if_pos (Or.inr (by rw [hi, allW_2]; simp [inV_w, h0, h1]))]
  simp only [Option.bind_some, Sum.elim_inl, Sum.elim_inr]
  have e5 : (if Int32.ofNat K = 5 then some (Sum.inl (β := Unit ⊕ Int32) ()) else (if Int32.ofNat K = 6 then some (.inl ()) else some (.inr (.inl ())))) = some (.inl ()) := by
    rcases hK with rfl | rfl
    · rfl
    · rfl
  rw [e5, Option.bind_some, Sum.elim_inl, t_814d (i := 0) ho hk h1, Option.bind_some]
  by_cases hy : y = 0
  · rw [if_pos hy, if_pos hy]; rfl
  · rw [if_neg hy, if_neg hy, Option.bind_some, Sum.elim_inl]
    have e0 : ¬ Int32.ofNat K = 0 := by rcases hK with rfl | rfl <;> decide
    have e15 : ¬ Int32.ofNat K = 15 := by rcases hK with rfl | rfl <;> decide
    rw [if_neg e0, Option.bind_some, Sum.elim_inl, if_neg e15]; rfl
theorem t_813z (ho : okW t n) (hk : k < n) (hKe : t.2.2.1 125 k = Int32.ofNat 0) : t_813 (Int32.ofNat k) t = some (if t.2.2.1 126 k < 0 then 2 else if t.2.2.1 126 k < 10 then 0 else 2) := by
  have hn := ho.1
  unfold t_813
  rw [rdI_n (by omega) (by omega), Option.bind_some, hKe, t_wl ho hk (by omega), if_pos (Or.inr (show allW t k (inp 0) = true from rfl))]
  simp only [Option.bind_some, Sum.elim_inl, Sum.elim_inr, rdI_n (show k < 40 by omega) (show 40 < 2147483648 by omega)]
  rw [if_neg (by decide), if_neg (by decide), Option.bind_some, Sum.elim_inr, Option.bind_some, Sum.elim_inl, if_pos (by decide)]
  by_cases h1 : t.2.2.1 126 k < 0
  · simp [h1]
  · by_cases h2 : t.2.2.1 126 k < 10
    · have : ¬ 9 < t.2.2.1 126 k := fun z => by
        rw [Int32.lt_iff_toInt_lt] at z h2
        have : (9 : Int32).toInt = 9 := rfl
        have : (10 : Int32).toInt = 10 := rfl
        omega
      simp only [h1, h2, this, if_true, if_false, Option.bind_some, Sum.elim_inl]
      rfl
    · have : 9 < t.2.2.1 126 k := by
        rw [Int32.lt_iff_toInt_lt] at h2 ⊢
        have : (9 : Int32).toInt = 9 := rfl
        have : (10 : Int32).toInt = 10 := rfl
        omega
      simp only [h1, h2, this, if_true, if_false, Option.bind_some, Sum.elim_inr]
      rfl
theorem t_813r {x : Int32} (ho : okW t n) (hk : k < n) (hKe : t.2.2.1 125 k = Int32.ofNat 15) (h0 : inV t k 0 = some x) : t_813 (Int32.ofNat k) t = some (if x < 0 then 2 else if x < 8 then 0 else 2) := by
  have hn := ho.1
  unfold t_813
  rw [rdI_n (by omega) (by omega), Option.bind_some, hKe, t_wl ho hk (by omega), if_pos (Or.inr (by rw [show inp 15 = 1 from rfl, allW_1]; simp [inV_w, h0]))]
  simp only [Option.bind_some, Sum.elim_inl, Sum.elim_inr, t_8140 ho hk h0]
  rw [if_neg (by decide), if_neg (by decide), Option.bind_some, Sum.elim_inr, Option.bind_some, Sum.elim_inl, if_neg (by decide), Option.bind_some, Sum.elim_inl, if_pos (by decide)]
  by_cases h1 : x < 0
  · simp [h1]
  · by_cases h2 : x < 8
    · have : ¬ 7 < x := fun z => by
        rw [Int32.lt_iff_toInt_lt] at z h2
        have : (7 : Int32).toInt = 7 := rfl
        have : (8 : Int32).toInt = 8 := rfl
        omega
      simp only [h1, h2, this, if_true, if_false, Option.bind_some]
    · have : 7 < x := by
        rw [Int32.lt_iff_toInt_lt] at h2 ⊢
        have : (7 : Int32).toInt = 7 := rfl
        have : (8 : Int32).toInt = 8 := rfl
        omega
      simp only [h1, h2, this, if_true, if_false, Option.bind_some]
      rfl

theorem tkd_0 (ho : okW t n) (hk : k < n) (hKe : t.2.2.1 125 k = Int32.ofNat 0) : t_812 (Int32.ofNat k) t = some (app t k (evl t k 0)) := by
  have hn := ho.1
  unfold evl
  try dsimp only
  try dsimp only
  by_cases q1 : t.2.2.1 126 k < 0
  · rw [if_pos q1]
    exact t_fail (w := 2) ho hk (by omega) (by rw [t_813z ho hk hKe, if_pos q1]; rfl)
  · rw [if_neg q1]
    by_cases q2 : t.2.2.1 126 k < 10
    · rw [if_pos q2]
      obtain ⟨j, hj, ej⟩ := i_nat (n := 10) (by omega) q1 q2
      refine t_okp ho hk (by omega) hKe (by rw [t_813z ho hk hKe, if_neg q1, if_pos q2]) (fun h => absurd h (by decide)) (fun h => rfl) (fun h => absurd h (by decide)) (fun h => rfl) ?_
      unfold t_816
      rw [rdI_n (by omega) (by omega), Option.bind_some, hKe, if_pos (by decide), rdI_n (by omega) (by omega), Option.bind_some, ej, rdI_n hj (by omega), Option.bind_some, bN, i_clamp (by omega)]
    · rw [if_neg q2]
      exact t_fail (w := 2) ho hk (by omega) (by rw [t_813z ho hk hKe, if_neg q1, if_neg q2]; rfl)
theorem tkd_1 (ho : okW t n) (hk : k < n) (hKe : t.2.2.1 125 k = Int32.ofNat 1) : t_812 (Int32.ofNat k) t = some (app t k (evl t k 1)) := by
  have hn := ho.1
  unfold evl
  try dsimp only
  try dsimp only
  refine t_okp ho hk (by omega) hKe (t_813o ho hk (by omega) hKe (Or.inr rfl) (by omega) (by omega) (by omega) (by omega)) (fun h => absurd h (by decide)) (fun h => rfl) (fun h => absurd h (by decide)) (fun h => rfl) ?_
  unfold t_816
  rw [rdI_n (by omega) (by omega), Option.bind_some, hKe, if_neg (by decide), if_pos (by decide)]
  rw [rdI_n (by omega) (by omega), Option.bind_some]
theorem tkd_2 (ho : okW t n) (hk : k < n) (hKe : t.2.2.1 125 k = Int32.ofNat 2) : t_812 (Int32.ofNat k) t = some (app t k (evl t k 2)) := by
  have hn := ho.1
  unfold evl ev2
  try dsimp only
  cases h0 : inV t k 0 with
  | none => exact t_fail (w := 3) ho hk (by omega) (t_813w ho hk (by omega) hKe (by omega) (by rw [show inp 2 = 2 from rfl, allW_2]; simp [inV_w, h0]))
  | some x0 =>
  cases h1 : inV t k 1 with
  | none => exact t_fail (w := 3) ho hk (by omega) (t_813w ho hk (by omega) hKe (by omega) (by rw [show inp 2 = 2 from rfl, allW_2]; simp [inV_w, h0, h1]))
  | some x1 =>
  try dsimp only
  refine t_okp ho hk (by omega) hKe (t_813o ho hk (by omega) hKe (Or.inr (by rw [show inp 2 = 2 from rfl, allW_2]; simp [inV_w, h0, h1])) (by omega) (by omega) (by omega) (by omega)) (fun _ => h0) (fun h => absurd h (by decide)) (fun h => h1) (fun h => absurd h (by decide)) ?_
  unfold t_816
  rw [rdI_n (by omega) (by omega), Option.bind_some, hKe, if_neg (by decide), if_neg (by decide), if_pos (by decide)]
theorem tkd_3 (ho : okW t n) (hk : k < n) (hKe : t.2.2.1 125 k = Int32.ofNat 3) : t_812 (Int32.ofNat k) t = some (app t k (evl t k 3)) := by
  have hn := ho.1
  unfold evl ev2
  try dsimp only
  cases h0 : inV t k 0 with
  | none => exact t_fail (w := 3) ho hk (by omega) (t_813w ho hk (by omega) hKe (by omega) (by rw [show inp 3 = 2 from rfl, allW_2]; simp [inV_w, h0]))
  | some x0 =>
  cases h1 : inV t k 1 with
  | none => exact t_fail (w := 3) ho hk (by omega) (t_813w ho hk (by omega) hKe (by omega) (by rw [show inp 3 = 2 from rfl, allW_2]; simp [inV_w, h0, h1]))
  | some x1 =>
  try dsimp only
  refine t_okp ho hk (by omega) hKe (t_813o ho hk (by omega) hKe (Or.inr (by rw [show inp 3 = 2 from rfl, allW_2]; simp [inV_w, h0, h1])) (by omega) (by omega) (by omega) (by omega)) (fun _ => h0) (fun h => absurd h (by decide)) (fun h => h1) (fun h => absurd h (by decide)) ?_
  unfold t_816
  rw [rdI_n (by omega) (by omega), Option.bind_some, hKe, if_neg (by decide), if_neg (by decide), if_neg (by decide), if_pos (by decide)]
theorem tkd_4 (ho : okW t n) (hk : k < n) (hKe : t.2.2.1 125 k = Int32.ofNat 4) : t_812 (Int32.ofNat k) t = some (app t k (evl t k 4)) := by
  have hn := ho.1
  unfold evl ev2
  try dsimp only
  cases h0 : inV t k 0 with
  | none => exact t_fail (w := 3) ho hk (by omega) (t_813w ho hk (by omega) hKe (by omega) (by rw [show inp 4 = 2 from rfl, allW_2]; simp [inV_w, h0]))
  | some x0 =>
  cases h1 : inV t k 1 with
  | none => exact t_fail (w := 3) ho hk (by omega) (t_813w ho hk (by omega) hKe (by omega) (by rw [show inp 4 = 2 from rfl, allW_2]; simp [inV_w, h0, h1]))
  | some x1 =>
  try dsimp only
  refine t_okp ho hk (by omega) hKe (t_813o ho hk (by omega) hKe (Or.inr (by rw [show inp 4 = 2 from rfl, allW_2]; simp [inV_w, h0, h1])) (by omega) (by omega) (by omega) (by omega)) (fun _ => h0) (fun h => absurd h (by decide)) (fun h => h1) (fun h => absurd h (by decide)) ?_
  unfold t_816
  rw [rdI_n (by omega) (by omega), Option.bind_some, hKe, if_neg (by decide), if_neg (by decide), if_neg (by decide), if_neg (by decide), if_pos (by decide)]
theorem tkd_5 (ho : okW t n) (hk : k < n) (hKe : t.2.2.1 125 k = Int32.ofNat 5) : t_812 (Int32.ofNat k) t = some (app t k (evl t k 5)) := by
  have hn := ho.1
  unfold evl ev2
  try dsimp only
  cases h0 : inV t k 0 with
  | none => exact t_fail (w := 3) ho hk (by omega) (t_813w ho hk (by omega) hKe (by omega) (by rw [show inp 5 = 2 from rfl, allW_2]; simp [inV_w, h0]))
  | some x0 =>
  cases h1 : inV t k 1 with
  | none => exact t_fail (w := 3) ho hk (by omega) (t_813w ho hk (by omega) hKe (by omega) (by rw [show inp 5 = 2 from rfl, allW_2]; simp [inV_w, h0, h1]))
  | some x1 =>
  try dsimp only
  show t_812 (Int32.ofNat k) t = some (app t k (if x1 = 0 then .inr 1 else .inl (x0 / x1, t.2.2.1 132 k, t.2.2.1 133 k)))
  by_cases q1 : x1 = 0
  · rw [if_pos q1]
    exact t_fail (w := 1) ho hk (by omega) (by rw [t_813d ho hk (by omega) hKe h0 h1, if_pos q1]; rfl)
  · rw [if_neg q1]
    refine t_okp ho hk (by omega) hKe (by rw [t_813d ho hk (by omega) hKe h0 h1, if_neg q1]) (fun _ => h0) (fun h => absurd h (by decide)) (fun h => h1) (fun h => absurd h (by decide)) ?_
    unfold t_816
    rw [rdI_n (by omega) (by omega), Option.bind_some, hKe, if_neg (by decide), if_neg (by decide), if_neg (by decide), if_neg (by decide), if_neg (by decide), if_pos (by decide)]
    rw [if_neg q1]
theorem tkd_6 (ho : okW t n) (hk : k < n) (hKe : t.2.2.1 125 k = Int32.ofNat 6) : t_812 (Int32.ofNat k) t = some (app t k (evl t k 6)) := by
  have hn := ho.1
  unfold evl ev2
  try dsimp only
  cases h0 : inV t k 0 with
  | none => exact t_fail (w := 3) ho hk (by omega) (t_813w ho hk (by omega) hKe (by omega) (by rw [show inp 6 = 2 from rfl, allW_2]; simp [inV_w, h0]))
  | some x0 =>
  cases h1 : inV t k 1 with
  | none => exact t_fail (w := 3) ho hk (by omega) (t_813w ho hk (by omega) hKe (by omega) (by rw [show inp 6 = 2 from rfl, allW_2]; simp [inV_w, h0, h1]))
  | some x1 =>
  try dsimp only
  show t_812 (Int32.ofNat k) t = some (app t k (if x1 = 0 then .inr 1 else .inl (x0 - x0 / x1 * x1, t.2.2.1 132 k, t.2.2.1 133 k)))
  by_cases q1 : x1 = 0
  · rw [if_pos q1]
    exact t_fail (w := 1) ho hk (by omega) (by rw [t_813d ho hk (by omega) hKe h0 h1, if_pos q1]; rfl)
  · rw [if_neg q1]
    refine t_okp ho hk (by omega) hKe (by rw [t_813d ho hk (by omega) hKe h0 h1, if_neg q1]) (fun _ => h0) (fun h => absurd h (by decide)) (fun h => h1) (fun h => absurd h (by decide)) ?_
    unfold t_816
    rw [rdI_n (by omega) (by omega), Option.bind_some, hKe, if_neg (by decide), if_neg (by decide), if_neg (by decide), if_neg (by decide), if_neg (by decide), if_neg (by decide), if_pos (by decide)]
    rw [if_neg q1, Int32.mul_comm x1]
theorem tkd_7 (ho : okW t n) (hk : k < n) (hKe : t.2.2.1 125 k = Int32.ofNat 7) : t_812 (Int32.ofNat k) t = some (app t k (evl t k 7)) := by
  have hn := ho.1
  unfold evl ev2
  try dsimp only
  cases h0 : inV t k 0 with
  | none => exact t_fail (w := 3) ho hk (by omega) (t_813w ho hk (by omega) hKe (by omega) (by rw [show inp 7 = 2 from rfl, allW_2]; simp [inV_w, h0]))
  | some x0 =>
  cases h1 : inV t k 1 with
  | none => exact t_fail (w := 3) ho hk (by omega) (t_813w ho hk (by omega) hKe (by omega) (by rw [show inp 7 = 2 from rfl, allW_2]; simp [inV_w, h0, h1]))
  | some x1 =>
  try dsimp only
  refine t_okp ho hk (by omega) hKe (t_813o ho hk (by omega) hKe (Or.inr (by rw [show inp 7 = 2 from rfl, allW_2]; simp [inV_w, h0, h1])) (by omega) (by omega) (by omega) (by omega)) (fun _ => h0) (fun h => absurd h (by decide)) (fun h => h1) (fun h => absurd h (by decide)) ?_
  unfold t_816
  rw [rdI_n (by omega) (by omega), Option.bind_some, hKe, if_neg (by decide), if_neg (by decide), if_neg (by decide), if_neg (by decide), if_neg (by decide), if_neg (by decide), if_neg (by decide), if_pos (by decide)]
  exact i_min x0 x1
theorem tkd_8 (ho : okW t n) (hk : k < n) (hKe : t.2.2.1 125 k = Int32.ofNat 8) : t_812 (Int32.ofNat k) t = some (app t k (evl t k 8)) := by
  have hn := ho.1
  unfold evl ev2
  try dsimp only
  cases h0 : inV t k 0 with
  | none => exact t_fail (w := 3) ho hk (by omega) (t_813w ho hk (by omega) hKe (by omega) (by rw [show inp 8 = 2 from rfl, allW_2]; simp [inV_w, h0]))
  | some x0 =>
  cases h1 : inV t k 1 with
  | none => exact t_fail (w := 3) ho hk (by omega) (t_813w ho hk (by omega) hKe (by omega) (by rw [show inp 8 = 2 from rfl, allW_2]; simp [inV_w, h0, h1]))
  | some x1 =>
  try dsimp only
  refine t_okp ho hk (by omega) hKe (t_813o ho hk (by omega) hKe (Or.inr (by rw [show inp 8 = 2 from rfl, allW_2]; simp [inV_w, h0, h1])) (by omega) (by omega) (by omega) (by omega)) (fun _ => h0) (fun h => absurd h (by decide)) (fun h => h1) (fun h => absurd h (by decide)) ?_
  unfold t_816
  rw [rdI_n (by omega) (by omega), Option.bind_some, hKe, if_neg (by decide), if_neg (by decide), if_neg (by decide), if_neg (by decide), if_neg (by decide), if_neg (by decide), if_neg (by decide), if_neg (by decide), if_pos (by decide)]
  exact i_max x0 x1
theorem tkd_9 (ho : okW t n) (hk : k < n) (hKe : t.2.2.1 125 k = Int32.ofNat 9) : t_812 (Int32.ofNat k) t = some (app t k (evl t k 9)) := by
  have hn := ho.1
  unfold evl ev2
  try dsimp only
  cases h0 : inV t k 0 with
  | none => exact t_fail (w := 3) ho hk (by omega) (t_813w ho hk (by omega) hKe (by omega) (by rw [show inp 9 = 2 from rfl, allW_2]; simp [inV_w, h0]))
  | some x0 =>
  cases h1 : inV t k 1 with
  | none => exact t_fail (w := 3) ho hk (by omega) (t_813w ho hk (by omega) hKe (by omega) (by rw [show inp 9 = 2 from rfl, allW_2]; simp [inV_w, h0, h1]))
  | some x1 =>
  try dsimp only
  refine t_okp ho hk (by omega) hKe (t_813o ho hk (by omega) hKe (Or.inr (by rw [show inp 9 = 2 from rfl, allW_2]; simp [inV_w, h0, h1])) (by omega) (by omega) (by omega) (by omega)) (fun _ => h0) (fun h => absurd h (by decide)) (fun h => h1) (fun h => absurd h (by decide)) ?_
  unfold t_816
  rw [rdI_n (by omega) (by omega), Option.bind_some, hKe, if_neg (by decide), if_neg (by decide), if_neg (by decide), if_neg (by decide), if_neg (by decide), if_neg (by decide), if_neg (by decide), if_neg (by decide), if_neg (by decide), if_pos (by decide)]
  exact iteS _ _
theorem tkd_10 (ho : okW t n) (hk : k < n) (hKe : t.2.2.1 125 k = Int32.ofNat 10) : t_812 (Int32.ofNat k) t = some (app t k (evl t k 10)) := by
  have hn := ho.1
  unfold evl ev2
  try dsimp only
  cases h0 : inV t k 0 with
  | none => exact t_fail (w := 3) ho hk (by omega) (t_813w ho hk (by omega) hKe (by omega) (by rw [show inp 10 = 2 from rfl, allW_2]; simp [inV_w, h0]))
  | some x0 =>
  cases h1 : inV t k 1 with
  | none => exact t_fail (w := 3) ho hk (by omega) (t_813w ho hk (by omega) hKe (by omega) (by rw [show inp 10 = 2 from rfl, allW_2]; simp [inV_w, h0, h1]))
  | some x1 =>
  try dsimp only
  refine t_okp ho hk (by omega) hKe (t_813o ho hk (by omega) hKe (Or.inr (by rw [show inp 10 = 2 from rfl, allW_2]; simp [inV_w, h0, h1])) (by omega) (by omega) (by omega) (by omega)) (fun _ => h0) (fun h => absurd h (by decide)) (fun h => h1) (fun h => absurd h (by decide)) ?_
  unfold t_816
  rw [rdI_n (by omega) (by omega), Option.bind_some, hKe, if_neg (by decide), if_neg (by decide), if_neg (by decide), if_neg (by decide), if_neg (by decide), if_neg (by decide), if_neg (by decide), if_neg (by decide), if_neg (by decide), if_neg (by decide), if_pos (by decide)]
  exact iteS _ _
theorem tkd_11 (ho : okW t n) (hk : k < n) (hKe : t.2.2.1 125 k = Int32.ofNat 11) : t_812 (Int32.ofNat k) t = some (app t k (evl t k 11)) := by
  have hn := ho.1
  unfold evl ev2
  try dsimp only
  cases h0 : inV t k 0 with
  | none => exact t_fail (w := 3) ho hk (by omega) (t_813w ho hk (by omega) hKe (by omega) (by rw [show inp 11 = 2 from rfl, allW_2]; simp [inV_w, h0]))
  | some x0 =>
  cases h1 : inV t k 1 with
  | none => exact t_fail (w := 3) ho hk (by omega) (t_813w ho hk (by omega) hKe (by omega) (by rw [show inp 11 = 2 from rfl, allW_2]; simp [inV_w, h0, h1]))
  | some x1 =>
  try dsimp only
  refine t_okp ho hk (by omega) hKe (t_813o ho hk (by omega) hKe (Or.inr (by rw [show inp 11 = 2 from rfl, allW_2]; simp [inV_w, h0, h1])) (by omega) (by omega) (by omega) (by omega)) (fun _ => h0) (fun h => absurd h (by decide)) (fun h => h1) (fun h => absurd h (by decide)) ?_
  unfold t_816
  rw [rdI_n (by omega) (by omega), Option.bind_some, hKe, if_neg (by decide), if_neg (by decide), if_neg (by decide), if_neg (by decide), if_neg (by decide), if_neg (by decide), if_neg (by decide), if_neg (by decide), if_neg (by decide), if_neg (by decide), if_neg (by decide), if_pos (by decide)]
  simp only [iteS]
theorem tkd_12 (ho : okW t n) (hk : k < n) (hKe : t.2.2.1 125 k = Int32.ofNat 12) : t_812 (Int32.ofNat k) t = some (app t k (evl t k 12)) := by
  have hn := ho.1
  unfold evl ev2
  try dsimp only
  cases h0 : inV t k 0 with
  | none => exact t_fail (w := 3) ho hk (by omega) (t_813w ho hk (by omega) hKe (by omega) (by rw [show inp 12 = 2 from rfl, allW_2]; simp [inV_w, h0]))
  | some x0 =>
  cases h1 : inV t k 1 with
  | none => exact t_fail (w := 3) ho hk (by omega) (t_813w ho hk (by omega) hKe (by omega) (by rw [show inp 12 = 2 from rfl, allW_2]; simp [inV_w, h0, h1]))
  | some x1 =>
  try dsimp only
  refine t_okp ho hk (by omega) hKe (t_813o ho hk (by omega) hKe (Or.inr (by rw [show inp 12 = 2 from rfl, allW_2]; simp [inV_w, h0, h1])) (by omega) (by omega) (by omega) (by omega)) (fun _ => h0) (fun h => absurd h (by decide)) (fun h => h1) (fun h => absurd h (by decide)) ?_
  unfold t_816
  rw [rdI_n (by omega) (by omega), Option.bind_some, hKe, if_neg (by decide), if_neg (by decide), if_neg (by decide), if_neg (by decide), if_neg (by decide), if_neg (by decide), if_neg (by decide), if_neg (by decide), if_neg (by decide), if_neg (by decide), if_neg (by decide), if_neg (by decide), if_pos (by decide)]
  simp only [iteS]
theorem tkd_13 (ho : okW t n) (hk : k < n) (hKe : t.2.2.1 125 k = Int32.ofNat 13) : t_812 (Int32.ofNat k) t = some (app t k (evl t k 13)) := by
  have hn := ho.1
  unfold evl ev1
  try dsimp only
  cases h0 : inV t k 0 with
  | none => exact t_fail (w := 3) ho hk (by omega) (t_813w ho hk (by omega) hKe (by omega) (by rw [show inp 13 = 1 from rfl, allW_1]; simp [inV_w, h0]))
  | some x0 =>
  try dsimp only
  refine t_okp ho hk (by omega) hKe (t_813o ho hk (by omega) hKe (Or.inr (by rw [show inp 13 = 1 from rfl, allW_1]; simp [inV_w, h0])) (by omega) (by omega) (by omega) (by omega)) (fun _ => h0) (fun h => absurd h (by decide)) (fun h => absurd h (by decide)) (fun h => rfl) ?_
  unfold t_816
  rw [rdI_n (by omega) (by omega), Option.bind_some, hKe, if_neg (by decide), if_neg (by decide), if_neg (by decide), if_neg (by decide), if_neg (by decide), if_neg (by decide), if_neg (by decide), if_neg (by decide), if_neg (by decide), if_neg (by decide), if_neg (by decide), if_neg (by decide), if_neg (by decide), if_pos (by decide)]
  exact iteS _ _
theorem tkd_14 (ho : okW t n) (hk : k < n) (hKe : t.2.2.1 125 k = Int32.ofNat 14) : t_812 (Int32.ofNat k) t = some (app t k (evl t k 14)) := by
  have hn := ho.1
  unfold evl ev3
  try dsimp only
  cases h1 : inV t k 1 with
  | none => exact t_fail (w := 3) ho hk (by omega) (t_813w ho hk (by omega) hKe (by omega) (by rw [show inp 14 = 3 from rfl, allW_3]; simp [inV_w, h1]))
  | some x1 =>
  cases h2 : inV t k 2 with
  | none => exact t_fail (w := 3) ho hk (by omega) (t_813w ho hk (by omega) hKe (by omega) (by rw [show inp 14 = 3 from rfl, allW_3]; simp [inV_w, h1, h2]))
  | some x2 =>
  cases h0 : inV t k 0 with
  | none => exact t_fail (w := 3) ho hk (by omega) (t_813w ho hk (by omega) hKe (by omega) (by rw [show inp 14 = 3 from rfl, allW_3]; simp [inV_w, h1, h2, h0]))
  | some x0 =>
  try dsimp only
  refine t_okp ho hk (by omega) hKe (t_813o ho hk (by omega) hKe (Or.inr (by rw [show inp 14 = 3 from rfl, allW_3]; simp [inV_w, h1, h2, h0])) (by omega) (by omega) (by omega) (by omega)) (fun _ => h0) (fun h => absurd h (by decide)) (fun h => h1) (fun h => absurd h (by decide)) ?_
  unfold t_816
  rw [rdI_n (by omega) (by omega), Option.bind_some, hKe, if_neg (by decide), if_neg (by decide), if_neg (by decide), if_neg (by decide), if_neg (by decide), if_neg (by decide), if_neg (by decide), if_neg (by decide), if_neg (by decide), if_neg (by decide), if_neg (by decide), if_neg (by decide), if_neg (by decide), if_neg (by decide), if_pos (by decide)]
  rw [t_8142 ho hk h2, Option.bind_some]; exact iteS _ _
theorem tkd_15 (ho : okW t n) (hk : k < n) (hKe : t.2.2.1 125 k = Int32.ofNat 15) : t_812 (Int32.ofNat k) t = some (app t k (evl t k 15)) := by
  have hn := ho.1
  unfold evl ev1
  try dsimp only
  cases h0 : inV t k 0 with
  | none => exact t_fail (w := 3) ho hk (by omega) (t_813w ho hk (by omega) hKe (by omega) (by rw [show inp 15 = 1 from rfl, allW_1]; simp [inV_w, h0]))
  | some x0 =>
  try dsimp only
  by_cases q1 : x0 < 0
  · rw [if_pos q1]
    exact t_fail (w := 2) ho hk (by omega) (by rw [t_813r ho hk hKe h0, if_pos q1]; rfl)
  · rw [if_neg q1]
    by_cases q2 : x0 < 8
    · rw [if_pos q2]
      obtain ⟨j, hj, ej⟩ := i_nat (n := 8) (by omega) q1 q2
      refine t_okp ho hk (by omega) hKe (by rw [t_813r ho hk hKe h0, if_neg q1, if_pos q2]) (fun _ => h0) (fun h => absurd h (by decide)) (fun h => absurd h (by decide)) (fun h => rfl) ?_
      unfold t_816
      rw [rdI_n (by omega) (by omega), Option.bind_some, hKe, if_neg (by decide), if_neg (by decide), if_neg (by decide), if_neg (by decide), if_neg (by decide), if_neg (by decide), if_neg (by decide), if_neg (by decide), if_neg (by decide), if_neg (by decide), if_neg (by decide), if_neg (by decide), if_neg (by decide), if_neg (by decide), if_neg (by decide), ej, i_mulL, i_add, rdI_n (by omega) (by omega), Option.bind_some, bN, i_clamp (by omega)]
    · rw [if_neg q2]
      exact t_fail (w := 2) ho hk (by omega) (by rw [t_813r ho hk hKe h0, if_neg q1, if_neg q2]; rfl)
theorem tkd_16 (ho : okW t n) (hk : k < n) (hKe : t.2.2.1 125 k = Int32.ofNat 16) : t_812 (Int32.ofNat k) t = some (app t k (evl t k 16)) := by
  have hn := ho.1
  unfold evl
  try dsimp only
  try dsimp only
  refine t_okk ho hk (by omega) (by omega) hKe (t_813o ho hk (by omega) hKe (Or.inl rfl) (by omega) (by omega) (by omega) (by omega)) (fun h _ => absurd rfl h) (fun h => rfl) (fun h => absurd h (by decide)) (fun h => rfl) ?_
  unfold t_817
  rw [rdI_n (by omega) (by omega), Option.bind_some, hKe, if_pos (by decide)]
  rw [rdI_n (by omega) (by omega), Option.bind_some, fg_id]
theorem tkd_17 (ho : okW t n) (hk : k < n) (hKe : t.2.2.1 125 k = Int32.ofNat 17) : t_812 (Int32.ofNat k) t = some (app t k (evl t k 17)) := by
  have hn := ho.1
  unfold evl ev1
  try dsimp only
  cases h0 : inV t k 0 with
  | none => exact t_fail (w := 3) ho hk (by omega) (t_813w ho hk (by omega) hKe (by omega) (by rw [show inp 17 = 1 from rfl, allW_1]; simp [inV_w, h0]))
  | some x0 =>
  try dsimp only
  refine t_okk ho hk (by omega) (by omega) hKe (t_813o ho hk (by omega) hKe (Or.inr (by rw [show inp 17 = 1 from rfl, allW_1]; simp [inV_w, h0])) (by omega) (by omega) (by omega) (by omega)) (fun h _ => h0) (fun h => absurd h (by decide)) (fun h => absurd h (by decide)) (fun h => rfl) ?_
  unfold t_817
  rw [rdI_n (by omega) (by omega), Option.bind_some, hKe, if_neg (by decide), if_pos (by decide)]
  unfold t_818
  simp only [rdI_n (show k < 40 by omega) (show 40 < 2147483648 by omega), Option.bind_some, iteS, lc_neg, lc_pos, ramp, l_step]
  rw [fg_id, l_min2 (x0.toInt64 - (t.2.2.1 131 k).toInt64), l_max2]
theorem tkd_18 (ho : okW t n) (hk : k < n) (hKe : t.2.2.1 125 k = Int32.ofNat 18) : t_812 (Int32.ofNat k) t = some (app t k (evl t k 18)) := by
  have hn := ho.1
  unfold evl ev2
  try dsimp only
  cases h0 : inV t k 0 with
  | none => exact t_fail (w := 3) ho hk (by omega) (t_813w ho hk (by omega) hKe (by omega) (by rw [show inp 18 = 2 from rfl, allW_2]; simp [inV_w, h0]))
  | some x0 =>
  cases h1 : inV t k 1 with
  | none => exact t_fail (w := 3) ho hk (by omega) (t_813w ho hk (by omega) hKe (by omega) (by rw [show inp 18 = 2 from rfl, allW_2]; simp [inV_w, h0, h1]))
  | some x1 =>
  try dsimp only
  refine t_okk ho hk (by omega) (by omega) hKe (t_813o ho hk (by omega) hKe (Or.inr (by rw [show inp 18 = 2 from rfl, allW_2]; simp [inV_w, h0, h1])) (by omega) (by omega) (by omega) (by omega)) (fun h _ => h0) (fun h => absurd h (by decide)) (fun h => h1) (fun h => absurd h (by decide)) ?_
  unfold t_817
  rw [rdI_n (by omega) (by omega), Option.bind_some, hKe, if_neg (by decide), if_neg (by decide), if_pos (by decide)]
  unfold t_819
  by_cases q1 : x0 = 0 <;> by_cases q2 : x1 = 0 <;> by_cases q3 : t.2.2.1 133 k = 0
  all_goals simp only [q1, q2, q3, rdI_n (show k < 40 by omega) (show 40 < 2147483648 by omega), stI_n (show k < 40 by omega) (show 40 < 2147483648 by omega), Option.bind_some, if_true, if_false, wr_at, and_self, show ¬ (132 : Nat) = 133 by decide, false_and, Int32.add_zero, fg_g]
  all_goals rfl
theorem tkd_19 (ho : okW t n) (hk : k < n) (hKe : t.2.2.1 125 k = Int32.ofNat 19) : t_812 (Int32.ofNat k) t = some (app t k (evl t k 19)) := by
  have hn := ho.1
  unfold evl ev2
  try dsimp only
  cases h0 : inV t k 0 with
  | none => exact t_fail (w := 3) ho hk (by omega) (t_813w ho hk (by omega) hKe (by omega) (by rw [show inp 19 = 2 from rfl, allW_2]; simp [inV_w, h0]))
  | some x0 =>
  cases h1 : inV t k 1 with
  | none => exact t_fail (w := 3) ho hk (by omega) (t_813w ho hk (by omega) hKe (by omega) (by rw [show inp 19 = 2 from rfl, allW_2]; simp [inV_w, h0, h1]))
  | some x1 =>
  try dsimp only
  refine t_okk ho hk (by omega) (by omega) hKe (t_813o ho hk (by omega) hKe (Or.inr (by rw [show inp 19 = 2 from rfl, allW_2]; simp [inV_w, h0, h1])) (by omega) (by omega) (by omega) (by omega)) (fun h _ => h0) (fun h => absurd h (by decide)) (fun h => h1) (fun h => absurd h (by decide)) ?_
  unfold t_817
  rw [rdI_n (by omega) (by omega), Option.bind_some, hKe, if_neg (by decide), if_neg (by decide), if_neg (by decide), if_pos (by decide)]
  rw [fg_f]
  by_cases q1 : x0 = 0 <;> by_cases q2 : x1 = 0
  all_goals simp only [q1, q2, rdI_n (show k < 40 by omega) (show 40 < 2147483648 by omega), stI_n (show k < 40 by omega) (show 40 < 2147483648 by omega), Option.bind_some, if_true, if_false, wr_at, and_self]
theorem tkd_20 (ho : okW t n) (hk : k < n) (hKe : t.2.2.1 125 k = Int32.ofNat 20) : t_812 (Int32.ofNat k) t = some (app t k (evl t k 20)) := by
  have hn := ho.1
  unfold evl
  try dsimp only
  try dsimp only
  refine t_okk ho hk (by omega) (by omega) hKe (t_813o ho hk (by omega) hKe (Or.inr rfl) (by omega) (by omega) (by omega) (by omega)) (fun h _ => absurd (by assumption) (by decide)) (fun h => rfl) (fun h => absurd h (by decide)) (fun h => rfl) ?_
  unfold t_817
  rw [rdI_n (by omega) (by omega), Option.bind_some, hKe, if_neg (by decide), if_neg (by decide), if_neg (by decide), if_neg (by decide), if_pos (by decide)]
  unfold t_820 clk
  simp only [rdI_n (show k < 40 by omega) (show 40 < 2147483648 by omega), Option.bind_some, iteS]
  rw [fg_id]
  by_cases q1 : t.2.2.1 127 k < t.2.2.1 126 k <;> by_cases q2 : t.1 414 - t.1 414 / 1440 * 1440 < t.2.2.1 126 k <;> by_cases q3 : t.1 414 - t.1 414 / 1440 * 1440 < t.2.2.1 127 k <;> simp only [q1, q2, q3, if_true, if_false] <;> rfl
theorem tkd_21 (ho : okW t n) (hk : k < n) (hKe : t.2.2.1 125 k = Int32.ofNat 21) : t_812 (Int32.ofNat k) t = some (app t k (evl t k 21)) := by
  have hn := ho.1
  unfold evl ev1
  try dsimp only
  cases h0 : inV t k 0 with
  | none => exact t_fail (w := 3) ho hk (by omega) (t_813w ho hk (by omega) hKe (by omega) (by rw [show inp 21 = 1 from rfl, allW_1]; simp [inV_w, h0]))
  | some x0 =>
  try dsimp only
  refine t_okk ho hk (by omega) (by omega) hKe (t_813o ho hk (by omega) hKe (Or.inr (by rw [show inp 21 = 1 from rfl, allW_1]; simp [inV_w, h0])) (by omega) (by omega) (by omega) (by omega)) (fun h _ => h0) (fun h => absurd h (by decide)) (fun h => absurd h (by decide)) (fun h => rfl) ?_
  unfold t_817
  rw [rdI_n (by omega) (by omega), Option.bind_some, hKe, if_neg (by decide), if_neg (by decide), if_neg (by decide), if_neg (by decide), if_neg (by decide), if_pos (by decide)]
  unfold t_821
  by_cases q1 : x0 = 0
  · simp only [q1, rdI_n (show k < 40 by omega) (show 40 < 2147483648 by omega), stI_n (show k < 40 by omega) (show 40 < 2147483648 by omega), Option.bind_some, if_true, wr_at, show ¬ (132 : Nat) = 133 by decide, false_and, if_false]
    by_cases q4 : 0 < t.2.2.1 132 k
    · simp only [q4, if_true, Option.bind_some, fg_c]
    · simp only [q4, if_false, Option.bind_some, Int32.sub_zero, fg_g]
  · by_cases q3 : t.2.2.1 133 k = 0
    · simp only [q1, q3, rdI_n (show k < 40 by omega) (show 40 < 2147483648 by omega), stI_n (show k < 40 by omega) (show 40 < 2147483648 by omega), Option.bind_some, if_true, if_false, wr_at, show ¬ (132 : Nat) = 133 by decide, false_and, and_self]
      by_cases q4 : 0 < t.2.2.1 126 k
      · simp only [q4, if_true, Option.bind_some]
        rw [show wrI (wrI t 132 k (t.2.2.1 126 k)) 133 k x0 = fg t k (t.2.2.1 126 k) x0 from rfl, fg_c, fg_c, wr_wr]
      · simp only [q4, if_false, Option.bind_some, Int32.sub_zero]; rfl
    · simp only [q1, q3, rdI_n (show k < 40 by omega) (show 40 < 2147483648 by omega), stI_n (show k < 40 by omega) (show 40 < 2147483648 by omega), Option.bind_some, if_true, if_false, wr_at, show ¬ (132 : Nat) = 133 by decide, false_and]
      by_cases q4 : 0 < t.2.2.1 132 k
      · simp only [q4, if_true, Option.bind_some, fg_c]
      · simp only [q4, if_false, Option.bind_some, Int32.sub_zero, fg_g]
theorem tkd_22 (ho : okW t n) (hk : k < n) (hKe : t.2.2.1 125 k = Int32.ofNat 22) : t_812 (Int32.ofNat k) t = some (app t k (evl t k 22)) := by
  have hn := ho.1
  unfold evl ev1
  try dsimp only
  cases h0 : inV t k 0 with
  | none => exact t_fail (w := 3) ho hk (by omega) (t_813w ho hk (by omega) hKe (by omega) (by rw [show inp 22 = 1 from rfl, allW_1]; simp [inV_w, h0]))
  | some x0 =>
  try dsimp only
  refine t_okk ho hk (by omega) (by omega) hKe (t_813o ho hk (by omega) hKe (Or.inr (by rw [show inp 22 = 1 from rfl, allW_1]; simp [inV_w, h0])) (by omega) (by omega) (by omega) (by omega)) (fun h _ => h0) (fun h => absurd h (by decide)) (fun h => absurd h (by decide)) (fun h => rfl) ?_
  unfold t_817
  rw [rdI_n (by omega) (by omega), Option.bind_some, hKe, if_neg (by decide), if_neg (by decide), if_neg (by decide), if_neg (by decide), if_neg (by decide), if_neg (by decide), if_pos (by decide)]
  simp only [rdI_n (show k < 40 by omega) (show 40 < 2147483648 by omega), Option.bind_some]
  rw [fg_id]
  repeat' split
  all_goals rfl
theorem tkd_23 (ho : okW t n) (hk : k < n) (hKe : t.2.2.1 125 k = Int32.ofNat 23) : t_812 (Int32.ofNat k) t = some (app t k (evl t k 23)) := by
  have hn := ho.1
  unfold evl ev2
  try dsimp only
  cases h0 : inV t k 0 with
  | none => exact t_fail (w := 3) ho hk (by omega) (t_813w ho hk (by omega) hKe (by omega) (by rw [show inp 23 = 2 from rfl, allW_2]; simp [inV_w, h0]))
  | some x0 =>
  cases h1 : inV t k 1 with
  | none => exact t_fail (w := 3) ho hk (by omega) (t_813w ho hk (by omega) hKe (by omega) (by rw [show inp 23 = 2 from rfl, allW_2]; simp [inV_w, h0, h1]))
  | some x1 =>
  try dsimp only
  refine t_okk ho hk (by omega) (by omega) hKe (t_813o ho hk (by omega) hKe (Or.inr (by rw [show inp 23 = 2 from rfl, allW_2]; simp [inV_w, h0, h1])) (by omega) (by omega) (by omega) (by omega)) (fun h _ => h0) (fun h => absurd h (by decide)) (fun h => h1) (fun h => absurd h (by decide)) ?_
  unfold t_817
  rw [rdI_n (by omega) (by omega), Option.bind_some, hKe, if_neg (by decide), if_neg (by decide), if_neg (by decide), if_neg (by decide), if_neg (by decide), if_neg (by decide), if_neg (by decide), if_pos (by decide)]
  simp only [rdI_n (show k < 40 by omega) (show 40 < 2147483648 by omega), Option.bind_some]
  rw [fg_id]
  repeat' split
  all_goals rfl
theorem tkd_24 (ho : okW t n) (hk : k < n) (hKe : t.2.2.1 125 k = Int32.ofNat 24) : t_812 (Int32.ofNat k) t = some (app t k (evl t k 24)) := by
  have hn := ho.1
  unfold evl ev2
  try dsimp only
  cases h0 : inV t k 0 with
  | none => exact t_fail (w := 3) ho hk (by omega) (t_813w ho hk (by omega) hKe (by omega) (by rw [show inp 24 = 2 from rfl, allW_2]; simp [inV_w, h0]))
  | some x0 =>
  cases h1 : inV t k 1 with
  | none => exact t_fail (w := 3) ho hk (by omega) (t_813w ho hk (by omega) hKe (by omega) (by rw [show inp 24 = 2 from rfl, allW_2]; simp [inV_w, h0, h1]))
  | some x1 =>
  try dsimp only
  refine t_okk ho hk (by omega) (by omega) hKe (t_813o ho hk (by omega) hKe (Or.inr (by rw [show inp 24 = 2 from rfl, allW_2]; simp [inV_w, h0, h1])) (by omega) (by omega) (by omega) (by omega)) (fun h _ => h0) (fun h => absurd h (by decide)) (fun h => h1) (fun h => absurd h (by decide)) ?_
  unfold t_817
  rw [rdI_n (by omega) (by omega), Option.bind_some, hKe, if_neg (by decide), if_neg (by decide), if_neg (by decide), if_neg (by decide), if_neg (by decide), if_neg (by decide), if_neg (by decide), if_neg (by decide), if_pos (by decide)]
  rw [fg_f]
  by_cases q2 : x1 = 0
  all_goals simp only [q2, rdI_n (show k < 40 by omega) (show 40 < 2147483648 by omega), stI_n (show k < 40 by omega) (show 40 < 2147483648 by omega), Option.bind_some, if_true, if_false, wr_at, and_self]
theorem tkd_25 (ho : okW t n) (hk : k < n) (hKe : t.2.2.1 125 k = Int32.ofNat 25) : t_812 (Int32.ofNat k) t = some (app t k (evl t k 25)) := by
  have hn := ho.1
  unfold evl ev1
  try dsimp only
  cases h0 : inV t k 0 with
  | none => exact t_fail (w := 3) ho hk (by omega) (t_813w ho hk (by omega) hKe (by omega) (by rw [show inp 25 = 1 from rfl, allW_1]; simp [inV_w, h0]))
  | some x0 =>
  try dsimp only
  refine t_okk ho hk (by omega) (by omega) hKe (t_813o ho hk (by omega) hKe (Or.inr (by rw [show inp 25 = 1 from rfl, allW_1]; simp [inV_w, h0])) (by omega) (by omega) (by omega) (by omega)) (fun h _ => h0) (fun h => absurd h (by decide)) (fun h => absurd h (by decide)) (fun h => rfl) ?_
  unfold t_817
  rw [rdI_n (by omega) (by omega), Option.bind_some, hKe, if_neg (by decide), if_neg (by decide), if_neg (by decide), if_neg (by decide), if_neg (by decide), if_neg (by decide), if_neg (by decide), if_neg (by decide), if_neg (by decide)]
  rw [fg_f]
  simp only [rdI_n (show k < 40 by omega) (show 40 < 2147483648 by omega), Option.bind_some, iteS]
  simp only [rdI_n (show k < 40 by omega) (show 40 < 2147483648 by omega), stI_n (show k < 40 by omega) (show 40 < 2147483648 by omega), Option.bind_some, wr_at, and_self, if_true]
  rw [i_min2]
end
