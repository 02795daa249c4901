/-! permits: what the word at hand is -/
section
variable {s S : CS} {t T : TS} {x : List Nat} {rd rl k : Nat} {dp : Int32}
theorem tkW_lt (X : TxC x s) : ∀ c ∈ tkW x k, c < 1000 := by
  intro c hc
  unfold tkW at hc
  by_cases z : k = 0
  · rw [if_pos z] at hc; simp at hc
  · rw [if_neg z, tkC_take] at hc
    have := X.2.2 c (List.mem_of_mem_drop (List.mem_of_mem_take hc))
    omega
theorem RdC_68 (R : RdC S rd rl x k dp) : isK S [68] rd = true := by
  obtain ⟨_, _, _, _, _, b, fl, n, h, _⟩ := R
  exact isK_t h rfl
theorem tkW_y (R : RdC S rd rl x k dp) : ∃ y, tkW x k = tkC y := by
  obtain ⟨_, _, _, k1, _⟩ := R
  exact ⟨_, if_neg (by omega)⟩
/-- is -/
theorem c_isS (R : RdC S rd rl x k dp) {v : Nat} {fl : Bool} {ys : List Nat} (h : S.1 v = some (fl, false, 1000, txV ys)) (hy : ∀ c ∈ ys, c < 1000) : c_938 rd v S = some (if tkW x k = ys then 1 else 0) := by
  obtain ⟨_, _, X, _, _, b, fb, n, h1, h2, _⟩ := R
  unfold c_938
  rw [xN_o h1 rfl rfl, Option.bind_some, if_pos (isK_t h2 rfl)]
  have e : stEq S b (some v) = some (if tkW x k = ys then 1 else 0) := by
    unfold stEq
    rw [stC_r h2, Option.bind_some, Option.bind_some, stC_r h, Option.bind_some]
    by_cases z : tkW x k = ys
    · rw [if_pos z, if_pos (by rw [z])]
    · rw [if_neg z, if_neg (fun w => z (txV_inj (tkW_lt X) hy w))]
  rw [e, Option.bind_some]
  by_cases z : tkW x k = ys
  · rw [if_pos z]; rfl
  · rw [if_neg z]; rfl
theorem c_isT (R : RdC S rd rl x k dp) {v : Nat} {ys : List Nat} (h : (v, ys) ∈ sTab3) : c_938 rd v S = some (if tkW x k = ys then 1 else 0) := by
  refine c_isS R (R.2.1 (v, ys) h) ?_
  have : ∀ p ∈ sTab3, ∀ c ∈ p.2, c < 1000 := by decide
  exact this (v, ys) h
theorem stE_t {a : Nat} {fl : Bool} {ys : List Nat} (h : S.1 a = some (fl, false, 1000, txV ys)) : stEmpty S a = some (if ys = [] then 1 else 0) := by
  unfold stEmpty
  rw [stC_r h, Option.bind_some, txV_len]
  cases ys with
  | nil => rfl
  | cons c r => rw [if_neg (by simp), if_neg (by simp)]
theorem stA_t {a : Nat} {fl : Bool} {ys : List Nat} (h : S.1 a = some (fl, false, 1000, txV ys)) {j : Nat} (hj : j < ys.length) (hl : j < 100000) : stAt S a (Int32.ofNat j) = some (Int32.ofNat ys[j]) := by
  unfold stAt
  rw [stC_r h, Option.bind_some, if_pos (i_nlt0 (by omega)), i_clamp (by omega), txV_at hj]; rfl
theorem c_isNm (R : RdC S rd rl x k dp) : c_937 rd S = some (if tkK (tkW x k) = 2 then 1 else 0) := by
  obtain ⟨y, ey⟩ := tkW_y R
  obtain ⟨_, _, X, _, ok, b, fb, n, h1, h2, _⟩ := R
  have wl := tkW_lt (k := k) X
  rw [ey] at ok wl h2 ⊢
  obtain ⟨_, _, _, k2⟩ := kd_lt ok
  unfold c_937
  rw [xN_o h1 rfl rfl, Option.bind_some, if_pos (isK_t h2 rfl), stE_t h2, Option.bind_some]
  cases hw : tkC y with
  | nil => rw [if_pos (show ([] : List Nat) = [] from rfl), if_neg (show ¬ (1 : Int32) = 0 by decide), if_neg (by show ¬ 0 = 2; decide)]
  | cons c r =>
    rw [hw] at h2 wl k2
    have c1000 := wl c List.mem_cons_self
    rw [if_neg (List.cons_ne_nil c r), if_pos rfl, Option.bind_some, if_pos (isK_t h2 rfl), show stAt S b 0 = some (Int32.ofNat c) from stA_t (j := 0) h2 (by simp) (by decide), Option.bind_some, c_934g (by omega), Option.bind_some]
    by_cases z : ltB c = true
    · rw [if_pos z, if_neg (by decide), if_pos (k2.mpr ⟨c, r, rfl, z⟩)]
    · rw [if_neg z, if_pos rfl, if_neg (fun w => by obtain ⟨c', r', e, z'⟩ := k2.mp w; rw [← (List.cons.inj e).1] at z'; exact z z')]
theorem c_isNu (R : RdC S rd rl x k dp) : c_943 rd S = some (if tkK (tkW x k) = 1 then 1 else 0) := by
  obtain ⟨y, ey⟩ := tkW_y R
  obtain ⟨_, _, X, _, ok, b, fb, n, h1, h2, _⟩ := R
  have wl := tkW_lt (k := k) X
  rw [ey] at ok wl h2 ⊢
  obtain ⟨_, _, k2, _⟩ := kd_lt ok
  unfold c_943
  rw [xN_o h1 rfl rfl, Option.bind_some, if_pos (isK_t h2 rfl), stE_t h2, Option.bind_some]
  cases hw : tkC y with
  | nil => rw [if_pos (show ([] : List Nat) = [] from rfl), if_neg (show ¬ (1 : Int32) = 0 by decide), if_neg (by show ¬ 0 = 1; decide)]
  | cons c r =>
    rw [hw] at h2 wl k2
    have c1000 := wl c List.mem_cons_self
    rw [if_neg (List.cons_ne_nil c r), if_pos rfl, Option.bind_some, if_pos (isK_t h2 rfl), show stAt S b 0 = some (Int32.ofNat c) from stA_t (j := 0) h2 (by simp) (by decide), Option.bind_some, c_933g (by omega), Option.bind_some]
    by_cases z : dgB c = true
    · rw [if_pos z, if_neg (by decide), if_pos (k2.mpr ⟨c, r, rfl, z⟩)]
    · rw [if_neg z, if_pos rfl, if_neg (fun w => by obtain ⟨c', r', e, z'⟩ := k2.mp w; rw [← (List.cons.inj e).1] at z'; exact z z')]
/-- a number's value -/
def vN (l : List Nat) : Nat := l.foldl (fun v c => 10 * v + (c - 48)) 0
theorem vN_app (l : List Nat) (c : Nat) : vN (l ++ [c]) = 10 * vN l + (c - 48) := by
  unfold vN
  rw [List.foldl_append]; rfl
theorem vN_lt : ∀ {n : Nat} {l : List Nat}, l.length = n → (∀ d ∈ l, dgB d = true) → vN l < 10 ^ n := by
  intro n
  induction n with
  | zero => intro l h _; rw [List.length_eq_zero_iff.mp h]; decide
  | succ n ih =>
    intro l h hd
    obtain ⟨l', c, rfl⟩ : ∃ l' c, l = l' ++ [c] := ⟨l.dropLast, l.getLast (by intro z; rw [z] at h; simp at h), (List.dropLast_concat_getLast _).symm⟩
    rw [vN_app]
    have h1 := ih (l := l') (by rw [List.length_append] at h; simpa using h) (fun d hd' => hd d (List.mem_append_left _ hd'))
    have h2 := of_decide_eq_true (hd c (List.mem_append_right _ (List.mem_singleton.mpr rfl)))
    rw [Nat.pow_succ]
    omega
theorem tkV_n : ∀ {n : Nat} {l : List Nat}, l.length = n → n ≤ 9 → (∀ d ∈ l, dgB d = true) → l.foldl dgS 0 = Int64.ofNat (vN l) := by
  intro n
  induction n with
  | zero => intro l h _ _; rw [List.length_eq_zero_iff.mp h]; rfl
  | succ n ih =>
    intro l h n9 hd
    obtain ⟨l', c, rfl⟩ : ∃ l' c, l = l' ++ [c] := ⟨l.dropLast, l.getLast (by intro z; rw [z] at h; simp at h), (List.dropLast_concat_getLast _).symm⟩
    have hl : l'.length = n := by rw [List.length_append] at h; simpa using h
    have h1 := ih hl (by omega) (fun d hd' => hd d (List.mem_append_left _ hd'))
    have h2 := of_decide_eq_true (hd c (List.mem_append_right _ (List.mem_singleton.mpr rfl)))
    rw [vN_app, List.foldl_append, h1]
    show 10 * Int64.ofNat (vN l') + (Int32.ofNat c).toInt64 - 48 = _
    rw [l_32 (by omega), show (10 : Int64) = Int64.ofNat 10 from rfl, l_mul, l_add, show (48 : Int64) = Int64.ofNat 48 from rfl, l_sub (by omega)]
    congr 1
    omega
theorem pow9 {n : Nat} (h : n ≤ 9) : 10 ^ n ≤ 1000000000 := Nat.le_trans (Nat.pow_le_pow_right (by decide) h) (by decide)
theorem num_lp {b : Nat} {fl : Bool} {a' nx wn : Int32} {w : List Nat} (h : S.1 rd = some (rdCell rl (.ref b) a' nx wn dp)) (h2 : S.1 b = some (fl, false, 1000, txV w)) (hd : ∀ d ∈ w, dgB d = true) (h9 : w.length ≤ 9) : wh (S := Int32 × Int32) (X := Int32) (fun p8 => Option.bind (xN S [(68, 2)] rd) (fun a4 => (if isK S [0] a4 = true then Option.bind (stLen S a4) (fun x5 => (if p8.2 < x5 then Option.bind (xN S [(68, 2)] rd) (fun a6 => (if isK S [0] a6 = true then Option.bind (stAt S a6 p8.2) (fun x7 => some (.inl (((10 * p8.1) + x7) - 48, p8.2 + 1))) else none)) else some (.inr p8.1))) else none))) (0, 0) = some (Int32.ofNat (vN w)) := by
  have sl : stLen S b = some (Int32.ofNat w.length) := by
    unfold stLen
    rw [stC_r h2, Option.bind_some, txV_len]
  refine (wh_st (f := fun p8 : Int32 × Int32 => Option.bind (xN S [(68, 2)] rd) (fun a4 => (if isK S [0] a4 = true then Option.bind (stLen S a4) (fun x5 => (if p8.2 < x5 then Option.bind (xN S [(68, 2)] rd) (fun a6 => (if isK S [0] a6 = true then Option.bind (stAt S a6 p8.2) (fun x7 => some (.inl (((10 * p8.1) + x7) - 48, p8.2 + 1))) else none)) else some (.inr p8.1))) else none))) (n := w.length) (fun j => (Int32.ofNat (vN (w.take j)), Int32.ofNat j)) (fun j hj => ?_) ?_)
  · dsimp only
    rw [xN_o h rfl rfl, Option.bind_some, if_pos (isK_t h2 rfl), sl, Option.bind_some, if_pos ((i_lt (by omega) (by omega)).mpr hj), Option.bind_some, if_pos (isK_t h2 rfl), stA_t h2 hj (by omega), Option.bind_some, i_suc]
    have d48 := of_decide_eq_true (hd _ (List.getElem_mem hj))
    have vl := vN_lt (l := w.take j) (n := j) (by rw [List.length_take]; omega) (fun d hd' => hd d (List.mem_of_mem_take hd'))
    have p9 := pow9 (n := j) (by omega)
    rw [List.take_succ_eq_append_getElem hj, vN_app, show (10 : Int32) = Int32.ofNat 10 from rfl, i_mul, i_add, show (48 : Int32) = Int32.ofNat 48 from rfl, i_sub (by omega), show 10 * vN (w.take j) + w[j] - 48 = 10 * vN (w.take j) + (w[j] - 48) by omega]
  · dsimp only
    rw [xN_o h rfl rfl, Option.bind_some, if_pos (isK_t h2 rfl), sl, Option.bind_some, if_neg (fun z => Nat.lt_irrefl _ ((i_lt (by omega) (by omega)).mp z)), List.take_length]
/-- the reference's take -/
theorem t_take1 (h : T.1 231 = 0) : t_741 1 T = Option.bind (t_734 (ptI T 231 0)) (fun x2 => some x2) := by
  unfold t_741
  rw [h, if_pos rfl, if_neg (by decide), Option.bind_some, n01 (Or.inl rfl), Option.bind_some]
  exact if_pos rfl
theorem t_take0 (h : T.1 231 = 0) : t_741 0 T = some (ptI T 231 1) := by
  unfold t_741
  rw [h, if_pos rfl, if_pos rfl, Option.bind_some, n01 (Or.inr rfl), Option.bind_some]
  exact if_neg (show ¬ (1 : Int32) = 0 by decide)
theorem t_takeW (v : Int32) (h : T.1 231 = 1) : t_741 v T = some (ptI T 231 1) := by
  unfold t_741
  rw [h, if_neg (by decide), Option.bind_some, n01 (Or.inr rfl), Option.bind_some]
  exact if_neg (show ¬ (1 : Int32) = 0 by decide)
theorem rd_step (R : RdC S rd rl x k dp) (Q : RdT T x k) (hn : tkW x k ≠ []) : (∃ S' T', c_931 rd S = some (.inl S') ∧ t_741 1 T = some T' ∧ RdC S' rd rl x (k + 1) dp ∧ RdT T' x (k + 1) ∧ JX rd S S' 2 ∧ StF T T') ∨ ∃ S' e T', c_931 rd S = some (.inr (e, S')) ∧ t_741 1 T = some T' ∧ BadR S' e T' ∧ JX rd S S' 4 ∧ StF T T' := by
  obtain ⟨hw, K, X, k1, ok, b, fl, n, h1, h2, ⟨n1, n2, n3⟩, _⟩ := R
  obtain ⟨Y, q1, q2, q3, q4, ⟨n', q5, m1, m2, m3⟩, q6⟩ := Q
  have e1 := n2 hn
  have e2 := m2 hn
  rw [t_take1 q6, show ptI T 231 0 = T from pt_id q6]
  rcases rd_step0 hw K X Y h1 rfl e1 (by omega) q2 (by rw [q5, e1, e2]) q6 with ⟨S', T', a, b, r⟩ | ⟨S', e, T', a, b, r⟩
  · exact Or.inl ⟨S', T', a, by rw [b]; rfl, r⟩
  · exact Or.inr ⟨S', e, T', a, by rw [b]; rfl, r⟩
end
