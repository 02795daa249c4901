/-! the program: what a block comes to -/
def inV (t : TS) (k i : Nat) : Option Int32 := if wire t k i = -1 then none else some (t.2.2.1 131 (bN (wire t k i)))
abbrev EvR : Type := Sum (Int32 × Int32 × Int32) Int32
def ev1 (t : TS) (k : Nat) (f : Int32 → EvR) : EvR := match inV t k 0 with
  | some x => f x
  | none => .inr 3
def ev2 (t : TS) (k : Nat) (f : Int32 → Int32 → EvR) : EvR := match inV t k 0 with
  | some x => (match inV t k 1 with
    | some y => f x y
    | none => .inr 3)
  | none => .inr 3
def ev3 (t : TS) (k : Nat) (f : Int32 → Int32 → Int32 → EvR) : EvR := match inV t k 1 with
  | some y => (match inV t k 2 with
    | some z => (match inV t k 0 with
      | some x => f x y z
      | none => .inr 3)
    | none => .inr 3)
  | none => .inr 3
def ramp (O P x : Int32) : Int32 := (O.toInt64 + (if lg_cmp (-(if 0 < P then P else 0).toInt64) (if 0 < lg_cmp ((if 0 < P then P else 0).toInt64) (x.toInt64 - O.toInt64) then x.toInt64 - O.toInt64 else (if 0 < P then P else 0).toInt64) < 0 then (if 0 < lg_cmp ((if 0 < P then P else 0).toInt64) (x.toInt64 - O.toInt64) then x.toInt64 - O.toInt64 else (if 0 < P then P else 0).toInt64) else -(if 0 < P then P else 0).toInt64)).toInt32
def clk (m P Q : Int32) : Int32 := if Q < P then (if m < P then (if m < Q then 1 else 0) else 1) else (if m < P then 0 else if m < Q then 1 else 0)
def evl (t : TS) (k K : Nat) : EvR :=
  let F := t.2.2.1 132 k
  let G := t.2.2.1 133 k
  let P := t.2.2.1 126 k
  let Q := t.2.2.1 127 k
  let O := t.2.2.1 131 k
  match K with
  | 0 => if P < 0 then .inr 2 else if P < 10 then .inl (t.2.2.1 136 (bN P), F, G) else .inr 2
  | 1 => .inl (P, F, G)
  | 2 => ev2 t k (fun x y => .inl (x + y, F, G))
  | 3 => ev2 t k (fun x y => .inl (x - y, F, G))
  | 4 => ev2 t k (fun x y => .inl (x * y, F, G))
  | 5 => ev2 t k (fun x y => if y = 0 then .inr 1 else .inl (x / y, F, G))
  | 6 => ev2 t k (fun x y => if y = 0 then .inr 1 else .inl (x - x / y * y, F, G))
  | 7 => ev2 t k (fun x y => .inl (if y < x then y else x, F, G))
  | 8 => ev2 t k (fun x y => .inl (if x < y then y else x, F, G))
  | 9 => ev2 t k (fun x y => .inl (if x < y then 1 else 0, F, G))
  | 10 => ev2 t k (fun x y => .inl (if x = y then 1 else 0, F, G))
  | 11 => ev2 t k (fun x y => .inl (if x = 0 then 0 else if y = 0 then 0 else 1, F, G))
  | 12 => ev2 t k (fun x y => .inl (if x = 0 then (if y = 0 then 0 else 1) else 1, F, G))
  | 13 => ev1 t k (fun x => .inl (if x = 0 then 1 else 0, F, G))
  | 14 => ev3 t k (fun x y z => .inl (if x = 0 then z else y, F, G))
  | 15 => ev1 t k (fun x => if x < 0 then .inr 2 else if x < 8 then .inl (t.2.2.1 130 (8 * k + bN x), F, G) else .inr 2)
  | 16 => .inl (F, F, G)
  | 17 => ev1 t k (fun x => .inl (ramp O P x, F, G))
  | 18 => ev2 t k (fun x y => .inl (if y = 0 then F + (if x = 0 then 0 else if G = 0 then 1 else 0) else 0, if y = 0 then F + (if x = 0 then 0 else if G = 0 then 1 else 0) else 0, x))
  | 19 => ev2 t k (fun x y => .inl (if x = 0 then (if y = 0 then F else 0) else 1, if x = 0 then (if y = 0 then F else 0) else 1, G))
  | 20 => .inl (clk (t.1 414 - t.1 414 / 1440 * 1440) P Q, F, G)
  | 21 => ev1 t k (fun x => .inl (if 0 < (if x = 0 then F else if G = 0 then P else F) then 1 else 0, (if x = 0 then F else if G = 0 then P else F) - (if 0 < (if x = 0 then F else if G = 0 then P else F) then 1 else 0), x))
  | 22 => ev1 t k (fun x => .inl (if x < P then P else if Q < x then Q else x, F, G))
  | 23 => ev2 t k (fun x y => .inl (if y = 0 then x else O, F, G))
  | 24 => ev2 t k (fun x y => .inl (if y = 0 then F + x else 0, if y = 0 then F + x else 0, G))
  | _ => ev1 t k (fun x => .inl (if P < (if x = 0 then 0 else F + 1) then P else (if x = 0 then 0 else F + 1), if P < (if x = 0 then 0 else F + 1) then P else (if x = 0 then 0 else F + 1), G))
/-- what it leaves behind -/
def fg (t : TS) (k : Nat) (f g : Int32) : TS := wrI (wrI t 132 k f) 133 k g
def app (t : TS) (k : Nat) : EvR → TS
  | .inl (o, f, g) => wrI (fg t k f g) 131 k (if t.2.2.1 134 k = 0 then o else t.2.2.1 135 k)
  | .inr w => wrI (wrI (wrI t 140 0 (t.2.2.1 140 0 + 1)) 140 (bN w) (t.2.2.1 140 (bN w) + 1)) 131 k (if t.2.2.1 134 k = 0 then t.2.2.1 128 k else t.2.2.1 135 k)
theorem fg_id {t : TS} {k : Nat} : fg t k (t.2.2.1 132 k) (t.2.2.1 133 k) = t := by
  unfold fg; rw [wr_id, wr_id]
def fwo (w : Int32) : Nat := if w = 1 then 95 else if w = 2 then 94 else 93
/-- as a kind tells it -/
def tel (s : CS) (B : Nat → Nat → Nat) (t : TS) (k : Nat) : EvR → Option (Sum (Int32 × CS) (Nat × CS))
  | .inl (o, f, g) => some (.inl (o, cup s (B k 0) (bC (fg t k f g) B k)))
  | .inr w => some (.inr (fwo w, s))
theorem tel_id {s : CS} {B : Nat → Nat → Nat} {t : TS} {k : Nat} {o : Int32} (h : s.1 (B k 0) = some (bC t B k)) : tel s B t k (.inl (o, t.2.2.1 132 k, t.2.2.1 133 k)) = some (.inl (o, s)) := by
  unfold tel
  simp only [fg_id, cup_id h]
section
variable {s : CS} {t : TS} {n k : Nat} {B : Nat → Nat → Nat}
/-- what a block's own reckoning needs -/
def Bx (s : CS) (t : TS) (n : Nat) (B : Nat → Nat → Nat) (k : Nat) : Prop := n ≤ 40 ∧ RK s.1 ∧ (∀ k, k < n → R5b s.1 t n B k) ∧ k < n ∧ (∃ o od, s.1 115 = some (true, false, 100, [.ref 116, .ref 117, o, .int od, .ref 118, .ref 119, .int (t.1 414), .int (t.1 1)])) ∧ s.1 118 = some (true, true, 0, rowC (fun k => .int (t.2.2.1 136 k)) 10)
theorem c_bin {i : Nat} (hb : Bx s t n B k) (hi : i < 3) : c_1069 (B k 0) (Int32.ofNat i) s = match inV t k i with
    | none => some (.inr (93, s))
    | some x => some (.inl (x, s)) := by
  obtain ⟨hn, hK, hB, hk, _, _⟩ := hb
  obtain ⟨r1, r2, r3, r4, r5, r6⟩ := hB k hk
  unfold c_1069 inV
  rw [xN_o (b := B k 1) r1 rfl rfl, Option.bind_some]
  have e1 : aR s (B k 1) (Int32.ofNat i) = some (if wire t k i = -1 then none else some (B (bN (wire t k i)) 0)) := by
    unfold aR; rw [aV_r r2 (by omega) rfl hi (by omega), Option.bind_some, wv_O]
  rw [e1, Option.bind_some]
  rcases r5 i hi with e | ⟨w, hw, e⟩
  · rw [if_pos e, if_pos e, if_pos rfl]
    have : isX s 93 = true := by unfold isX; rw [hK.2.1]; rfl
    rw [if_pos this]
  · have hne : wire t k i ≠ -1 := by rw [e]; exact i_ne1 (by omega)
    rw [if_neg hne, if_neg (by simp), if_neg hne, Option.bind_some]
    have e2 : aN s (B k 1) (Int32.ofNat i) = some (B (bN (wire t k i)) 0) := by
      unfold aN; rw [aV_r r2 (by omega) rfl hi (by omega), Option.bind_some]; unfold wv; rw [if_neg hne]; rfl
    have hbw : bN (wire t k i) = w := by rw [e, bN, i_clamp (by omega)]
    rw [e2, Option.bind_some, hbw, xI_o (hB w hw).1 rfl rfl]; rfl
theorem c_in0 (hb : Bx s t n B k) : c_1069 (B k 0) 0 s = match inV t k 0 with
    | none => some (.inr (93, s))
    | some x => some (.inl (x, s)) := c_bin (i := 0) hb (by decide)
theorem c_in1 (hb : Bx s t n B k) : c_1069 (B k 0) 1 s = match inV t k 1 with
    | none => some (.inr (93, s))
    | some x => some (.inl (x, s)) := c_bin (i := 1) hb (by decide)
theorem c_in2 (hb : Bx s t n B k) : c_1069 (B k 0) 2 s = match inV t k 2 with
    | none => some (.inr (93, s))
    | some x => some (.inl (x, s)) := c_bin (i := 2) hb (by decide)
theorem c_div (hb : Bx s t n B k) : c_1071 (B k 0) 1 s = match inV t k 1 with
    | none => some (.inr (93, s))
    | some x => if x = 0 then some (.inr (95, s)) else some (.inl (x, s)) := by
  have r1 := (hb.2.2.1 k hb.2.2.2.1).1
  unfold c_1071
  rw [if_pos (isK_t r1 rfl), c_in1 hb]
  cases inV t k 1 with
  | none => rfl
  | some x =>
    simp only [Option.bind_some, Sum.elim_inl]
    have : isX s 95 = true := by unfold isX; rw [hb.2.1.2.2.2]; rfl
    rw [if_pos this]
theorem c_row (hb : Bx s t n B k) (x : Int32) : c_1070 (B k 0) x s = if x < 0 then some (.inr (94, s)) else if x < 8 then some (.inl (t.2.2.1 130 (8 * k + bN x), s)) else some (.inr (94, s)) := by
  obtain ⟨r1, r2, r3, r4, r5, r6⟩ := hb.2.2.1 k hb.2.2.2.1
  have hX : isX s 94 = true := by unfold isX; rw [hb.2.1.2.2.1]; rfl
  unfold c_1070
  by_cases h1 : x < 0
  · simp [h1, hX]
  · by_cases h2 : x < 8
    · obtain ⟨j, hj, rfl⟩ := i_nat (n := 8) (by omega) h1 h2
      rw [if_neg h1, if_pos h2, if_neg h1, if_pos h2, xN_o (b := B k 2) r1 rfl rfl, Option.bind_some, aI_r r3 (by omega) rfl hj (by omega) rfl, bN, i_clamp (by omega)]
      rfl
    · simp [h1, h2, hX]
theorem c_pt (hb : Bx s t n B k) (x : Int32) : c_1105 115 x s = if x < 0 then some (.inr (94, s)) else if x < 10 then some (.inl (t.2.2.1 136 (bN x), s)) else some (.inr (94, s)) := by
  obtain ⟨o, od, h1⟩ := hb.2.2.2.2.1
  have h2 := hb.2.2.2.2.2
  have hX : isX s 94 = true := by unfold isX; rw [hb.2.1.2.2.1]; rfl
  unfold c_1105
  by_cases q1 : x < 0
  · simp [q1, hX]
  · by_cases q2 : x < 10
    · obtain ⟨j, hj, rfl⟩ := i_nat (n := 10) (by omega) q1 q2
      rw [if_neg q1, if_pos q2, if_neg q1, if_pos q2, xN_o h1 rfl rfl, Option.bind_some, aI_r h2 (by omega) rfl hj (by omega) rfl, bN, i_clamp (by omega)]
      rfl
    · simp [q1, q2, hX]
end
