/-! the program: kinds of the component -/
section
theorem iteS {A : Type} {c : Prop} [Decidable c] (a b : A) : (if c then some a else some b) = some (if c then a else b) := by split <;> rfl
variable {s : CS} {t : TS} {n k : Nat} {B : Nat → Nat → Nat}
theorem rk_0 (hb : Bx s t n B k) (a : Nat) : c_1109 a (B k 0) 115 s = tel s B t k (evl t k 0) := by
  have r1 := (hb.2.2.1 k hb.2.2.2.1).1
  have k1 : isK s [94] (B k 0) = true := isK_t r1 rfl
  obtain ⟨oo, od, h5⟩ := hb.2.2.2.2.1
  have k5 : isK s [100] 115 = true := isK_t h5 rfl
  have f2 : xI s [(94, 2)] (B k 0) = some (t.2.2.1 126 k) := xI_o r1 rfl rfl
  have f3 : xI s [(94, 3)] (B k 0) = some (t.2.2.1 127 k) := xI_o r1 rfl rfl
  have f7 : xI s [(94, 7)] (B k 0) = some (t.2.2.1 131 k) := xI_o r1 rfl rfl
  have f8 : xI s [(94, 8)] (B k 0) = some (t.2.2.1 132 k) := xI_o r1 rfl rfl
  have f9 : xI s [(94, 9)] (B k 0) = some (t.2.2.1 133 k) := xI_o r1 rfl rfl
  have f100 : xI s [(100, 6)] 115 = some (t.1 414) := xI_o h5 rfl rfl
  have ti := fun o => tel_id (o := o) r1
  unfold c_1109 evl
  try simp only [k1, k5, c_in0 hb, c_in1 hb, c_in2 hb, c_div hb, c_row hb, c_pt hb, f2, f3, f7, f8, f9, f100, c_47, c_48, c_54, c_55, if_true, Option.bind_some, Sum.elim_inl, Sum.elim_inr]
  repeat' split
  all_goals first | exact (ti _).symm | rfl | (simp_all [ti, tel, fwo, clk, ramp])
theorem rk_1 (hb : Bx s t n B k) (a : Nat) : c_1125 a (B k 0) 115 s = tel s B t k (evl t k 1) := by
  have r1 := (hb.2.2.1 k hb.2.2.2.1).1
  have k1 : isK s [94] (B k 0) = true := isK_t r1 rfl
  obtain ⟨oo, od, h5⟩ := hb.2.2.2.2.1
  have k5 : isK s [100] 115 = true := isK_t h5 rfl
  have f2 : xI s [(94, 2)] (B k 0) = some (t.2.2.1 126 k) := xI_o r1 rfl rfl
  have f3 : xI s [(94, 3)] (B k 0) = some (t.2.2.1 127 k) := xI_o r1 rfl rfl
  have f7 : xI s [(94, 7)] (B k 0) = some (t.2.2.1 131 k) := xI_o r1 rfl rfl
  have f8 : xI s [(94, 8)] (B k 0) = some (t.2.2.1 132 k) := xI_o r1 rfl rfl
  have f9 : xI s [(94, 9)] (B k 0) = some (t.2.2.1 133 k) := xI_o r1 rfl rfl
  have f100 : xI s [(100, 6)] 115 = some (t.1 414) := xI_o h5 rfl rfl
  have ti := fun o => tel_id (o := o) r1
  unfold c_1125 evl
  try simp only [k1, k5, c_in0 hb, c_in1 hb, c_in2 hb, c_div hb, c_row hb, c_pt hb, f2, f3, f7, f8, f9, f100, c_47, c_48, c_54, c_55, if_true, Option.bind_some, Sum.elim_inl, Sum.elim_inr]
  repeat' split
  all_goals first | exact (ti _).symm | rfl | (simp_all [ti, tel, fwo, clk, ramp])
theorem rk_2 (hb : Bx s t n B k) (a : Nat) : c_1147 a (B k 0) 115 s = tel s B t k (evl t k 2) := by
  have r1 := (hb.2.2.1 k hb.2.2.2.1).1
  have k1 : isK s [94] (B k 0) = true := isK_t r1 rfl
  obtain ⟨oo, od, h5⟩ := hb.2.2.2.2.1
  have k5 : isK s [100] 115 = true := isK_t h5 rfl
  have f2 : xI s [(94, 2)] (B k 0) = some (t.2.2.1 126 k) := xI_o r1 rfl rfl
  have f3 : xI s [(94, 3)] (B k 0) = some (t.2.2.1 127 k) := xI_o r1 rfl rfl
  have f7 : xI s [(94, 7)] (B k 0) = some (t.2.2.1 131 k) := xI_o r1 rfl rfl
  have f8 : xI s [(94, 8)] (B k 0) = some (t.2.2.1 132 k) := xI_o r1 rfl rfl
  have f9 : xI s [(94, 9)] (B k 0) = some (t.2.2.1 133 k) := xI_o r1 rfl rfl
  have f100 : xI s [(100, 6)] 115 = some (t.1 414) := xI_o h5 rfl rfl
  have ti := fun o => tel_id (o := o) r1
  unfold c_1147 evl ev2
  try simp only [k1, k5, c_in0 hb, c_in1 hb, c_in2 hb, c_div hb, c_row hb, c_pt hb, f2, f3, f7, f8, f9, f100, c_47, c_48, c_54, c_55, if_true, Option.bind_some, Sum.elim_inl, Sum.elim_inr]
  cases h0 : inV t k 0 with
  | none => first | rfl | (simp only [k1, k5, c_in0 hb, c_in1 hb, c_in2 hb, c_div hb, c_row hb, c_pt hb, f2, f3, f7, f8, f9, f100, c_47, c_48, c_54, c_55, if_true, Option.bind_some, Sum.elim_inl, Sum.elim_inr]; rfl) | (simp only [k1, k5, c_in0 hb, c_in1 hb, c_in2 hb, c_div hb, c_row hb, c_pt hb, f2, f3, f7, f8, f9, f100, c_47, c_48, c_54, c_55, if_true, Option.bind_some, Sum.elim_inl, Sum.elim_inr]; split <;> rfl)
  | some x0 =>
  try simp only [k1, k5, c_in0 hb, c_in1 hb, c_in2 hb, c_div hb, c_row hb, c_pt hb, f2, f3, f7, f8, f9, f100, c_47, c_48, c_54, c_55, if_true, Option.bind_some, Sum.elim_inl, Sum.elim_inr]
  cases h1 : inV t k 1 with
  | none => first | rfl | (simp only [k1, k5, c_in0 hb, c_in1 hb, c_in2 hb, c_div hb, c_row hb, c_pt hb, f2, f3, f7, f8, f9, f100, c_47, c_48, c_54, c_55, if_true, Option.bind_some, Sum.elim_inl, Sum.elim_inr]; rfl) | (simp only [k1, k5, c_in0 hb, c_in1 hb, c_in2 hb, c_div hb, c_row hb, c_pt hb, f2, f3, f7, f8, f9, f100, c_47, c_48, c_54, c_55, if_true, Option.bind_some, Sum.elim_inl, Sum.elim_inr]; split <;> rfl)
  | some x1 =>
  try simp only [k1, k5, c_in0 hb, c_in1 hb, c_in2 hb, c_div hb, c_row hb, c_pt hb, f2, f3, f7, f8, f9, f100, c_47, c_48, c_54, c_55, if_true, Option.bind_some, Sum.elim_inl, Sum.elim_inr]
  repeat' split
  all_goals first | exact (ti _).symm | rfl | (simp_all [ti, tel, fwo, clk, ramp])
theorem rk_3 (hb : Bx s t n B k) (a : Nat) : c_1148 a (B k 0) 115 s = tel s B t k (evl t k 3) := by
  have r1 := (hb.2.2.1 k hb.2.2.2.1).1
  have k1 : isK s [94] (B k 0) = true := isK_t r1 rfl
  obtain ⟨oo, od, h5⟩ := hb.2.2.2.2.1
  have k5 : isK s [100] 115 = true := isK_t h5 rfl
  have f2 : xI s [(94, 2)] (B k 0) = some (t.2.2.1 126 k) := xI_o r1 rfl rfl
  have f3 : xI s [(94, 3)] (B k 0) = some (t.2.2.1 127 k) := xI_o r1 rfl rfl
  have f7 : xI s [(94, 7)] (B k 0) = some (t.2.2.1 131 k) := xI_o r1 rfl rfl
  have f8 : xI s [(94, 8)] (B k 0) = some (t.2.2.1 132 k) := xI_o r1 rfl rfl
  have f9 : xI s [(94, 9)] (B k 0) = some (t.2.2.1 133 k) := xI_o r1 rfl rfl
  have f100 : xI s [(100, 6)] 115 = some (t.1 414) := xI_o h5 rfl rfl
  have ti := fun o => tel_id (o := o) r1
  unfold c_1148 evl ev2
  try simp only [k1, k5, c_in0 hb, c_in1 hb, c_in2 hb, c_div hb, c_row hb, c_pt hb, f2, f3, f7, f8, f9, f100, c_47, c_48, c_54, c_55, if_true, Option.bind_some, Sum.elim_inl, Sum.elim_inr]
  cases h0 : inV t k 0 with
  | none => first | rfl | (simp only [k1, k5, c_in0 hb, c_in1 hb, c_in2 hb, c_div hb, c_row hb, c_pt hb, f2, f3, f7, f8, f9, f100, c_47, c_48, c_54, c_55, if_true, Option.bind_some, Sum.elim_inl, Sum.elim_inr]; rfl) | (simp only [k1, k5, c_in0 hb, c_in1 hb, c_in2 hb, c_div hb, c_row hb, c_pt hb, f2, f3, f7, f8, f9, f100, c_47, c_48, c_54, c_55, if_true, Option.bind_some, Sum.elim_inl, Sum.elim_inr]; split <;> rfl)
  | some x0 =>
  try simp only [k1, k5, c_in0 hb, c_in1 hb, c_in2 hb, c_div hb, c_row hb, c_pt hb, f2, f3, f7, f8, f9, f100, c_47, c_48, c_54, c_55, if_true, Option.bind_some, Sum.elim_inl, Sum.elim_inr]
  cases h1 : inV t k 1 with
  | none => first | rfl | (simp only [k1, k5, c_in0 hb, c_in1 hb, c_in2 hb, c_div hb, c_row hb, c_pt hb, f2, f3, f7, f8, f9, f100, c_47, c_48, c_54, c_55, if_true, Option.bind_some, Sum.elim_inl, Sum.elim_inr]; rfl) | (simp only [k1, k5, c_in0 hb, c_in1 hb, c_in2 hb, c_div hb, c_row hb, c_pt hb, f2, f3, f7, f8, f9, f100, c_47, c_48, c_54, c_55, if_true, Option.bind_some, Sum.elim_inl, Sum.elim_inr]; split <;> rfl)
  | some x1 =>
  try simp only [k1, k5, c_in0 hb, c_in1 hb, c_in2 hb, c_div hb, c_row hb, c_pt hb, f2, f3, f7, f8, f9, f100, c_47, c_48, c_54, c_55, if_true, Option.bind_some, Sum.elim_inl, Sum.elim_inr]
  repeat' split
  all_goals first | exact (ti _).symm | rfl | (simp_all [ti, tel, fwo, clk, ramp])
theorem rk_4 (hb : Bx s t n B k) (a : Nat) : c_1149 a (B k 0) 115 s = tel s B t k (evl t k 4) := by
  have r1 := (hb.2.2.1 k hb.2.2.2.1).1
  have k1 : isK s [94] (B k 0) = true := isK_t r1 rfl
  obtain ⟨oo, od, h5⟩ := hb.2.2.2.2.1
  have k5 : isK s [100] 115 = true := isK_t h5 rfl
  have f2 : xI s [(94, 2)] (B k 0) = some (t.2.2.1 126 k) := xI_o r1 rfl rfl
  have f3 : xI s [(94, 3)] (B k 0) = some (t.2.2.1 127 k) := xI_o r1 rfl rfl
  have f7 : xI s [(94, 7)] (B k 0) = some (t.2.2.1 131 k) := xI_o r1 rfl rfl
  have f8 : xI s [(94, 8)] (B k 0) = some (t.2.2.1 132 k) := xI_o r1 rfl rfl
  have f9 : xI s [(94, 9)] (B k 0) = some (t.2.2.1 133 k) := xI_o r1 rfl rfl
  have f100 : xI s [(100, 6)] 115 = some (t.1 414) := xI_o h5 rfl rfl
  have ti := fun o => tel_id (o := o) r1
  unfold c_1149 evl ev2
  try simp only [k1, k5, c_in0 hb, c_in1 hb, c_in2 hb, c_div hb, c_row hb, c_pt hb, f2, f3, f7, f8, f9, f100, c_47, c_48, c_54, c_55, if_true, Option.bind_some, Sum.elim_inl, Sum.elim_inr]
  cases h0 : inV t k 0 with
  | none => first | rfl | (simp only [k1, k5, c_in0 hb, c_in1 hb, c_in2 hb, c_div hb, c_row hb, c_pt hb, f2, f3, f7, f8, f9, f100, c_47, c_48, c_54, c_55, if_true, Option.bind_some, Sum.elim_inl, Sum.elim_inr]; rfl) | (simp only [k1, k5, c_in0 hb, c_in1 hb, c_in2 hb, c_div hb, c_row hb, c_pt hb, f2, f3, f7, f8, f9, f100, c_47, c_48, c_54, c_55, if_true, Option.bind_some, Sum.elim_inl, Sum.elim_inr]; split <;> rfl)
  | some x0 =>
  try simp only [k1, k5, c_in0 hb, c_in1 hb, c_in2 hb, c_div hb, c_row hb, c_pt hb, f2, f3, f7, f8, f9, f100, c_47, c_48, c_54, c_55, if_true, Option.bind_some, Sum.elim_inl, Sum.elim_inr]
  cases h1 : inV t k 1 with
  | none => first | rfl | (simp only [k1, k5, c_in0 hb, c_in1 hb, c_in2 hb, c_div hb, c_row hb, c_pt hb, f2, f3, f7, f8, f9, f100, c_47, c_48, c_54, c_55, if_true, Option.bind_some, Sum.elim_inl, Sum.elim_inr]; rfl) | (simp only [k1, k5, c_in0 hb, c_in1 hb, c_in2 hb, c_div hb, c_row hb, c_pt hb, f2, f3, f7, f8, f9, f100, c_47, c_48, c_54, c_55, if_true, Option.bind_some, Sum.elim_inl, Sum.elim_inr]; split <;> rfl)
  | some x1 =>
  try simp only [k1, k5, c_in0 hb, c_in1 hb, c_in2 hb, c_div hb, c_row hb, c_pt hb, f2, f3, f7, f8, f9, f100, c_47, c_48, c_54, c_55, if_true, Option.bind_some, Sum.elim_inl, Sum.elim_inr]
  repeat' split
  all_goals first | exact (ti _).symm | rfl | (simp_all [ti, tel, fwo, clk, ramp])
theorem rk_5 (hb : Bx s t n B k) (a : Nat) : c_1150 a (B k 0) 115 s = tel s B t k (evl t k 5) := by
  have r1 := (hb.2.2.1 k hb.2.2.2.1).1
  have k1 : isK s [94] (B k 0) = true := isK_t r1 rfl
  obtain ⟨oo, od, h5⟩ := hb.2.2.2.2.1
  have k5 : isK s [100] 115 = true := isK_t h5 rfl
  have f2 : xI s [(94, 2)] (B k 0) = some (t.2.2.1 126 k) := xI_o r1 rfl rfl
  have f3 : xI s [(94, 3)] (B k 0) = some (t.2.2.1 127 k) := xI_o r1 rfl rfl
  have f7 : xI s [(94, 7)] (B k 0) = some (t.2.2.1 131 k) := xI_o r1 rfl rfl
  have f8 : xI s [(94, 8)] (B k 0) = some (t.2.2.1 132 k) := xI_o r1 rfl rfl
  have f9 : xI s [(94, 9)] (B k 0) = some (t.2.2.1 133 k) := xI_o r1 rfl rfl
  have f100 : xI s [(100, 6)] 115 = some (t.1 414) := xI_o h5 rfl rfl
  have ti := fun o => tel_id (o := o) r1
  unfold c_1150 evl ev2
  try simp only [k1, k5, c_in0 hb, c_in1 hb, c_in2 hb, c_div hb, c_row hb, c_pt hb, f2, f3, f7, f8, f9, f100, c_47, c_48, c_54, c_55, if_true, Option.bind_some, Sum.elim_inl, Sum.elim_inr]
  cases h0 : inV t k 0 with
  | none => first | rfl | (simp only [k1, k5, c_in0 hb, c_in1 hb, c_in2 hb, c_div hb, c_row hb, c_pt hb, f2, f3, f7, f8, f9, f100, c_47, c_48, c_54, c_55, if_true, Option.bind_some, Sum.elim_inl, Sum.elim_inr]; rfl) | (simp only [k1, k5, c_in0 hb, c_in1 hb, c_in2 hb, c_div hb, c_row hb, c_pt hb, f2, f3, f7, f8, f9, f100, c_47, c_48, c_54, c_55, if_true, Option.bind_some, Sum.elim_inl, Sum.elim_inr]; split <;> rfl)
  | some x0 =>
  try simp only [k1, k5, c_in0 hb, c_in1 hb, c_in2 hb, c_div hb, c_row hb, c_pt hb, f2, f3, f7, f8, f9, f100, c_47, c_48, c_54, c_55, if_true, Option.bind_some, Sum.elim_inl, Sum.elim_inr]
  cases h1 : inV t k 1 with
  | none => first | rfl | (simp only [k1, k5, c_in0 hb, c_in1 hb, c_in2 hb, c_div hb, c_row hb, c_pt hb, f2, f3, f7, f8, f9, f100, c_47, c_48, c_54, c_55, if_true, Option.bind_some, Sum.elim_inl, Sum.elim_inr]; rfl) | (simp only [k1, k5, c_in0 hb, c_in1 hb, c_in2 hb, c_div hb, c_row hb, c_pt hb, f2, f3, f7, f8, f9, f100, c_47, c_48, c_54, c_55, if_true, Option.bind_some, Sum.elim_inl, Sum.elim_inr]; split <;> rfl)
  | some x1 =>
  try simp only [k1, k5, c_in0 hb, c_in1 hb, c_in2 hb, c_div hb, c_row hb, c_pt hb, f2, f3, f7, f8, f9, f100, c_47, c_48, c_54, c_55, if_true, Option.bind_some, Sum.elim_inl, Sum.elim_inr]
  repeat' split
  all_goals first | exact (ti _).symm | rfl | (simp_all [ti, tel, fwo, clk, ramp])
theorem rk_6 (hb : Bx s t n B k) (a : Nat) : c_1151 a (B k 0) 115 s = tel s B t k (evl t k 6) := by
  have r1 := (hb.2.2.1 k hb.2.2.2.1).1
  have k1 : isK s [94] (B k 0) = true := isK_t r1 rfl
  obtain ⟨oo, od, h5⟩ := hb.2.2.2.2.1
  have k5 : isK s [100] 115 = true := isK_t h5 rfl
  have f2 : xI s [(94, 2)] (B k 0) = some (t.2.2.1 126 k) := xI_o r1 rfl rfl
  have f3 : xI s [(94, 3)] (B k 0) = some (t.2.2.1 127 k) := xI_o r1 rfl rfl
  have f7 : xI s [(94, 7)] (B k 0) = some (t.2.2.1 131 k) := xI_o r1 rfl rfl
  have f8 : xI s [(94, 8)] (B k 0) = some (t.2.2.1 132 k) := xI_o r1 rfl rfl
  have f9 : xI s [(94, 9)] (B k 0) = some (t.2.2.1 133 k) := xI_o r1 rfl rfl
  have f100 : xI s [(100, 6)] 115 = some (t.1 414) := xI_o h5 rfl rfl
  have ti := fun o => tel_id (o := o) r1
  unfold c_1151 evl ev2
  try simp only [k1, k5, c_in0 hb, c_in1 hb, c_in2 hb, c_div hb, c_row hb, c_pt hb, f2, f3, f7, f8, f9, f100, c_47, c_48, c_54, c_55, if_true, Option.bind_some, Sum.elim_inl, Sum.elim_inr]
  cases h0 : inV t k 0 with
  | none => first | rfl | (simp only [k1, k5, c_in0 hb, c_in1 hb, c_in2 hb, c_div hb, c_row hb, c_pt hb, f2, f3, f7, f8, f9, f100, c_47, c_48, c_54, c_55, if_true, Option.bind_some, Sum.elim_inl, Sum.elim_inr]; rfl) | (simp only [k1, k5, c_in0 hb, c_in1 hb, c_in2 hb, c_div hb, c_row hb, c_pt hb, f2, f3, f7, f8, f9, f100, c_47, c_48, c_54, c_55, if_true, Option.bind_some, Sum.elim_inl, Sum.elim_inr]; split <;> rfl)
  | some x0 =>
  try simp only [k1, k5, c_in0 hb, c_in1 hb, c_in2 hb, c_div hb, c_row hb, c_pt hb, f2, f3, f7, f8, f9, f100, c_47, c_48, c_54, c_55, if_true, Option.bind_some, Sum.elim_inl, Sum.elim_inr]
  cases h1 : inV t k 1 with
  | none => first | rfl | (simp only [k1, k5, c_in0 hb, c_in1 hb, c_in2 hb, c_div hb, c_row hb, c_pt hb, f2, f3, f7, f8, f9, f100, c_47, c_48, c_54, c_55, if_true, Option.bind_some, Sum.elim_inl, Sum.elim_inr]; rfl) | (simp only [k1, k5, c_in0 hb, c_in1 hb, c_in2 hb, c_div hb, c_row hb, c_pt hb, f2, f3, f7, f8, f9, f100, c_47, c_48, c_54, c_55, if_true, Option.bind_some, Sum.elim_inl, Sum.elim_inr]; split <;> rfl)
  | some x1 =>
  try simp only [k1, k5, c_in0 hb, c_in1 hb, c_in2 hb, c_div hb, c_row hb, c_pt hb, f2, f3, f7, f8, f9, f100, c_47, c_48, c_54, c_55, if_true, Option.bind_some, Sum.elim_inl, Sum.elim_inr]
  repeat' split
  all_goals first | exact (ti _).symm | rfl | (simp_all [ti, tel, fwo, clk, ramp])
theorem rk_7 (hb : Bx s t n B k) (a : Nat) : c_1152 a (B k 0) 115 s = tel s B t k (evl t k 7) := by
  have r1 := (hb.2.2.1 k hb.2.2.2.1).1
  have k1 : isK s [94] (B k 0) = true := isK_t r1 rfl
  obtain ⟨oo, od, h5⟩ := hb.2.2.2.2.1
  have k5 : isK s [100] 115 = true := isK_t h5 rfl
  have f2 : xI s [(94, 2)] (B k 0) = some (t.2.2.1 126 k) := xI_o r1 rfl rfl
  have f3 : xI s [(94, 3)] (B k 0) = some (t.2.2.1 127 k) := xI_o r1 rfl rfl
  have f7 : xI s [(94, 7)] (B k 0) = some (t.2.2.1 131 k) := xI_o r1 rfl rfl
  have f8 : xI s [(94, 8)] (B k 0) = some (t.2.2.1 132 k) := xI_o r1 rfl rfl
  have f9 : xI s [(94, 9)] (B k 0) = some (t.2.2.1 133 k) := xI_o r1 rfl rfl
  have f100 : xI s [(100, 6)] 115 = some (t.1 414) := xI_o h5 rfl rfl
  have ti := fun o => tel_id (o := o) r1
  unfold c_1152 evl ev2
  try simp only [k1, k5, c_in0 hb, c_in1 hb, c_in2 hb, c_div hb, c_row hb, c_pt hb, f2, f3, f7, f8, f9, f100, c_47, c_48, c_54, c_55, if_true, Option.bind_some, Sum.elim_inl, Sum.elim_inr]
  cases h0 : inV t k 0 with
  | none => first | rfl | (simp only [k1, k5, c_in0 hb, c_in1 hb, c_in2 hb, c_div hb, c_row hb, c_pt hb, f2, f3, f7, f8, f9, f100, c_47, c_48, c_54, c_55, if_true, Option.bind_some, Sum.elim_inl, Sum.elim_inr]; rfl) | (simp only [k1, k5, c_in0 hb, c_in1 hb, c_in2 hb, c_div hb, c_row hb, c_pt hb, f2, f3, f7, f8, f9, f100, c_47, c_48, c_54, c_55, if_true, Option.bind_some, Sum.elim_inl, Sum.elim_inr]; split <;> rfl)
  | some x0 =>
  try simp only [k1, k5, c_in0 hb, c_in1 hb, c_in2 hb, c_div hb, c_row hb, c_pt hb, f2, f3, f7, f8, f9, f100, c_47, c_48, c_54, c_55, if_true, Option.bind_some, Sum.elim_inl, Sum.elim_inr]
  cases h1 : inV t k 1 with
  | none => first | rfl | (simp only [k1, k5, c_in0 hb, c_in1 hb, c_in2 hb, c_div hb, c_row hb, c_pt hb, f2, f3, f7, f8, f9, f100, c_47, c_48, c_54, c_55, if_true, Option.bind_some, Sum.elim_inl, Sum.elim_inr]; rfl) | (simp only [k1, k5, c_in0 hb, c_in1 hb, c_in2 hb, c_div hb, c_row hb, c_pt hb, f2, f3, f7, f8, f9, f100, c_47, c_48, c_54, c_55, if_true, Option.bind_some, Sum.elim_inl, Sum.elim_inr]; split <;> rfl)
  | some x1 =>
  try simp only [k1, k5, c_in0 hb, c_in1 hb, c_in2 hb, c_div hb, c_row hb, c_pt hb, f2, f3, f7, f8, f9, f100, c_47, c_48, c_54, c_55, if_true, Option.bind_some, Sum.elim_inl, Sum.elim_inr]
  repeat' split
  all_goals first | exact (ti _).symm | rfl | (simp_all [ti, tel, fwo, clk, ramp])
theorem rk_8 (hb : Bx s t n B k) (a : Nat) : c_1153 a (B k 0) 115 s = tel s B t k (evl t k 8) := by
  have r1 := (hb.2.2.1 k hb.2.2.2.1).1
  have k1 : isK s [94] (B k 0) = true := isK_t r1 rfl
  obtain ⟨oo, od, h5⟩ := hb.2.2.2.2.1
  have k5 : isK s [100] 115 = true := isK_t h5 rfl
  have f2 : xI s [(94, 2)] (B k 0) = some (t.2.2.1 126 k) := xI_o r1 rfl rfl
  have f3 : xI s [(94, 3)] (B k 0) = some (t.2.2.1 127 k) := xI_o r1 rfl rfl
  have f7 : xI s [(94, 7)] (B k 0) = some (t.2.2.1 131 k) := xI_o r1 rfl rfl
  have f8 : xI s [(94, 8)] (B k 0) = some (t.2.2.1 132 k) := xI_o r1 rfl rfl
  have f9 : xI s [(94, 9)] (B k 0) = some (t.2.2.1 133 k) := xI_o r1 rfl rfl
  have f100 : xI s [(100, 6)] 115 = some (t.1 414) := xI_o h5 rfl rfl
  have ti := fun o => tel_id (o := o) r1
  unfold c_1153 evl ev2
  try simp only [k1, k5, c_in0 hb, c_in1 hb, c_in2 hb, c_div hb, c_row hb, c_pt hb, f2, f3, f7, f8, f9, f100, c_47, c_48, c_54, c_55, if_true, Option.bind_some, Sum.elim_inl, Sum.elim_inr]
  cases h0 : inV t k 0 with
  | none => first | rfl | (simp only [k1, k5, c_in0 hb, c_in1 hb, c_in2 hb, c_div hb, c_row hb, c_pt hb, f2, f3, f7, f8, f9, f100, c_47, c_48, c_54, c_55, if_true, Option.bind_some, Sum.elim_inl, Sum.elim_inr]; rfl) | (simp only [k1, k5, c_in0 hb, c_in1 hb, c_in2 hb, c_div hb, c_row hb, c_pt hb, f2, f3, f7, f8, f9, f100, c_47, c_48, c_54, c_55, if_true, Option.bind_some, Sum.elim_inl, Sum.elim_inr]; split <;> rfl)
  | some x0 =>
  try simp only [k1, k5, c_in0 hb, c_in1 hb, c_in2 hb, c_div hb, c_row hb, c_pt hb, f2, f3, f7, f8, f9, f100, c_47, c_48, c_54, c_55, if_true, Option.bind_some, Sum.elim_inl, Sum.elim_inr]
  cases h1 : inV t k 1 with
  | none => first | rfl | (simp only [k1, k5, c_in0 hb, c_in1 hb, c_in2 hb, c_div hb, c_row hb, c_pt hb, f2, f3, f7, f8, f9, f100, c_47, c_48, c_54, c_55, if_true, Option.bind_some, Sum.elim_inl, Sum.elim_inr]; rfl) | (simp only [k1, k5, c_in0 hb, c_in1 hb, c_in2 hb, c_div hb, c_row hb, c_pt hb, f2, f3, f7, f8, f9, f100, c_47, c_48, c_54, c_55, if_true, Option.bind_some, Sum.elim_inl, Sum.elim_inr]; split <;> rfl)
  | some x1 =>
  try simp only [k1, k5, c_in0 hb, c_in1 hb, c_in2 hb, c_div hb, c_row hb, c_pt hb, f2, f3, f7, f8, f9, f100, c_47, c_48, c_54, c_55, if_true, Option.bind_some, Sum.elim_inl, Sum.elim_inr]
  repeat' split
  all_goals first | exact (ti _).symm | rfl | (simp_all [ti, tel, fwo, clk, ramp])
theorem rk_9 (hb : Bx s t n B k) (a : Nat) : c_1110 a (B k 0) 115 s = tel s B t k (evl t k 9) := by
  have r1 := (hb.2.2.1 k hb.2.2.2.1).1
  have k1 : isK s [94] (B k 0) = true := isK_t r1 rfl
  obtain ⟨oo, od, h5⟩ := hb.2.2.2.2.1
  have k5 : isK s [100] 115 = true := isK_t h5 rfl
  have f2 : xI s [(94, 2)] (B k 0) = some (t.2.2.1 126 k) := xI_o r1 rfl rfl
  have f3 : xI s [(94, 3)] (B k 0) = some (t.2.2.1 127 k) := xI_o r1 rfl rfl
  have f7 : xI s [(94, 7)] (B k 0) = some (t.2.2.1 131 k) := xI_o r1 rfl rfl
  have f8 : xI s [(94, 8)] (B k 0) = some (t.2.2.1 132 k) := xI_o r1 rfl rfl
  have f9 : xI s [(94, 9)] (B k 0) = some (t.2.2.1 133 k) := xI_o r1 rfl rfl
  have f100 : xI s [(100, 6)] 115 = some (t.1 414) := xI_o h5 rfl rfl
  have ti := fun o => tel_id (o := o) r1
  unfold c_1110 evl ev2
  try simp only [k1, k5, c_in0 hb, c_in1 hb, c_in2 hb, c_div hb, c_row hb, c_pt hb, f2, f3, f7, f8, f9, f100, c_47, c_48, c_54, c_55, if_true, Option.bind_some, Sum.elim_inl, Sum.elim_inr]
  cases h0 : inV t k 0 with
  | none => first | rfl | (simp only [k1, k5, c_in0 hb, c_in1 hb, c_in2 hb, c_div hb, c_row hb, c_pt hb, f2, f3, f7, f8, f9, f100, c_47, c_48, c_54, c_55, if_true, Option.bind_some, Sum.elim_inl, Sum.elim_inr]; rfl) | (simp only [k1, k5, c_in0 hb, c_in1 hb, c_in2 hb, c_div hb, c_row hb, c_pt hb, f2, f3, f7, f8, f9, f100, c_47, c_48, c_54, c_55, if_true, Option.bind_some, Sum.elim_inl, Sum.elim_inr]; split <;> rfl)
  | some x0 =>
  try simp only [k1, k5, c_in0 hb, c_in1 hb, c_in2 hb, c_div hb, c_row hb, c_pt hb, f2, f3, f7, f8, f9, f100, c_47, c_48, c_54, c_55, if_true, Option.bind_some, Sum.elim_inl, Sum.elim_inr]
  cases h1 : inV t k 1 with
  | none => first | rfl | (simp only [k1, k5, c_in0 hb, c_in1 hb, c_in2 hb, c_div hb, c_row hb, c_pt hb, f2, f3, f7, f8, f9, f100, c_47, c_48, c_54, c_55, if_true, Option.bind_some, Sum.elim_inl, Sum.elim_inr]; rfl) | (simp only [k1, k5, c_in0 hb, c_in1 hb, c_in2 hb, c_div hb, c_row hb, c_pt hb, f2, f3, f7, f8, f9, f100, c_47, c_48, c_54, c_55, if_true, Option.bind_some, Sum.elim_inl, Sum.elim_inr]; split <;> rfl)
  | some x1 =>
  try simp only [k1, k5, c_in0 hb, c_in1 hb, c_in2 hb, c_div hb, c_row hb, c_pt hb, f2, f3, f7, f8, f9, f100, c_47, c_48, c_54, c_55, if_true, Option.bind_some, Sum.elim_inl, Sum.elim_inr]
  repeat' split
  all_goals first | exact (ti _).symm | rfl | (simp_all [ti, tel, fwo, clk, ramp])
theorem rk_10 (hb : Bx s t n B k) (a : Nat) : c_1111 a (B k 0) 115 s = tel s B t k (evl t k 10) := by
  have r1 := (hb.2.2.1 k hb.2.2.2.1).1
  have k1 : isK s [94] (B k 0) = true := isK_t r1 rfl
  obtain ⟨oo, od, h5⟩ := hb.2.2.2.2.1
  have k5 : isK s [100] 115 = true := isK_t h5 rfl
  have f2 : xI s [(94, 2)] (B k 0) = some (t.2.2.1 126 k) := xI_o r1 rfl rfl
  have f3 : xI s [(94, 3)] (B k 0) = some (t.2.2.1 127 k) := xI_o r1 rfl rfl
  have f7 : xI s [(94, 7)] (B k 0) = some (t.2.2.1 131 k) := xI_o r1 rfl rfl
  have f8 : xI s [(94, 8)] (B k 0) = some (t.2.2.1 132 k) := xI_o r1 rfl rfl
  have f9 : xI s [(94, 9)] (B k 0) = some (t.2.2.1 133 k) := xI_o r1 rfl rfl
  have f100 : xI s [(100, 6)] 115 = some (t.1 414) := xI_o h5 rfl rfl
  have ti := fun o => tel_id (o := o) r1
  unfold c_1111 evl ev2
  try simp only [k1, k5, c_in0 hb, c_in1 hb, c_in2 hb, c_div hb, c_row hb, c_pt hb, f2, f3, f7, f8, f9, f100, c_47, c_48, c_54, c_55, if_true, Option.bind_some, Sum.elim_inl, Sum.elim_inr]
  cases h0 : inV t k 0 with
  | none => first | rfl | (simp only [k1, k5, c_in0 hb, c_in1 hb, c_in2 hb, c_div hb, c_row hb, c_pt hb, f2, f3, f7, f8, f9, f100, c_47, c_48, c_54, c_55, if_true, Option.bind_some, Sum.elim_inl, Sum.elim_inr]; rfl) | (simp only [k1, k5, c_in0 hb, c_in1 hb, c_in2 hb, c_div hb, c_row hb, c_pt hb, f2, f3, f7, f8, f9, f100, c_47, c_48, c_54, c_55, if_true, Option.bind_some, Sum.elim_inl, Sum.elim_inr]; split <;> rfl)
  | some x0 =>
  try simp only [k1, k5, c_in0 hb, c_in1 hb, c_in2 hb, c_div hb, c_row hb, c_pt hb, f2, f3, f7, f8, f9, f100, c_47, c_48, c_54, c_55, if_true, Option.bind_some, Sum.elim_inl, Sum.elim_inr]
  cases h1 : inV t k 1 with
  | none => first | rfl | (simp only [k1, k5, c_in0 hb, c_in1 hb, c_in2 hb, c_div hb, c_row hb, c_pt hb, f2, f3, f7, f8, f9, f100, c_47, c_48, c_54, c_55, if_true, Option.bind_some, Sum.elim_inl, Sum.elim_inr]; rfl) | (simp only [k1, k5, c_in0 hb, c_in1 hb, c_in2 hb, c_div hb, c_row hb, c_pt hb, f2, f3, f7, f8, f9, f100, c_47, c_48, c_54, c_55, if_true, Option.bind_some, Sum.elim_inl, Sum.elim_inr]; split <;> rfl)
  | some x1 =>
  try simp only [k1, k5, c_in0 hb, c_in1 hb, c_in2 hb, c_div hb, c_row hb, c_pt hb, f2, f3, f7, f8, f9, f100, c_47, c_48, c_54, c_55, if_true, Option.bind_some, Sum.elim_inl, Sum.elim_inr]
  repeat' split
  all_goals first | exact (ti _).symm | rfl | (simp_all [ti, tel, fwo, clk, ramp])
theorem rk_11 (hb : Bx s t n B k) (a : Nat) : c_1112 a (B k 0) 115 s = tel s B t k (evl t k 11) := by
  have r1 := (hb.2.2.1 k hb.2.2.2.1).1
  have k1 : isK s [94] (B k 0) = true := isK_t r1 rfl
  obtain ⟨oo, od, h5⟩ := hb.2.2.2.2.1
  have k5 : isK s [100] 115 = true := isK_t h5 rfl
  have f2 : xI s [(94, 2)] (B k 0) = some (t.2.2.1 126 k) := xI_o r1 rfl rfl
  have f3 : xI s [(94, 3)] (B k 0) = some (t.2.2.1 127 k) := xI_o r1 rfl rfl
  have f7 : xI s [(94, 7)] (B k 0) = some (t.2.2.1 131 k) := xI_o r1 rfl rfl
  have f8 : xI s [(94, 8)] (B k 0) = some (t.2.2.1 132 k) := xI_o r1 rfl rfl
  have f9 : xI s [(94, 9)] (B k 0) = some (t.2.2.1 133 k) := xI_o r1 rfl rfl
  have f100 : xI s [(100, 6)] 115 = some (t.1 414) := xI_o h5 rfl rfl
  have ti := fun o => tel_id (o := o) r1
  unfold c_1112 evl ev2
  try simp only [k1, k5, c_in0 hb, c_in1 hb, c_in2 hb, c_div hb, c_row hb, c_pt hb, f2, f3, f7, f8, f9, f100, c_47, c_48, c_54, c_55, if_true, Option.bind_some, Sum.elim_inl, Sum.elim_inr]
  cases h0 : inV t k 0 with
  | none => first | rfl | (simp only [k1, k5, c_in0 hb, c_in1 hb, c_in2 hb, c_div hb, c_row hb, c_pt hb, f2, f3, f7, f8, f9, f100, c_47, c_48, c_54, c_55, if_true, Option.bind_some, Sum.elim_inl, Sum.elim_inr]; rfl) | (simp only [k1, k5, c_in0 hb, c_in1 hb, c_in2 hb, c_div hb, c_row hb, c_pt hb, f2, f3, f7, f8, f9, f100, c_47, c_48, c_54, c_55, if_true, Option.bind_some, Sum.elim_inl, Sum.elim_inr]; split <;> rfl)
  | some x0 =>
  try simp only [k1, k5, c_in0 hb, c_in1 hb, c_in2 hb, c_div hb, c_row hb, c_pt hb, f2, f3, f7, f8, f9, f100, c_47, c_48, c_54, c_55, if_true, Option.bind_some, Sum.elim_inl, Sum.elim_inr]
  cases h1 : inV t k 1 with
  | none => first | rfl | (simp only [k1, k5, c_in0 hb, c_in1 hb, c_in2 hb, c_div hb, c_row hb, c_pt hb, f2, f3, f7, f8, f9, f100, c_47, c_48, c_54, c_55, if_true, Option.bind_some, Sum.elim_inl, Sum.elim_inr]; rfl) | (simp only [k1, k5, c_in0 hb, c_in1 hb, c_in2 hb, c_div hb, c_row hb, c_pt hb, f2, f3, f7, f8, f9, f100, c_47, c_48, c_54, c_55, if_true, Option.bind_some, Sum.elim_inl, Sum.elim_inr]; split <;> rfl)
  | some x1 =>
  try simp only [k1, k5, c_in0 hb, c_in1 hb, c_in2 hb, c_div hb, c_row hb, c_pt hb, f2, f3, f7, f8, f9, f100, c_47, c_48, c_54, c_55, if_true, Option.bind_some, Sum.elim_inl, Sum.elim_inr]
  repeat' split
  all_goals first | exact (ti _).symm | rfl | (simp_all [ti, tel, fwo, clk, ramp])
theorem rk_12 (hb : Bx s t n B k) (a : Nat) : c_1113 a (B k 0) 115 s = tel s B t k (evl t k 12) := by
  have r1 := (hb.2.2.1 k hb.2.2.2.1).1
  have k1 : isK s [94] (B k 0) = true := isK_t r1 rfl
  obtain ⟨oo, od, h5⟩ := hb.2.2.2.2.1
  have k5 : isK s [100] 115 = true := isK_t h5 rfl
  have f2 : xI s [(94, 2)] (B k 0) = some (t.2.2.1 126 k) := xI_o r1 rfl rfl
  have f3 : xI s [(94, 3)] (B k 0) = some (t.2.2.1 127 k) := xI_o r1 rfl rfl
  have f7 : xI s [(94, 7)] (B k 0) = some (t.2.2.1 131 k) := xI_o r1 rfl rfl
  have f8 : xI s [(94, 8)] (B k 0) = some (t.2.2.1 132 k) := xI_o r1 rfl rfl
  have f9 : xI s [(94, 9)] (B k 0) = some (t.2.2.1 133 k) := xI_o r1 rfl rfl
  have f100 : xI s [(100, 6)] 115 = some (t.1 414) := xI_o h5 rfl rfl
  have ti := fun o => tel_id (o := o) r1
  unfold c_1113 evl ev2
  try simp only [k1, k5, c_in0 hb, c_in1 hb, c_in2 hb, c_div hb, c_row hb, c_pt hb, f2, f3, f7, f8, f9, f100, c_47, c_48, c_54, c_55, if_true, Option.bind_some, Sum.elim_inl, Sum.elim_inr]
  cases h0 : inV t k 0 with
  | none => first | rfl | (simp only [k1, k5, c_in0 hb, c_in1 hb, c_in2 hb, c_div hb, c_row hb, c_pt hb, f2, f3, f7, f8, f9, f100, c_47, c_48, c_54, c_55, if_true, Option.bind_some, Sum.elim_inl, Sum.elim_inr]; rfl) | (simp only [k1, k5, c_in0 hb, c_in1 hb, c_in2 hb, c_div hb, c_row hb, c_pt hb, f2, f3, f7, f8, f9, f100, c_47, c_48, c_54, c_55, if_true, Option.bind_some, Sum.elim_inl, Sum.elim_inr]; split <;> rfl)
  | some x0 =>
  try simp only [k1, k5, c_in0 hb, c_in1 hb, c_in2 hb, c_div hb, c_row hb, c_pt hb, f2, f3, f7, f8, f9, f100, c_47, c_48, c_54, c_55, if_true, Option.bind_some, Sum.elim_inl, Sum.elim_inr]
  cases h1 : inV t k 1 with
  | none => first | rfl | (simp only [k1, k5, c_in0 hb, c_in1 hb, c_in2 hb, c_div hb, c_row hb, c_pt hb, f2, f3, f7, f8, f9, f100, c_47, c_48, c_54, c_55, if_true, Option.bind_some, Sum.elim_inl, Sum.elim_inr]; rfl) | (simp only [k1, k5, c_in0 hb, c_in1 hb, c_in2 hb, c_div hb, c_row hb, c_pt hb, f2, f3, f7, f8, f9, f100, c_47, c_48, c_54, c_55, if_true, Option.bind_some, Sum.elim_inl, Sum.elim_inr]; split <;> rfl)
  | some x1 =>
  try simp only [k1, k5, c_in0 hb, c_in1 hb, c_in2 hb, c_div hb, c_row hb, c_pt hb, f2, f3, f7, f8, f9, f100, c_47, c_48, c_54, c_55, if_true, Option.bind_some, Sum.elim_inl, Sum.elim_inr]
  repeat' split
  all_goals first | exact (ti _).symm | rfl | (simp_all [ti, tel, fwo, clk, ramp])
theorem rk_13 (hb : Bx s t n B k) (a : Nat) : c_1114 a (B k 0) 115 s = tel s B t k (evl t k 13) := by
  have r1 := (hb.2.2.1 k hb.2.2.2.1).1
  have k1 : isK s [94] (B k 0) = true := isK_t r1 rfl
  obtain ⟨oo, od, h5⟩ := hb.2.2.2.2.1
  have k5 : isK s [100] 115 = true := isK_t h5 rfl
  have f2 : xI s [(94, 2)] (B k 0) = some (t.2.2.1 126 k) := xI_o r1 rfl rfl
  have f3 : xI s [(94, 3)] (B k 0) = some (t.2.2.1 127 k) := xI_o r1 rfl rfl
  have f7 : xI s [(94, 7)] (B k 0) = some (t.2.2.1 131 k) := xI_o r1 rfl rfl
  have f8 : xI s [(94, 8)] (B k 0) = some (t.2.2.1 132 k) := xI_o r1 rfl rfl
  have f9 : xI s [(94, 9)] (B k 0) = some (t.2.2.1 133 k) := xI_o r1 rfl rfl
  have f100 : xI s [(100, 6)] 115 = some (t.1 414) := xI_o h5 rfl rfl
  have ti := fun o => tel_id (o := o) r1
  unfold c_1114 evl ev1
  try simp only [k1, k5, c_in0 hb, c_in1 hb, c_in2 hb, c_div hb, c_row hb, c_pt hb, f2, f3, f7, f8, f9, f100, c_47, c_48, c_54, c_55, if_true, Option.bind_some, Sum.elim_inl, Sum.elim_inr]
  cases h0 : inV t k 0 with
  | none => first | rfl | (simp only [k1, k5, c_in0 hb, c_in1 hb, c_in2 hb, c_div hb, c_row hb, c_pt hb, f2, f3, f7, f8, f9, f100, c_47, c_48, c_54, c_55, if_true, Option.bind_some, Sum.elim_inl, Sum.elim_inr]; rfl) | (simp only [k1, k5, c_in0 hb, c_in1 hb, c_in2 hb, c_div hb, c_row hb, c_pt hb, f2, f3, f7, f8, f9, f100, c_47, c_48, c_54, c_55, if_true, Option.bind_some, Sum.elim_inl, Sum.elim_inr]; split <;> rfl)
  | some x0 =>
  try simp only [k1, k5, c_in0 hb, c_in1 hb, c_in2 hb, c_div hb, c_row hb, c_pt hb, f2, f3, f7, f8, f9, f100, c_47, c_48, c_54, c_55, if_true, Option.bind_some, Sum.elim_inl, Sum.elim_inr]
  repeat' split
  all_goals first | exact (ti _).symm | rfl | (simp_all [ti, tel, fwo, clk, ramp])
theorem rk_14 (hb : Bx s t n B k) (a : Nat) : c_1115 a (B k 0) 115 s = tel s B t k (evl t k 14) := by
  have r1 := (hb.2.2.1 k hb.2.2.2.1).1
  have k1 : isK s [94] (B k 0) = true := isK_t r1 rfl
  obtain ⟨oo, od, h5⟩ := hb.2.2.2.2.1
  have k5 : isK s [100] 115 = true := isK_t h5 rfl
  have f2 : xI s [(94, 2)] (B k 0) = some (t.2.2.1 126 k) := xI_o r1 rfl rfl
  have f3 : xI s [(94, 3)] (B k 0) = some (t.2.2.1 127 k) := xI_o r1 rfl rfl
  have f7 : xI s [(94, 7)] (B k 0) = some (t.2.2.1 131 k) := xI_o r1 rfl rfl
  have f8 : xI s [(94, 8)] (B k 0) = some (t.2.2.1 132 k) := xI_o r1 rfl rfl
  have f9 : xI s [(94, 9)] (B k 0) = some (t.2.2.1 133 k) := xI_o r1 rfl rfl
  have f100 : xI s [(100, 6)] 115 = some (t.1 414) := xI_o h5 rfl rfl
  have ti := fun o => tel_id (o := o) r1
  unfold c_1115 evl ev3
  try simp only [k1, k5, c_in0 hb, c_in1 hb, c_in2 hb, c_div hb, c_row hb, c_pt hb, f2, f3, f7, f8, f9, f100, c_47, c_48, c_54, c_55, if_true, Option.bind_some, Sum.elim_inl, Sum.elim_inr]
  cases h1 : inV t k 1 with
  | none => first | rfl | (simp only [k1, k5, c_in0 hb, c_in1 hb, c_in2 hb, c_div hb, c_row hb, c_pt hb, f2, f3, f7, f8, f9, f100, c_47, c_48, c_54, c_55, if_true, Option.bind_some, Sum.elim_inl, Sum.elim_inr]; rfl) | (simp only [k1, k5, c_in0 hb, c_in1 hb, c_in2 hb, c_div hb, c_row hb, c_pt hb, f2, f3, f7, f8, f9, f100, c_47, c_48, c_54, c_55, if_true, Option.bind_some, Sum.elim_inl, Sum.elim_inr]; split <;> rfl)
  | some x1 =>
  try simp only [k1, k5, c_in0 hb, c_in1 hb, c_in2 hb, c_div hb, c_row hb, c_pt hb, f2, f3, f7, f8, f9, f100, c_47, c_48, c_54, c_55, if_true, Option.bind_some, Sum.elim_inl, Sum.elim_inr]
  cases h2 : inV t k 2 with
  | none => first | rfl | (simp only [k1, k5, c_in0 hb, c_in1 hb, c_in2 hb, c_div hb, c_row hb, c_pt hb, f2, f3, f7, f8, f9, f100, c_47, c_48, c_54, c_55, if_true, Option.bind_some, Sum.elim_inl, Sum.elim_inr]; rfl) | (simp only [k1, k5, c_in0 hb, c_in1 hb, c_in2 hb, c_div hb, c_row hb, c_pt hb, f2, f3, f7, f8, f9, f100, c_47, c_48, c_54, c_55, if_true, Option.bind_some, Sum.elim_inl, Sum.elim_inr]; split <;> rfl)
  | some x2 =>
  try simp only [k1, k5, c_in0 hb, c_in1 hb, c_in2 hb, c_div hb, c_row hb, c_pt hb, f2, f3, f7, f8, f9, f100, c_47, c_48, c_54, c_55, if_true, Option.bind_some, Sum.elim_inl, Sum.elim_inr]
  cases h0 : inV t k 0 with
  | none => first | rfl | (simp only [k1, k5, c_in0 hb, c_in1 hb, c_in2 hb, c_div hb, c_row hb, c_pt hb, f2, f3, f7, f8, f9, f100, c_47, c_48, c_54, c_55, if_true, Option.bind_some, Sum.elim_inl, Sum.elim_inr]; rfl) | (simp only [k1, k5, c_in0 hb, c_in1 hb, c_in2 hb, c_div hb, c_row hb, c_pt hb, f2, f3, f7, f8, f9, f100, c_47, c_48, c_54, c_55, if_true, Option.bind_some, Sum.elim_inl, Sum.elim_inr]; split <;> rfl)
  | some x0 =>
  try simp only [k1, k5, c_in0 hb, c_in1 hb, c_in2 hb, c_div hb, c_row hb, c_pt hb, f2, f3, f7, f8, f9, f100, c_47, c_48, c_54, c_55, if_true, Option.bind_some, Sum.elim_inl, Sum.elim_inr]
  repeat' split
  all_goals first | exact (ti _).symm | rfl | (simp_all [ti, tel, fwo, clk, ramp])
theorem rk_15 (hb : Bx s t n B k) (a : Nat) : c_1116 a (B k 0) 115 s = tel s B t k (evl t k 15) := by
  have r1 := (hb.2.2.1 k hb.2.2.2.1).1
  have k1 : isK s [94] (B k 0) = true := isK_t r1 rfl
  obtain ⟨oo, od, h5⟩ := hb.2.2.2.2.1
  have k5 : isK s [100] 115 = true := isK_t h5 rfl
  have f2 : xI s [(94, 2)] (B k 0) = some (t.2.2.1 126 k) := xI_o r1 rfl rfl
  have f3 : xI s [(94, 3)] (B k 0) = some (t.2.2.1 127 k) := xI_o r1 rfl rfl
  have f7 : xI s [(94, 7)] (B k 0) = some (t.2.2.1 131 k) := xI_o r1 rfl rfl
  have f8 : xI s [(94, 8)] (B k 0) = some (t.2.2.1 132 k) := xI_o r1 rfl rfl
  have f9 : xI s [(94, 9)] (B k 0) = some (t.2.2.1 133 k) := xI_o r1 rfl rfl
  have f100 : xI s [(100, 6)] 115 = some (t.1 414) := xI_o h5 rfl rfl
  have ti := fun o => tel_id (o := o) r1
  unfold c_1116 evl ev1
  try simp only [k1, k5, c_in0 hb, c_in1 hb, c_in2 hb, c_div hb, c_row hb, c_pt hb, f2, f3, f7, f8, f9, f100, c_47, c_48, c_54, c_55, if_true, Option.bind_some, Sum.elim_inl, Sum.elim_inr]
  cases h0 : inV t k 0 with
  | none => first | rfl | (simp only [k1, k5, c_in0 hb, c_in1 hb, c_in2 hb, c_div hb, c_row hb, c_pt hb, f2, f3, f7, f8, f9, f100, c_47, c_48, c_54, c_55, if_true, Option.bind_some, Sum.elim_inl, Sum.elim_inr]; rfl) | (simp only [k1, k5, c_in0 hb, c_in1 hb, c_in2 hb, c_div hb, c_row hb, c_pt hb, f2, f3, f7, f8, f9, f100, c_47, c_48, c_54, c_55, if_true, Option.bind_some, Sum.elim_inl, Sum.elim_inr]; split <;> rfl)
  | some x0 =>
  try simp only [k1, k5, c_in0 hb, c_in1 hb, c_in2 hb, c_div hb, c_row hb, c_pt hb, f2, f3, f7, f8, f9, f100, c_47, c_48, c_54, c_55, if_true, Option.bind_some, Sum.elim_inl, Sum.elim_inr]
  repeat' split
  all_goals first | exact (ti _).symm | rfl | (simp_all [ti, tel, fwo, clk, ramp])
theorem rk_16 (hb : Bx s t n B k) (a : Nat) : c_1122 a (B k 0) 115 s = tel s B t k (evl t k 16) := by
  have r1 := (hb.2.2.1 k hb.2.2.2.1).1
  have k1 : isK s [94] (B k 0) = true := isK_t r1 rfl
  obtain ⟨oo, od, h5⟩ := hb.2.2.2.2.1
  have k5 : isK s [100] 115 = true := isK_t h5 rfl
  have f2 : xI s [(94, 2)] (B k 0) = some (t.2.2.1 126 k) := xI_o r1 rfl rfl
  have f3 : xI s [(94, 3)] (B k 0) = some (t.2.2.1 127 k) := xI_o r1 rfl rfl
  have f7 : xI s [(94, 7)] (B k 0) = some (t.2.2.1 131 k) := xI_o r1 rfl rfl
  have f8 : xI s [(94, 8)] (B k 0) = some (t.2.2.1 132 k) := xI_o r1 rfl rfl
  have f9 : xI s [(94, 9)] (B k 0) = some (t.2.2.1 133 k) := xI_o r1 rfl rfl
  have f100 : xI s [(100, 6)] 115 = some (t.1 414) := xI_o h5 rfl rfl
  have ti := fun o => tel_id (o := o) r1
  unfold c_1122 evl
  try simp only [k1, k5, c_in0 hb, c_in1 hb, c_in2 hb, c_div hb, c_row hb, c_pt hb, f2, f3, f7, f8, f9, f100, c_47, c_48, c_54, c_55, if_true, Option.bind_some, Sum.elim_inl, Sum.elim_inr]
  repeat' split
  all_goals first | exact (ti _).symm | rfl | (simp_all [ti, tel, fwo, clk, ramp])
theorem rk_17 (hb : Bx s t n B k) (a : Nat) : c_1123 a (B k 0) 115 s = tel s B t k (evl t k 17) := by
  have r1 := (hb.2.2.1 k hb.2.2.2.1).1
  have k1 : isK s [94] (B k 0) = true := isK_t r1 rfl
  obtain ⟨oo, od, h5⟩ := hb.2.2.2.2.1
  have k5 : isK s [100] 115 = true := isK_t h5 rfl
  have f2 : xI s [(94, 2)] (B k 0) = some (t.2.2.1 126 k) := xI_o r1 rfl rfl
  have f3 : xI s [(94, 3)] (B k 0) = some (t.2.2.1 127 k) := xI_o r1 rfl rfl
  have f7 : xI s [(94, 7)] (B k 0) = some (t.2.2.1 131 k) := xI_o r1 rfl rfl
  have f8 : xI s [(94, 8)] (B k 0) = some (t.2.2.1 132 k) := xI_o r1 rfl rfl
  have f9 : xI s [(94, 9)] (B k 0) = some (t.2.2.1 133 k) := xI_o r1 rfl rfl
  have f100 : xI s [(100, 6)] 115 = some (t.1 414) := xI_o h5 rfl rfl
  have ti := fun o => tel_id (o := o) r1
  unfold c_1123 evl ev1
  try simp only [k1, k5, c_in0 hb, c_in1 hb, c_in2 hb, c_div hb, c_row hb, c_pt hb, f2, f3, f7, f8, f9, f100, c_47, c_48, c_54, c_55, if_true, Option.bind_some, Sum.elim_inl, Sum.elim_inr]
  cases h0 : inV t k 0 with
  | none => first | rfl | (simp only [k1, k5, c_in0 hb, c_in1 hb, c_in2 hb, c_div hb, c_row hb, c_pt hb, f2, f3, f7, f8, f9, f100, c_47, c_48, c_54, c_55, if_true, Option.bind_some, Sum.elim_inl, Sum.elim_inr]; rfl) | (simp only [k1, k5, c_in0 hb, c_in1 hb, c_in2 hb, c_div hb, c_row hb, c_pt hb, f2, f3, f7, f8, f9, f100, c_47, c_48, c_54, c_55, if_true, Option.bind_some, Sum.elim_inl, Sum.elim_inr]; split <;> rfl)
  | some x0 =>
  try simp only [k1, k5, c_in0 hb, c_in1 hb, c_in2 hb, c_div hb, c_row hb, c_pt hb, f2, f3, f7, f8, f9, f100, c_47, c_48, c_54, c_55, if_true, Option.bind_some, Sum.elim_inl, Sum.elim_inr]
  simp only [iteS, Option.bind_some]
  exact (ti _).symm
theorem rk_18 (hb : Bx s t n B k) (a : Nat) : c_1124 a (B k 0) 115 s = tel s B t k (evl t k 18) := by
  have r1 := (hb.2.2.1 k hb.2.2.2.1).1
  have k1 : isK s [94] (B k 0) = true := isK_t r1 rfl
  obtain ⟨oo, od, h5⟩ := hb.2.2.2.2.1
  have k5 : isK s [100] 115 = true := isK_t h5 rfl
  have f2 : xI s [(94, 2)] (B k 0) = some (t.2.2.1 126 k) := xI_o r1 rfl rfl
  have f3 : xI s [(94, 3)] (B k 0) = some (t.2.2.1 127 k) := xI_o r1 rfl rfl
  have f7 : xI s [(94, 7)] (B k 0) = some (t.2.2.1 131 k) := xI_o r1 rfl rfl
  have f8 : xI s [(94, 8)] (B k 0) = some (t.2.2.1 132 k) := xI_o r1 rfl rfl
  have f9 : xI s [(94, 9)] (B k 0) = some (t.2.2.1 133 k) := xI_o r1 rfl rfl
  have f100 : xI s [(100, 6)] 115 = some (t.1 414) := xI_o h5 rfl rfl
  have ti := fun o => tel_id (o := o) r1
  unfold c_1124 evl ev2
  try simp only [k1, k5, c_in0 hb, c_in1 hb, c_in2 hb, c_div hb, c_row hb, c_pt hb, f2, f3, f7, f8, f9, f100, c_47, c_48, c_54, c_55, if_true, Option.bind_some, Sum.elim_inl, Sum.elim_inr]
  cases h0 : inV t k 0 with
  | none => first | rfl | (simp only [k1, k5, c_in0 hb, c_in1 hb, c_in2 hb, c_div hb, c_row hb, c_pt hb, f2, f3, f7, f8, f9, f100, c_47, c_48, c_54, c_55, if_true, Option.bind_some, Sum.elim_inl, Sum.elim_inr]; rfl) | (simp only [k1, k5, c_in0 hb, c_in1 hb, c_in2 hb, c_div hb, c_row hb, c_pt hb, f2, f3, f7, f8, f9, f100, c_47, c_48, c_54, c_55, if_true, Option.bind_some, Sum.elim_inl, Sum.elim_inr]; split <;> rfl)
  | some x0 =>
  try simp only [k1, k5, c_in0 hb, c_in1 hb, c_in2 hb, c_div hb, c_row hb, c_pt hb, f2, f3, f7, f8, f9, f100, c_47, c_48, c_54, c_55, if_true, Option.bind_some, Sum.elim_inl, Sum.elim_inr]
  cases h1 : inV t k 1 with
  | none => first | rfl | (simp only [k1, k5, c_in0 hb, c_in1 hb, c_in2 hb, c_div hb, c_row hb, c_pt hb, f2, f3, f7, f8, f9, f100, c_47, c_48, c_54, c_55, if_true, Option.bind_some, Sum.elim_inl, Sum.elim_inr]; rfl) | (simp only [k1, k5, c_in0 hb, c_in1 hb, c_in2 hb, c_div hb, c_row hb, c_pt hb, f2, f3, f7, f8, f9, f100, c_47, c_48, c_54, c_55, if_true, Option.bind_some, Sum.elim_inl, Sum.elim_inr]; split <;> rfl)
  | some x1 =>
  try simp only [k1, k5, c_in0 hb, c_in1 hb, c_in2 hb, c_div hb, c_row hb, c_pt hb, f2, f3, f7, f8, f9, f100, c_47, c_48, c_54, c_55, if_true, Option.bind_some, Sum.elim_inl, Sum.elim_inr]
  repeat' split
  all_goals simp_all [xP_o r1, xP, xI, xV, r1, bC, lLook, cup_eq, cupU, toI, tel, fg, wr_at]
theorem rk_19 (hb : Bx s t n B k) (a : Nat) : c_1126 a (B k 0) 115 s = tel s B t k (evl t k 19) := by
  have r1 := (hb.2.2.1 k hb.2.2.2.1).1
  have k1 : isK s [94] (B k 0) = true := isK_t r1 rfl
  obtain ⟨oo, od, h5⟩ := hb.2.2.2.2.1
  have k5 : isK s [100] 115 = true := isK_t h5 rfl
  have f2 : xI s [(94, 2)] (B k 0) = some (t.2.2.1 126 k) := xI_o r1 rfl rfl
  have f3 : xI s [(94, 3)] (B k 0) = some (t.2.2.1 127 k) := xI_o r1 rfl rfl
  have f7 : xI s [(94, 7)] (B k 0) = some (t.2.2.1 131 k) := xI_o r1 rfl rfl
  have f8 : xI s [(94, 8)] (B k 0) = some (t.2.2.1 132 k) := xI_o r1 rfl rfl
  have f9 : xI s [(94, 9)] (B k 0) = some (t.2.2.1 133 k) := xI_o r1 rfl rfl
  have f100 : xI s [(100, 6)] 115 = some (t.1 414) := xI_o h5 rfl rfl
  have ti := fun o => tel_id (o := o) r1
  unfold c_1126 evl ev2
  try simp only [k1, k5, c_in0 hb, c_in1 hb, c_in2 hb, c_div hb, c_row hb, c_pt hb, f2, f3, f7, f8, f9, f100, c_47, c_48, c_54, c_55, if_true, Option.bind_some, Sum.elim_inl, Sum.elim_inr]
  cases h0 : inV t k 0 with
  | none => first | rfl | (simp only [k1, k5, c_in0 hb, c_in1 hb, c_in2 hb, c_div hb, c_row hb, c_pt hb, f2, f3, f7, f8, f9, f100, c_47, c_48, c_54, c_55, if_true, Option.bind_some, Sum.elim_inl, Sum.elim_inr]; rfl) | (simp only [k1, k5, c_in0 hb, c_in1 hb, c_in2 hb, c_div hb, c_row hb, c_pt hb, f2, f3, f7, f8, f9, f100, c_47, c_48, c_54, c_55, if_true, Option.bind_some, Sum.elim_inl, Sum.elim_inr]; split <;> rfl)
  | some x0 =>
  try simp only [k1, k5, c_in0 hb, c_in1 hb, c_in2 hb, c_div hb, c_row hb, c_pt hb, f2, f3, f7, f8, f9, f100, c_47, c_48, c_54, c_55, if_true, Option.bind_some, Sum.elim_inl, Sum.elim_inr]
  cases h1 : inV t k 1 with
  | none => first | rfl | (simp only [k1, k5, c_in0 hb, c_in1 hb, c_in2 hb, c_div hb, c_row hb, c_pt hb, f2, f3, f7, f8, f9, f100, c_47, c_48, c_54, c_55, if_true, Option.bind_some, Sum.elim_inl, Sum.elim_inr]; rfl) | (simp only [k1, k5, c_in0 hb, c_in1 hb, c_in2 hb, c_div hb, c_row hb, c_pt hb, f2, f3, f7, f8, f9, f100, c_47, c_48, c_54, c_55, if_true, Option.bind_some, Sum.elim_inl, Sum.elim_inr]; split <;> rfl)
  | some x1 =>
  try simp only [k1, k5, c_in0 hb, c_in1 hb, c_in2 hb, c_div hb, c_row hb, c_pt hb, f2, f3, f7, f8, f9, f100, c_47, c_48, c_54, c_55, if_true, Option.bind_some, Sum.elim_inl, Sum.elim_inr]
  repeat' split
  all_goals simp_all [xP_o r1, xP, xI, xV, r1, bC, lLook, cup_eq, cupU, toI, tel, fg, wr_at]
theorem rk_20 (hb : Bx s t n B k) (a : Nat) : c_1108 a (B k 0) 115 s = tel s B t k (evl t k 20) := by
  have r1 := (hb.2.2.1 k hb.2.2.2.1).1
  have k1 : isK s [94] (B k 0) = true := isK_t r1 rfl
  obtain ⟨oo, od, h5⟩ := hb.2.2.2.2.1
  have k5 : isK s [100] 115 = true := isK_t h5 rfl
  have f2 : xI s [(94, 2)] (B k 0) = some (t.2.2.1 126 k) := xI_o r1 rfl rfl
  have f3 : xI s [(94, 3)] (B k 0) = some (t.2.2.1 127 k) := xI_o r1 rfl rfl
  have f7 : xI s [(94, 7)] (B k 0) = some (t.2.2.1 131 k) := xI_o r1 rfl rfl
  have f8 : xI s [(94, 8)] (B k 0) = some (t.2.2.1 132 k) := xI_o r1 rfl rfl
  have f9 : xI s [(94, 9)] (B k 0) = some (t.2.2.1 133 k) := xI_o r1 rfl rfl
  have f100 : xI s [(100, 6)] 115 = some (t.1 414) := xI_o h5 rfl rfl
  have ti := fun o => tel_id (o := o) r1
  unfold c_1108 evl
  try simp only [k1, k5, c_in0 hb, c_in1 hb, c_in2 hb, c_div hb, c_row hb, c_pt hb, f2, f3, f7, f8, f9, f100, c_47, c_48, c_54, c_55, if_true, Option.bind_some, Sum.elim_inl, Sum.elim_inr]
  by_cases q1 : t.2.2.1 127 k < t.2.2.1 126 k <;> by_cases q2 : t.1 414 - t.1 414 / 1440 * 1440 < t.2.2.1 126 k <;> by_cases q3 : t.1 414 - t.1 414 / 1440 * 1440 < t.2.2.1 127 k <;> simp only [q1, q2, q3, if_true, if_false, Option.bind_some, clk, ti] <;> rfl
theorem rk_21 (hb : Bx s t n B k) (a : Nat) : c_1127 a (B k 0) 115 s = tel s B t k (evl t k 21) := by
  have r1 := (hb.2.2.1 k hb.2.2.2.1).1
  have k1 : isK s [94] (B k 0) = true := isK_t r1 rfl
  obtain ⟨oo, od, h5⟩ := hb.2.2.2.2.1
  have k5 : isK s [100] 115 = true := isK_t h5 rfl
  have f2 : xI s [(94, 2)] (B k 0) = some (t.2.2.1 126 k) := xI_o r1 rfl rfl
  have f3 : xI s [(94, 3)] (B k 0) = some (t.2.2.1 127 k) := xI_o r1 rfl rfl
  have f7 : xI s [(94, 7)] (B k 0) = some (t.2.2.1 131 k) := xI_o r1 rfl rfl
  have f8 : xI s [(94, 8)] (B k 0) = some (t.2.2.1 132 k) := xI_o r1 rfl rfl
  have f9 : xI s [(94, 9)] (B k 0) = some (t.2.2.1 133 k) := xI_o r1 rfl rfl
  have f100 : xI s [(100, 6)] 115 = some (t.1 414) := xI_o h5 rfl rfl
  have ti := fun o => tel_id (o := o) r1
  unfold c_1127 evl ev1
  try simp only [k1, k5, c_in0 hb, c_in1 hb, c_in2 hb, c_div hb, c_row hb, c_pt hb, f2, f3, f7, f8, f9, f100, c_47, c_48, c_54, c_55, if_true, Option.bind_some, Sum.elim_inl, Sum.elim_inr]
  cases h0 : inV t k 0 with
  | none => first | rfl | (simp only [k1, k5, c_in0 hb, c_in1 hb, c_in2 hb, c_div hb, c_row hb, c_pt hb, f2, f3, f7, f8, f9, f100, c_47, c_48, c_54, c_55, if_true, Option.bind_some, Sum.elim_inl, Sum.elim_inr]; rfl) | (simp only [k1, k5, c_in0 hb, c_in1 hb, c_in2 hb, c_div hb, c_row hb, c_pt hb, f2, f3, f7, f8, f9, f100, c_47, c_48, c_54, c_55, if_true, Option.bind_some, Sum.elim_inl, Sum.elim_inr]; split <;> rfl)
  | some x0 =>
  try simp only [k1, k5, c_in0 hb, c_in1 hb, c_in2 hb, c_div hb, c_row hb, c_pt hb, f2, f3, f7, f8, f9, f100, c_47, c_48, c_54, c_55, if_true, Option.bind_some, Sum.elim_inl, Sum.elim_inr]
  by_cases q1 : x0 = 0 <;> by_cases q2 : t.2.2.1 133 k = 0 <;> by_cases q3 : 0 < t.2.2.1 132 k <;> by_cases q4 : 0 < t.2.2.1 126 k <;> simp only [q1, q2, q3, q4, if_true, if_false, Option.bind_some, Sum.elim_inl, Sum.elim_inr] <;> simp [xP, xI, xV, r1, bC, lLook, cup_eq, cupU, toI, tel, fg, wr_at, q3, q4]
theorem rk_22 (hb : Bx s t n B k) (a : Nat) : c_1128 a (B k 0) 115 s = tel s B t k (evl t k 22) := by
  have r1 := (hb.2.2.1 k hb.2.2.2.1).1
  have k1 : isK s [94] (B k 0) = true := isK_t r1 rfl
  obtain ⟨oo, od, h5⟩ := hb.2.2.2.2.1
  have k5 : isK s [100] 115 = true := isK_t h5 rfl
  have f2 : xI s [(94, 2)] (B k 0) = some (t.2.2.1 126 k) := xI_o r1 rfl rfl
  have f3 : xI s [(94, 3)] (B k 0) = some (t.2.2.1 127 k) := xI_o r1 rfl rfl
  have f7 : xI s [(94, 7)] (B k 0) = some (t.2.2.1 131 k) := xI_o r1 rfl rfl
  have f8 : xI s [(94, 8)] (B k 0) = some (t.2.2.1 132 k) := xI_o r1 rfl rfl
  have f9 : xI s [(94, 9)] (B k 0) = some (t.2.2.1 133 k) := xI_o r1 rfl rfl
  have f100 : xI s [(100, 6)] 115 = some (t.1 414) := xI_o h5 rfl rfl
  have ti := fun o => tel_id (o := o) r1
  unfold c_1128 evl ev1
  try simp only [k1, k5, c_in0 hb, c_in1 hb, c_in2 hb, c_div hb, c_row hb, c_pt hb, f2, f3, f7, f8, f9, f100, c_47, c_48, c_54, c_55, if_true, Option.bind_some, Sum.elim_inl, Sum.elim_inr]
  cases h0 : inV t k 0 with
  | none => first | rfl | (simp only [k1, k5, c_in0 hb, c_in1 hb, c_in2 hb, c_div hb, c_row hb, c_pt hb, f2, f3, f7, f8, f9, f100, c_47, c_48, c_54, c_55, if_true, Option.bind_some, Sum.elim_inl, Sum.elim_inr]; rfl) | (simp only [k1, k5, c_in0 hb, c_in1 hb, c_in2 hb, c_div hb, c_row hb, c_pt hb, f2, f3, f7, f8, f9, f100, c_47, c_48, c_54, c_55, if_true, Option.bind_some, Sum.elim_inl, Sum.elim_inr]; split <;> rfl)
  | some x0 =>
  try simp only [k1, k5, c_in0 hb, c_in1 hb, c_in2 hb, c_div hb, c_row hb, c_pt hb, f2, f3, f7, f8, f9, f100, c_47, c_48, c_54, c_55, if_true, Option.bind_some, Sum.elim_inl, Sum.elim_inr]
  repeat' split
  all_goals first | exact (ti _).symm | rfl | (simp_all [ti, tel, fwo, clk, ramp])
theorem rk_23 (hb : Bx s t n B k) (a : Nat) : c_1129 a (B k 0) 115 s = tel s B t k (evl t k 23) := by
  have r1 := (hb.2.2.1 k hb.2.2.2.1).1
  have k1 : isK s [94] (B k 0) = true := isK_t r1 rfl
  obtain ⟨oo, od, h5⟩ := hb.2.2.2.2.1
  have k5 : isK s [100] 115 = true := isK_t h5 rfl
  have f2 : xI s [(94, 2)] (B k 0) = some (t.2.2.1 126 k) := xI_o r1 rfl rfl
  have f3 : xI s [(94, 3)] (B k 0) = some (t.2.2.1 127 k) := xI_o r1 rfl rfl
  have f7 : xI s [(94, 7)] (B k 0) = some (t.2.2.1 131 k) := xI_o r1 rfl rfl
  have f8 : xI s [(94, 8)] (B k 0) = some (t.2.2.1 132 k) := xI_o r1 rfl rfl
  have f9 : xI s [(94, 9)] (B k 0) = some (t.2.2.1 133 k) := xI_o r1 rfl rfl
  have f100 : xI s [(100, 6)] 115 = some (t.1 414) := xI_o h5 rfl rfl
  have ti := fun o => tel_id (o := o) r1
  unfold c_1129 evl ev2
  try simp only [k1, k5, c_in0 hb, c_in1 hb, c_in2 hb, c_div hb, c_row hb, c_pt hb, f2, f3, f7, f8, f9, f100, c_47, c_48, c_54, c_55, if_true, Option.bind_some, Sum.elim_inl, Sum.elim_inr]
  cases h0 : inV t k 0 with
  | none => first | rfl | (simp only [k1, k5, c_in0 hb, c_in1 hb, c_in2 hb, c_div hb, c_row hb, c_pt hb, f2, f3, f7, f8, f9, f100, c_47, c_48, c_54, c_55, if_true, Option.bind_some, Sum.elim_inl, Sum.elim_inr]; rfl) | (simp only [k1, k5, c_in0 hb, c_in1 hb, c_in2 hb, c_div hb, c_row hb, c_pt hb, f2, f3, f7, f8, f9, f100, c_47, c_48, c_54, c_55, if_true, Option.bind_some, Sum.elim_inl, Sum.elim_inr]; split <;> rfl)
  | some x0 =>
  try simp only [k1, k5, c_in0 hb, c_in1 hb, c_in2 hb, c_div hb, c_row hb, c_pt hb, f2, f3, f7, f8, f9, f100, c_47, c_48, c_54, c_55, if_true, Option.bind_some, Sum.elim_inl, Sum.elim_inr]
  cases h1 : inV t k 1 with
  | none => first | rfl | (simp only [k1, k5, c_in0 hb, c_in1 hb, c_in2 hb, c_div hb, c_row hb, c_pt hb, f2, f3, f7, f8, f9, f100, c_47, c_48, c_54, c_55, if_true, Option.bind_some, Sum.elim_inl, Sum.elim_inr]; rfl) | (simp only [k1, k5, c_in0 hb, c_in1 hb, c_in2 hb, c_div hb, c_row hb, c_pt hb, f2, f3, f7, f8, f9, f100, c_47, c_48, c_54, c_55, if_true, Option.bind_some, Sum.elim_inl, Sum.elim_inr]; split <;> rfl)
  | some x1 =>
  try simp only [k1, k5, c_in0 hb, c_in1 hb, c_in2 hb, c_div hb, c_row hb, c_pt hb, f2, f3, f7, f8, f9, f100, c_47, c_48, c_54, c_55, if_true, Option.bind_some, Sum.elim_inl, Sum.elim_inr]
  repeat' split
  all_goals first | exact (ti _).symm | rfl | (simp_all [ti, tel, fwo, clk, ramp])
theorem rk_24 (hb : Bx s t n B k) (a : Nat) : c_1130 a (B k 0) 115 s = tel s B t k (evl t k 24) := by
  have r1 := (hb.2.2.1 k hb.2.2.2.1).1
  have k1 : isK s [94] (B k 0) = true := isK_t r1 rfl
  obtain ⟨oo, od, h5⟩ := hb.2.2.2.2.1
  have k5 : isK s [100] 115 = true := isK_t h5 rfl
  have f2 : xI s [(94, 2)] (B k 0) = some (t.2.2.1 126 k) := xI_o r1 rfl rfl
  have f3 : xI s [(94, 3)] (B k 0) = some (t.2.2.1 127 k) := xI_o r1 rfl rfl
  have f7 : xI s [(94, 7)] (B k 0) = some (t.2.2.1 131 k) := xI_o r1 rfl rfl
  have f8 : xI s [(94, 8)] (B k 0) = some (t.2.2.1 132 k) := xI_o r1 rfl rfl
  have f9 : xI s [(94, 9)] (B k 0) = some (t.2.2.1 133 k) := xI_o r1 rfl rfl
  have f100 : xI s [(100, 6)] 115 = some (t.1 414) := xI_o h5 rfl rfl
  have ti := fun o => tel_id (o := o) r1
  unfold c_1130 evl ev2
  try simp only [k1, k5, c_in0 hb, c_in1 hb, c_in2 hb, c_div hb, c_row hb, c_pt hb, f2, f3, f7, f8, f9, f100, c_47, c_48, c_54, c_55, if_true, Option.bind_some, Sum.elim_inl, Sum.elim_inr]
  cases h0 : inV t k 0 with
  | none => first | rfl | (simp only [k1, k5, c_in0 hb, c_in1 hb, c_in2 hb, c_div hb, c_row hb, c_pt hb, f2, f3, f7, f8, f9, f100, c_47, c_48, c_54, c_55, if_true, Option.bind_some, Sum.elim_inl, Sum.elim_inr]; rfl) | (simp only [k1, k5, c_in0 hb, c_in1 hb, c_in2 hb, c_div hb, c_row hb, c_pt hb, f2, f3, f7, f8, f9, f100, c_47, c_48, c_54, c_55, if_true, Option.bind_some, Sum.elim_inl, Sum.elim_inr]; split <;> rfl)
  | some x0 =>
  try simp only [k1, k5, c_in0 hb, c_in1 hb, c_in2 hb, c_div hb, c_row hb, c_pt hb, f2, f3, f7, f8, f9, f100, c_47, c_48, c_54, c_55, if_true, Option.bind_some, Sum.elim_inl, Sum.elim_inr]
  cases h1 : inV t k 1 with
  | none => first | rfl | (simp only [k1, k5, c_in0 hb, c_in1 hb, c_in2 hb, c_div hb, c_row hb, c_pt hb, f2, f3, f7, f8, f9, f100, c_47, c_48, c_54, c_55, if_true, Option.bind_some, Sum.elim_inl, Sum.elim_inr]; rfl) | (simp only [k1, k5, c_in0 hb, c_in1 hb, c_in2 hb, c_div hb, c_row hb, c_pt hb, f2, f3, f7, f8, f9, f100, c_47, c_48, c_54, c_55, if_true, Option.bind_some, Sum.elim_inl, Sum.elim_inr]; split <;> rfl)
  | some x1 =>
  try simp only [k1, k5, c_in0 hb, c_in1 hb, c_in2 hb, c_div hb, c_row hb, c_pt hb, f2, f3, f7, f8, f9, f100, c_47, c_48, c_54, c_55, if_true, Option.bind_some, Sum.elim_inl, Sum.elim_inr]
  repeat' split
  all_goals simp_all [xP_o r1, xP, xI, xV, r1, bC, lLook, cup_eq, cupU, toI, tel, fg, wr_at]
theorem rk_25 (hb : Bx s t n B k) (a : Nat) : c_1131 a (B k 0) 115 s = tel s B t k (evl t k 25) := by
  have r1 := (hb.2.2.1 k hb.2.2.2.1).1
  have k1 : isK s [94] (B k 0) = true := isK_t r1 rfl
  obtain ⟨oo, od, h5⟩ := hb.2.2.2.2.1
  have k5 : isK s [100] 115 = true := isK_t h5 rfl
  have f2 : xI s [(94, 2)] (B k 0) = some (t.2.2.1 126 k) := xI_o r1 rfl rfl
  have f3 : xI s [(94, 3)] (B k 0) = some (t.2.2.1 127 k) := xI_o r1 rfl rfl
  have f7 : xI s [(94, 7)] (B k 0) = some (t.2.2.1 131 k) := xI_o r1 rfl rfl
  have f8 : xI s [(94, 8)] (B k 0) = some (t.2.2.1 132 k) := xI_o r1 rfl rfl
  have f9 : xI s [(94, 9)] (B k 0) = some (t.2.2.1 133 k) := xI_o r1 rfl rfl
  have f100 : xI s [(100, 6)] 115 = some (t.1 414) := xI_o h5 rfl rfl
  have ti := fun o => tel_id (o := o) r1
  unfold c_1131 evl ev1
  try simp only [k1, k5, c_in0 hb, c_in1 hb, c_in2 hb, c_div hb, c_row hb, c_pt hb, f2, f3, f7, f8, f9, f100, c_47, c_48, c_54, c_55, if_true, Option.bind_some, Sum.elim_inl, Sum.elim_inr]
  cases h0 : inV t k 0 with
  | none => first | rfl | (simp only [k1, k5, c_in0 hb, c_in1 hb, c_in2 hb, c_div hb, c_row hb, c_pt hb, f2, f3, f7, f8, f9, f100, c_47, c_48, c_54, c_55, if_true, Option.bind_some, Sum.elim_inl, Sum.elim_inr]; rfl) | (simp only [k1, k5, c_in0 hb, c_in1 hb, c_in2 hb, c_div hb, c_row hb, c_pt hb, f2, f3, f7, f8, f9, f100, c_47, c_48, c_54, c_55, if_true, Option.bind_some, Sum.elim_inl, Sum.elim_inr]; split <;> rfl)
  | some x0 =>
  try simp only [k1, k5, c_in0 hb, c_in1 hb, c_in2 hb, c_div hb, c_row hb, c_pt hb, f2, f3, f7, f8, f9, f100, c_47, c_48, c_54, c_55, if_true, Option.bind_some, Sum.elim_inl, Sum.elim_inr]
  by_cases q1 : x0 = 0 <;> by_cases q2 : t.2.2.1 126 k < 0 <;> by_cases q3 : t.2.2.1 126 k < t.2.2.1 132 k + 1 <;> simp only [q1, q2, q3, if_true, if_false, Option.bind_some] <;> simp [xP, xI, xV, r1, bC, lLook, cup_eq, cupU, toI, tel, fg, wr_at, q2, q3]
end
