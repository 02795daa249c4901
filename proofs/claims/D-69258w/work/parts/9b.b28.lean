/-! the bus: the component's telegram, a byte -/
def tlC (p sd : Int32) (b : Nat) : lCell := (true, false, 93, [.int p, .ref b, .int sd])
theorem tl_f {s : CS} {a b : Nat} {p sd : Int32} (h1 : s.1 a = some (tlC p sd b)) : xN s [(93, 1)] a = some b ∧ xR s [(93, 1)] a = some (some b) ∧ isK s [93] a = true := by
  refine ⟨by simp only [xN, xV, xI, xL, xR, toP, toI, toL, toO, lLook, isK, kdo, toN, toB, toR, toOB, h1, tlC]; rfl, by simp only [xN, xV, xI, xL, xR, toP, toI, toL, toO, lLook, isK, kdo, toN, toB, toR, toOB, h1, tlC]; rfl, by simp only [isK, kdo, h1, tlC]; decide⟩
theorem tl_put {s : CS} {a b m i : Nat} {p sd w : Int32} {f : Nat → Int32} (hab : a ≠ b) (h1 : s.1 a = some (tlC p sd b)) (h2 : s.1 b = some (true, true, 0, rowC (fun j => .int (f j)) m)) (hi : i < m) (hm : m < 1000) :
    ∃ s', aPut s 0 b (Int32.ofNat i) (.int w) = some s' ∧ s'.1 a = some (tlC p sd b) ∧ s'.1 b = some (true, true, 0, rowC (fun j => .int (if j = i then w else f j)) m) ∧ s'.2 = s.2 ∧ ∀ q, q ≠ b → s'.1 q = s.1 q := by
  refine ⟨_, aPut_r h2 hi (by omega), ?_, ?_, rfl, fun q hq => by rw [cup_at, if_neg hq]⟩
  · rw [cup_at, if_neg hab]; exact h1
  · rw [cup_at, if_pos rfl]
    rw [rowC_congr (g := fun j => Value.int (if j = i then w else f j)) (fun j _ => by by_cases z : j = i <;> simp [z])]
