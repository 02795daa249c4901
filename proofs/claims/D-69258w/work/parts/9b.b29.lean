/-! the bus: the component's telegram -/
theorem c_bytes {s : CS} {a b m c f : Nat} {p sd : Int32} {g : Nat → Int32} (hab : a ≠ b) (h1 : s.1 a = some (tlC p sd b)) (h2 : s.1 b = some (true, true, 0, rowC (fun j => .int (g j)) m)) (hc : c + 6 < m) (hm : m < 1000) (hf : f < 256) : ∃ s', wh (S := CS × Int32) (X := CS) (fun p63 => (if p63.2 < Int32.ofNat c then Option.bind (α := Nat) (xN p63.1 [(93, 1)] a) (fun a17 => Option.bind (α := CS) (aPut p63.1 0 a17 (6 + p63.2) (.int ((Int32.ofNat f + p63.2) &&& 255))) (fun s18 => some (.inl (s18, p63.2 + 1)))) else some (.inr p63.1))) (s, 0) = some s' ∧ s'.1 a = some (tlC p sd b) ∧ s'.1 b = some (true, true, 0, rowC (fun j => .int (if 6 ≤ j ∧ j < 6 + c then Int32.ofNat ((f + (j - 6)) % 256) else g j)) m) ∧ s'.2 = s.2 ∧ ∀ q, q ≠ b → s'.1 q = s.1 q := by
  refine wh_cnt (Q := fun s' : CS => s'.1 a = some (tlC p sd b) ∧ s'.1 b = some (true, true, 0, rowC (fun j => .int (if 6 ≤ j ∧ j < 6 + c then Int32.ofNat ((f + (j - 6)) % 256) else g j)) m) ∧ s'.2 = s.2 ∧ ∀ q, q ≠ b → s'.1 q = s.1 q) c (fun k (x : CS × Int32) => x.2 = Int32.ofNat k ∧ x.1.1 a = some (tlC p sd b) ∧ x.1.1 b = some (true, true, 0, rowC (fun j => .int (if 6 ≤ j ∧ j < 6 + k then Int32.ofNat ((f + (j - 6)) % 256) else g j)) m) ∧ x.1.2 = s.2 ∧ ∀ q, q ≠ b → x.1.1 q = s.1 q) (a := (s, 0)) ?_ ?_ ⟨rfl, h1, ?_, rfl, fun _ _ => rfl⟩
  · rintro k ⟨u, _⟩ hk ⟨e1, e2, e3, e4, e5⟩
    obtain rfl : _ = Int32.ofNat k := e1
    right
    obtain ⟨u', p1, p2, p3, p4, p5⟩ := tl_put (i := 6 + k) (w := Int32.ofNat ((f + k) % 256)) hab e2 e3 (by omega) hm
    refine ⟨(u', Int32.ofNat k + 1), ?_, i_suc k, p2, ?_, p4.trans e4, fun q hq => (p5 q hq).trans (e5 q hq)⟩
    · dsimp only
      rw [if_pos ((i_lt (by omega) (by omega)).mpr hk), (tl_f e2).1, Option.bind_some, i_Ladd, i_add, i_and255, p1, Option.bind_some]
    · show u'.1 b = _
      rw [p3]
      rw [rowC_congr (g := fun j => Value.int (if 6 ≤ j ∧ j < 6 + (k + 1) then Int32.ofNat ((f + (j - 6)) % 256) else g j)) (fun j _ => by
        by_cases z : j = 6 + k
        · rw [if_pos z, if_pos (by omega), show j - 6 = k by omega]
        · rw [if_neg z]
          by_cases y : 6 ≤ j ∧ j < 6 + k
          · rw [if_pos y, if_pos (by omega)]
          · rw [if_neg y, if_neg (by omega)])]
  · rintro ⟨u, _⟩ ⟨e1, e2, e3, e4, e5⟩
    obtain rfl : _ = Int32.ofNat c := e1
    exact ⟨u, if_neg (fun z => by have := (i_lt (by omega) (by omega)).mp z; omega), e2, e3, e4, e5⟩
  · show s.1 b = _
    rw [h2]
    rw [rowC_congr (f := fun j => Value.int (g j)) (g := fun j => Value.int (if 6 ≤ j ∧ j < 6 + 0 then Int32.ofNat ((f + (j - 6)) % 256) else g j)) (fun j _ => by rw [if_neg (by omega)])]
