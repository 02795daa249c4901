/-! the bus: one telegram more -/
def ad1 (k n v : Nat) (f : Nat → Nat → Nat) : Nat → Nat → Nat := fun q j => if q = k ∧ j = n then v else f q j
theorem R6_send {s S : CS} {own : Nat → Nat} {t t' : TS} {N k p a aim gr c f : Nat} (hw : wfS s) (hs : 179 ≤ s.2.1) (hk : k < 8) (r : R6 (rs s.1 own 6) t N) (hp : p < 4) (ha : a < 65536) (haim : aim < 65536) (hc1 : 1 ≤ c) (hc : c ≤ 14) (hgr : gr = 0 ∨ gr = 128) (n : Nat) (ti : Nat → Nat) (h146 : t.2.2.1 146 k = Int32.ofNat n) (hq : s.1 (129 + 3 * k) = some (true, false, 1004, rowC (fun j => .ref (ti j)) n)) (hn : n < 6)
    (g1 : S.1 s.2.1 = some (tlC (Int32.ofNat p) 0 (s.2.1 + 1))) (g2 : S.1 (s.2.1 + 1) = some (true, true, 0, rowC (fun j => .int (if j = c + 6 then xr (sB p a aim gr c f) (c + 6) else sB p a aim gr c f j)) (c + 7))) (g3 : S.1 (129 + 3 * k) = some (true, false, 1004, rowC (fun j => if j = n then .ref s.2.1 else .ref (ti j)) (n + 1))) (g4 : ∀ q, q < s.2.1 → q ≠ 129 + 3 * k → S.1 q = s.1 q)
    (t1 : t'.1 = t.1) (t3 : ∀ q j, q ≠ 147 → ¬ (q = 146 ∧ j = k) → t'.2.2.1 q j = t.2.2.1 q j) (t4 : t'.2.2.1 146 k = Int32.ofNat (n + 1)) (t5 : ∀ j, (j < 24 * (6 * k + n) ∨ 24 * (6 * k + n) + 24 ≤ j) → t'.2.2.1 147 j = t.2.2.1 147 j) (t6 : ∀ i, i < c + 6 → tl t' k n i = sB p a aim gr c f i) (t7 : tl t' k n (c + 6) = xr (sB p a aim gr c f) (c + 6)) (t8 : tl t' k n 21 = Int32.ofNat (c + 7)) (t9 : tl t' k n 22 = Int32.ofNat p) (t10 : tl t' k n 23 = 0) (hx : byt (xr (sB p a aim gr c f) (c + 6))) :
    R6 (rs S.1 (givs own s.2.1 2 6) 6) t' N := by
  obtain ⟨g, e, d, n0, ti0, bi0, m0, i1, i2, rr⟩ := r
  have rk := rr k hk
  have hown : ∀ q, q < s.2.1 → givs own s.2.1 2 6 q = own q := fun q hq => if_neg (by omega)
  have key : ∀ q, q < s.2.1 → q ≠ 129 + 3 * k → rs S.1 (givs own s.2.1 2 6) 6 q = rs s.1 own 6 q := by
    intro q h1 h2
    unfold rs
    rw [hown q h1, g4 q h1 h2]
  have hq0 := rs_in rk.2.1
  have en : n0 k = n := by
    have := rk.2.2.1
    rw [h146] at this
    exact ((i_inj (by omega) (by have := rk.2.2.2.1; omega)).mp this).symm
  have eti : ∀ j, j < n → ti0 k j = ti j := by
    intro j hj
    have h1 := hq0.1
    rw [hq, en] at h1
    have h2 : rowC (fun j => (.ref (ti j) : Value)) n = rowC (fun j => .ref (ti0 k j)) n := by
      injection h1 with h1
      injection h1 with _ h1
      injection h1 with _ h1
      injection h1 with _ h1
    have h3 := congrArg (fun l => l[j]?) h2
    simp only [rowC_get, if_pos hj] at h3
    injection h3 with h3
    injection h3 with h3
    exact h3.symm
  have lt0 : ∀ q j, q < 8 → j < n0 q → ti0 q j < s.2.1 ∧ bi0 q j < s.2.1 ∧ 179 ≤ ti0 q j ∧ 179 ≤ bi0 q j := by
    intro q j h1 h2
    have h3 := (rr q h1).2.2.2.2.2.1 j h2
    exact ⟨wf_lt hw (rs_in h3.1).1, wf_lt hw (rs_in h3.2.1).1, h3.2.2.2.2.2.2.1, h3.2.2.2.2.2.2.2⟩
  have r3 : ∀ c', c' ≠ 147 → c' ≠ 146 → ∀ j, t'.2.2.1 c' j = t.2.2.1 c' j := fun c' h1 h2 j => t3 c' j h1 (fun z => h2 z.1)
  have nn : ∀ c', c' ≠ 0 → (mI c' = 6 ∨ c' = 1) → t'.1 c' = t.1 c' := fun c' _ _ => by rw [t1]
  have tlo : ∀ q j i, j < 6 → i < 24 → ¬ (q = k ∧ j = n) → tl t' q j i = tl t q j i := by
    intro q j i h1 h2 h3
    unfold tl
    refine t5 _ ?_
    by_cases z : q = k
    · have : j ≠ n := fun w => h3 ⟨z, w⟩
      rw [z]; omega
    · omega
  have o1 : givs own s.2.1 2 6 s.2.1 = 6 := if_pos (by omega)
  have o2 : givs own s.2.1 2 6 (s.2.1 + 1) = 6 := if_pos (by omega)
  refine ⟨R6g_cg g (key _ (by omega) (by omega)) (key _ (by omega) (by omega)) (key _ (by omega) (by omega)) (key _ (by omega) (by omega)) (r3 _ (by omega) (by omega)) (r3 _ (by omega) (by omega)) (r3 _ (by omega) (by omega)) (r3 _ (by omega) (by omega)) nn, R6e_cg e (key _ (by omega) (by omega)) (key _ (by omega) (by omega)) (r3 _ (by omega) (by omega)) (r3 _ (by omega) (by omega)) (r3 _ (by omega) (by omega)) nn, R6d_cg d (key _ (by omega) (by omega)) (r3 _ (by omega) (by omega)) (by rw [t1]), fun q => if q = k then n + 1 else n0 q, ad1 k n s.2.1 ti0, ad1 k n (s.2.1 + 1) bi0, ad1 k n (c + 7) m0, ?_, ?_, fun q hq8 => ?_⟩
  · intro q j q' j' h1 h2 h3 h4 e5
    dsimp only at h3 h4
    unfold ad1 at e5
    have hj : j < n0 q ∨ (q = k ∧ j = n) := by by_cases z : q = k; (rw [if_pos z] at h3; rw [z, en]; omega); (rw [if_neg z] at h3; exact Or.inl h3)
    have hj' : j' < n0 q' ∨ (q' = k ∧ j' = n) := by by_cases z : q' = k; (rw [if_pos z] at h4; rw [z, en]; omega); (rw [if_neg z] at h4; exact Or.inl h4)
    by_cases z1 : q = k ∧ j = n <;> by_cases z2 : q' = k ∧ j' = n
    · omega
    · rw [if_pos z1, if_neg z2] at e5
      rcases hj' with y | y
      · have := (lt0 q' j' h2 y).1; omega
      · exact absurd y z2
    · rw [if_neg z1, if_pos z2] at e5
      rcases hj with y | y
      · have := (lt0 q j h1 y).1; omega
      · exact absurd y z1
    · rw [if_neg z1, if_neg z2] at e5
      exact i1 q j q' j' h1 h2 (hj.resolve_right z1) (hj'.resolve_right z2) e5
  · intro q j q' j' h1 h2 h3 h4 e5
    dsimp only at h3 h4
    unfold ad1 at e5
    have hj : j < n0 q ∨ (q = k ∧ j = n) := by by_cases z : q = k; (rw [if_pos z] at h3; rw [z, en]; omega); (rw [if_neg z] at h3; exact Or.inl h3)
    have hj' : j' < n0 q' ∨ (q' = k ∧ j' = n) := by by_cases z : q' = k; (rw [if_pos z] at h4; rw [z, en]; omega); (rw [if_neg z] at h4; exact Or.inl h4)
    by_cases z1 : q = k ∧ j = n <;> by_cases z2 : q' = k ∧ j' = n
    · omega
    · rw [if_pos z1, if_neg z2] at e5
      rcases hj' with y | y
      · have := (lt0 q' j' h2 y).2.1; omega
      · exact absurd y z2
    · rw [if_neg z1, if_pos z2] at e5
      rcases hj with y | y
      · have := (lt0 q j h1 y).2.1; omega
      · exact absurd y z1
    · rw [if_neg z1, if_neg z2] at e5
      exact i2 q j q' j' h1 h2 (hj.resolve_right z1) (hj'.resolve_right z2) e5
  · by_cases z : q = k
    · subst z
      obtain ⟨s1, s2, s3, s4, ⟨xs, s5, s5'⟩, s6, s7⟩ := rk
      rw [show (fun q_1 => if q_1 = q then n + 1 else n0 q_1) q = n + 1 from if_pos rfl]
      have sc : sC t' q = sC t q := by
        unfold sC
        rw [r3 143 (by omega) (by omega), r3 145 (by omega) (by omega), r3 148 (by omega) (by omega), r3 149 (by omega) (by omega), r3 150 (by omega) (by omega), r3 151 (by omega) (by omega), r3 152 (by omega) (by omega), r3 153 (by omega) (by omega), r3 154 (by omega) (by omega)]
      refine ⟨by rw [key _ (by omega) (by omega), s1, sc], rs_some.mpr ⟨by rw [hown _ (by omega)]; exact hq0.2, ?_⟩, t4, by omega, ⟨xs, by rw [key _ (by omega) (by omega), s5], fun gg hg => by rw [r3 144 (by omega) (by omega)]; exact s5' gg hg⟩, ?_, ?_⟩
      · rw [g3]
        congr 4
        refine rowC_congr (fun j hj => ?_)
        unfold ad1
        by_cases y : j = n
        · rw [if_pos y, if_pos ⟨rfl, y⟩]
        · rw [if_neg y, if_neg (fun w => y w.2), eti j (by omega)]
      · intro j hj
        by_cases y : j = n
        · subst y
          unfold ad1
          rw [if_pos ⟨rfl, rfl⟩, if_pos ⟨rfl, rfl⟩, if_pos ⟨rfl, rfl⟩]
          have hb : ∀ i, i < c + 7 → tl t' q j i = (if i = c + 6 then xr (sB p a aim gr c f) (c + 6) else sB p a aim gr c f i) := by
            intro i hi
            by_cases w : i = c + 6
            · rw [if_pos w, w, t7]
            · rw [if_neg w, t6 i (by omega)]
          refine ⟨rs_some.mpr ⟨o1, by rw [g1, t9, t10]; rfl⟩, rs_some.mpr ⟨o2, ?_⟩, t8, by omega, by omega, fun i hi => ⟨?_, fun hi0 _ => ?_⟩, hs, by omega⟩
          · rw [g2]
            congr 4
            exact rowC_congr (fun i hi => by rw [hb i hi])
          · rw [hb i hi]
            by_cases w : i = c + 6
            · rw [if_pos w]; exact hx
            · rw [if_neg w]; exact sB_byt hp ha haim hgr hc
          · rw [hb i hi, if_neg (by omega), hi0]
            unfold sB bN
            rw [if_pos rfl, i_clamp (by omega)]; omega
        · have hj' : j < n0 q := by omega
          unfold ad1
          rw [if_neg (fun w => y w.2), if_neg (fun w => y w.2), if_neg (fun w => y w.2)]
          obtain ⟨l1, l2, l3, l4⟩ := lt0 q j hq8 hj'
          exact R6t_cg (s6 j hj') (key _ l1 (by omega)) (key _ l2 (by omega)) (fun i hi => tlo q j i (by omega) hi (fun w => y w.2))
      · obtain ⟨u1, u2, u3, u4, u5, u6a, u6b, u6c⟩ := s7
        rw [r3 145 (by omega) (by omega), r3 143 (by omega) (by omega), r3 148 (by omega) (by omega), r3 149 (by omega) (by omega), r3 150 (by omega) (by omega), r3 151 (by omega) (by omega)]
        have hm : 0 < n → ad1 q n (c + 7) m0 q 0 = m0 q 0 := fun z => if_neg (fun w => by omega)
        refine ⟨u1, u2, ?_, ?_, u5, ?_, ?_, ?_⟩
        · rcases u3 with y | ⟨x, y1, y2, y3⟩
          · exact Or.inl y
          · exact Or.inr ⟨x, y1, by omega, by rw [hm (by omega)]; exact y3⟩
        · rcases u4 with y | ⟨y1, y2⟩
          · exact Or.inl y
          · exact Or.inr ⟨by omega, y2⟩
        · intro _
          rw [r3 149 (by omega) (by omega)]
          by_cases y : n = 0
          · rw [y] at t10
            exact ⟨0, t10, by omega, fun _ => by omega⟩
          · rw [tlo q 0 23 (by omega) (by omega) (fun w => y w.2.symm)]
            exact u6a (by omega)
        · intro j h1 h2
          by_cases y : j = n
          · rw [y]; exact t10
          · rw [tlo q j 23 (by omega) (by omega) (fun w => y w.2)]
            exact u6b j h1 (by omega)
        · rw [r3 148 (by omega) (by omega), r3 149 (by omega) (by omega)]; exact u6c
    · rw [show (fun q => if q = k then n + 1 else n0 q) q = n0 q from if_neg z]
      have h0 := rr q hq8
      have hm : (ad1 k n s.2.1 ti0) q = ti0 q ∧ (ad1 k n (s.2.1 + 1) bi0) q = bi0 q ∧ (ad1 k n (c + 7) m0) q = m0 q := by
        refine ⟨?_, ?_, ?_⟩ <;> (funext j; exact if_neg (fun w => z w.1))
      rw [hm.1, hm.2.1, hm.2.2]
      have h6 := h0.2.2.2.1
      refine R6s_cg h0 (key _ (by omega) (by omega)) (key _ (by omega) (by omega)) (key _ (by omega) (by omega)) (fun j hj => ?_) (fun c' h1 h2 h3 h4 => t3 c' q h4 (fun w => z w.2)) (fun gg _ => r3 144 (by omega) (by omega) _) (fun j i hj hi => tlo q j i (by omega) hi (fun w => z w.1))
      obtain ⟨l1, l2, l3, l4⟩ := lt0 q j hq8 hj
      exact ⟨key _ l1 (by omega), key _ l2 (by omega)⟩
