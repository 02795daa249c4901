/-! the bus: the loops of the tick -/
theorem st_at {own : Nat → Nat} {s : CS} {t : TS} {N Ne Nd M k : Nat} (r : R6x (rs s.1 own 6) t N Ne Nd M) (hk : k < 8) : alGet s 121 (Int32.ofNat k) = some (.ref (127 + 3 * k)) ∧ toN s [46] (.ref (127 + 3 * k)) = some (127 + 3 * k) ∧ isK s [46] (127 + 3 * k) = true := by
  obtain ⟨⟨_, ⟨mc, g2⟩, _⟩, _, _, n, ti, bi, m, _, _, rr⟩ := r
  have h1 := (rs_in (rr k hk).1).1
  refine ⟨alGet_r (rs_in g2).1 hk (by omega), ?_, ?_⟩
  · simp only [xN, xV, xI, xL, xR, toP, toI, toL, toO, lLook, isK, kdo, toN, toB, toR, toOB, h1, sC]; rfl
  · simp only [isK, kdo, h1, sC]; decide
/-- how long the line was idle, as both sides ask -/
def YI (t : TS) (N : Nat) (y : Int32) : Prop := ∀ d, R6i t N d → (Int32.ofNat d < 50 ↔ y < 50) ∧ (Int32.ofNat d < 53 ↔ y < 53)
theorem YI.cg {t t' : TS} {N : Nat} {y : Int32} (h : YI t N y) (hr : ∀ j, t'.2.2.1 141 j = t.2.2.1 141 j) : YI t' N y := fun d r => by
  refine h d ?_
  unfold R6i at r ⊢
  simpa only [hr] using r
theorem i_neg1 : ∀ q : Fin 61, 1 ≤ q.1 → (0 : Int32) - (Int32.ofNat q.1) < 1 := by decide
theorem R6i_u {t : TS} {N d d' : Nat} (h : R6i t N d) (h' : R6i t N d') : d = d' := by
  rcases h with ⟨z, z1, z2, z3, z4, z5⟩ | ⟨z3, z5⟩ <;> rcases h' with ⟨y, y1, y2, y3, y4, y5⟩ | ⟨y3, y5⟩
  · have : z = y := by
      rcases Nat.lt_trichotomy z y with q | q | q
      · have := z5 y q y2; rw [y4] at this; exact absurd this (by decide)
      · exact q
      · have := y5 z q z2; rw [z4] at this; exact absurd this (by decide)
    omega
  · have := y5 z z1 z2; rw [z4] at this; exact absurd this (by decide)
  · have := z5 y y1 y2; rw [y4] at this; exact absurd this (by decide)
  · omega
theorem t_idle {t : TS} {N d : Nat} (h5 : t.1 500 = Int32.ofNat (N + 1)) (hN : N < 180000) (hi : R6i t N d) : ∃ y, t_831 t = some y ∧ YI t N y := by
  have key : ∃ y, t_831 t = some y ∧ y = Int32.ofNat (min d 60) := by
    unfold t_831
    have lp := wh_cnt (f := fun p2 : Int32 => (if p2 < 60 then Option.bind (α := Sum (Unit) (Sum (Int32) (Int32))) ((if (((t.1 500) - 1) - p2) < 1 then some (.inl ()) else Option.bind (α := Int32) (rdI t 141 180001 (((t.1 500) - 1) - p2)) (fun x1 => (if x1 = 0 then some (.inr (.inr p2)) else some (.inl ()))))) (Sum.elim (fun v23 => some (.inl (p2 + 1))) (fun z => some z)) else some (.inr p2))) (Q := fun y => y = Int32.ofNat (min d 60)) 60 (fun k a => a = Int32.ofNat k ∧ k ≤ d) (a := 0) ?_ ?_ ⟨rfl, by omega⟩
    · obtain ⟨y, e, q⟩ := lp
      exact ⟨y, by rw [e]; rfl, q⟩
    · rintro k _ hk ⟨rfl, hd⟩
      have e1 : t.1 500 - 1 = Int32.ofNat N := by rw [h5, ← i_suc, Int32.add_sub_cancel]
      have k60 : Int32.ofNat k < 60 := (i_lt (j := k) (k := 60) (by omega) (by omega)).mpr hk
      simp only [if_pos k60, e1]
      by_cases q : k < N
      · rw [i_sub (by omega), if_neg (fun z : Int32.ofNat (N - k) < 1 => by have := (i_lt (j := N - k) (k := 1) (by omega) (by omega)).mp z; omega), rdI_n (by omega) (by omega), Option.bind_some]
        by_cases o : t.2.2.1 141 (N - k) = 0
        · left
          refine ⟨_, by rw [if_pos o]; rfl, ?_⟩
          have : d = k := by
            rcases hi with ⟨z, z1, z2, z3, z4, z5⟩ | ⟨z3, z5⟩
            · by_cases q2 : z < N - k
              · have := z5 (N - k) q2 (by omega); rw [o] at this; exact absurd this (by decide)
              · omega
            · have := z5 (N - k) (by omega) (by omega); rw [o] at this; exact absurd this (by decide)
          rw [this, Nat.min_eq_left (by omega)]
        · right
          refine ⟨Int32.ofNat (k + 1), by rw [if_neg o, ← i_suc]; rfl, rfl, ?_⟩
          rcases hi with ⟨z, z1, z2, z3, z4, z5⟩ | ⟨z3, z5⟩
          · have : z ≠ N - k := fun e => o (e ▸ z4)
            omega
          · omega
      · right
        have e2 : Int32.ofNat N - Int32.ofNat k < 1 := by
          have := i_neg1 ⟨k - N, by omega⟩
          by_cases q3 : k = N
          · subst q3; rw [Int32.sub_self]; decide
          · have h3 := this (by show 1 ≤ k - N; omega)
            have e3 : Int32.ofNat N - Int32.ofNat k = 0 - Int32.ofNat (k - N) := by
              have : Int32.ofNat k = Int32.ofNat (k - N) + Int32.ofNat N := by rw [i_add, Nat.sub_add_cancel (by omega)]
              rw [this]; grind
            rw [e3]; exact h3
        refine ⟨Int32.ofNat (k + 1), by rw [if_pos e2, ← i_suc]; rfl, rfl, ?_⟩
        rcases hi with ⟨z, z1, z2, z3, z4, z5⟩ | ⟨z3, z5⟩
        · omega
        · omega
    · rintro _ ⟨rfl, hd⟩
      exact ⟨_, by rw [if_neg (by decide)], by rw [Nat.min_eq_right hd]⟩
  obtain ⟨y, e, rfl⟩ := key
  refine ⟨_, e, fun d' h' => ?_⟩
  obtain rfl := R6i_u hi h'
  have hd : d < 2147483648 := by rcases hi with ⟨z, z1, z2, z3, z4, z5⟩ | ⟨z3, z5⟩ <;> omega
  have m1 : min d 60 < 2147483648 := by omega
  constructor
  · exact ((i_lt (k := 50) hd (by omega)).trans (by omega)).trans (i_lt (k := 50) m1 (by omega)).symm
  · exact ((i_lt (k := 53) hd (by omega)).trans (by omega)).trans (i_lt (k := 53) m1 (by omega)).symm
