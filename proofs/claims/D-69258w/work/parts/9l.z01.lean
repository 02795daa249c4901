/-! the house: what a part's relation asks of the reference -/
section
variable {t T : TS} {h : lHeap}
theorem rt_num {Z c : Nat} (e : rt T Z = rt t Z) (hc : mI c = Z) : T.1 c = t.1 c := by rw [← rt_1 (t := T) hc, e, rt_1 hc]
theorem rt_lng {Z c : Nat} (e : rt T Z = rt t Z) (hc : mI c = Z) : T.2.1 c = t.2.1 c := by rw [← rt_2 (t := T) hc, e, rt_2 hc]
theorem rt_rwL {Z c : Nat} (e : rt T Z = rt t Z) (hc : mR c = Z) : T.2.2.2 c = t.2.2.2 c := by
  funext k
  rw [← rt_4 (t := T) hc, e, rt_4 hc]
theorem R2_rt (r : R2 h t) (e : rt T 2 = rt t 2) (e1 : T.1 1 = t.1 1) : R2 h T := by
  have n := fun c (hc : mI c = 2) => rt_num e hc
  have w := fun c (hc : mR c = 2) => rt_row e hc
  have key : R2 h T = R2 h t := by
    simp only [R2, R2x, L2, D2, F2, FT, TGe, TPl, ptR, pcR, edR, rwR, lbR, rgR, lnR, dcC, okDoor, e1, n 100 rfl, n 109 rfl, n 110 rfl, n 111 rfl, n 112 rfl, n 113 rfl, n 117 rfl, n 127 rfl, n 130 rfl, n 135 rfl, w 50 rfl, w 51 rfl, w 52 rfl, w 53 rfl, w 54 rfl, w 55 rfl, w 56 rfl, w 57 rfl, w 58 rfl, w 59 rfl, w 60 rfl, w 64 rfl, w 66 rfl, w 67 rfl, w 68 rfl, w 69 rfl, w 70 rfl, w 72 rfl, w 73 rfl]
  rw [key]; exact r
theorem R3_rt (r : R3 h t) (e : rt T 3 = rt t 3) : R3 h T := by
  refine R3_up (fun _ _ h => h) ⟨fun c hc => rt_num e ?_, fun c hc => rt_row e ?_, fun c hc => rt_rwL e ?_, fun c j hc _ => congrFun (rt_row (c := c) e ?_) j, fun c j hc _ => congrFun (rt_row (c := c) e ?_) j, fun j _ => ⟨by rw [rt_row (c := 87) e rfl], by rw [rt_rwL (c := 88) e rfl]⟩⟩ r
  · rcases hc with rfl | rfl | rfl | rfl <;> rfl
  · rcases hc with rfl | rfl | rfl | rfl <;> rfl
  · rcases hc with rfl | rfl | rfl | rfl | rfl | rfl <;> rfl
  · rcases hc with rfl | rfl | rfl <;> rfl
  · rcases hc with rfl | rfl | rfl | rfl <;> rfl
theorem R4_rt {K : Nat} (r : R4 h t K) (e : rt T 4 = rt t 4) (e1 : T.1 1 = t.1 1) (e3 : t.1 1 ≠ 0 → rt T 2 = rt t 2) : R4 h T K := by
  by_cases z : t.1 1 = 0
  · obtain ⟨zn, nr, nS, nT, nC, nR, nP, nL, a, rel, S, C, CS', CM, CT, E, RS, RM', RT, P, G, D, L, F, RW, ⟨v1, v2, v3, v4, v5, v6⟩, a1, a2, a3, a4, a5, ⟨a6, a7, a8, a9, b1, b2, b3, b4, b5⟩, a10, a11, a12⟩ := r
    obtain ⟨c1, c2, c3, c4, c5, c6, c7⟩ := a12 z
    have n := fun c (hc : mI c = 4) => rt_num e hc
    have w := fun c (hc : mR c = 4) => rt_row e hc
    subst c1 c2 c3 c4 c5 c6 c7
    obtain ⟨x1, x2, x3, x4, x5, x6⟩ := a1
    refine ⟨zn, nr, 0, 0, 0, 0, 0, 0, 0, rel, S, C, CS', CM, CT, E, RS, RM', RT, P, G, D, L, F, RW, ⟨by rw [e1, n 9 rfl, n 49 rfl, n 45 rfl]; exact v1, by rw [e1]; exact v2, v3, by rw [n 9 rfl]; exact v4, v5, fun y => absurd (e1.trans z) y⟩, ⟨x1, (n 27 rfl).trans x2, x3, fun k hk => absurd hk (Nat.not_lt_zero _), fun j k hk => absurd hk (Nat.not_lt_zero _), fun k h1 h2 => by rw [w 28 rfl, w 29 rfl]; exact x6 k h1 h2⟩, ⟨(n 45 rfl).trans a2.1, fun j hj => absurd hj (Nat.not_lt_zero _)⟩, ⟨a3.1, (n 36 rfl).trans a3.2.1, by omega, fun k hk => absurd hk (Nat.not_lt_zero _), fun j k hk => absurd hk (Nat.not_lt_zero _), fun j k _ _ hj => absurd hj (Nat.not_lt_zero _)⟩, ⟨a4.1, (n 39 rfl).trans a4.2.1, by omega, fun k hk => absurd hk (Nat.not_lt_zero _), fun j k _ _ hj => absurd hj (Nat.not_lt_zero _)⟩, a5, ⟨a6, (n 10 rfl).trans a7, a8, fun k hk => absurd hk (Nat.not_lt_zero _), fun j k hk => absurd hk (Nat.not_lt_zero _), fun j k hk => absurd hk (Nat.not_lt_zero _), fun j k hk => absurd hk (Nat.not_lt_zero _), (n 24 rfl).trans b4, fun k hk => absurd hk (Nat.not_lt_zero _)⟩, ⟨a10.1, (n 49 rfl).trans a10.2.1, fun k hk => absurd hk (Nat.not_lt_zero _)⟩, a11, fun _ => ⟨rfl, rfl, rfl, rfl, rfl, rfl, rfl⟩⟩
  · obtain ⟨zn, nr, nS, nT, nC, nR, nP, nL, a, rel, S, C, CS', CM, CT, E, RS, RM', RT, P, G, D, L, F, RW, r⟩ := r
    exact ⟨zn, nr, nS, nT, nC, nR, nP, nL, a, rel, S, C, CS', CM, CT, E, RS, RM', RT, P, G, D, L, F, RW, R4x_cg r (fun _ _ h => h) e1 e (fun c hc => rt_row (e3 z) (by simp at hc; rcases hc with rfl | rfl | rfl | rfl <;> rfl))⟩
theorem R5_rt (r : R5 h t) (e : rt T 5 = rt t 5) (e1 : T.1 1 = t.1 1) : R5 h T := R5_cg r (fun c j hc => by rw [rt_row e hc]) (fun c _ hc => hc.elim (rt_num e) (fun z => by rw [z]; exact e1))
theorem R7_rt (r : R7 h t) (e : rt T 7 = rt t 7) (e1 : T.1 1 = t.1 1) : R7 h T := by
  obtain ⟨np, sz, mx, zm, am, rl, nr, na, ec, P, Z, ZP, A, RW, od, r⟩ := r
  exact ⟨np, sz, mx, zm, am, rl, nr, na, ec, P, Z, ZP, A, RW, od, by unfold R7x; rw [rt_num (c := 301) e rfl]; exact R7b_rt r e e1⟩
theorem R8_rt (r : R8 h t) (e : rt T 8 = rt t 8) (e1 : T.1 1 = t.1 1) : R8 h T := by
  obtain ⟨nc, nk, C, D, M, b, r⟩ := r
  have hM : ∃ M', R8m h T nk nc M' := by
    refine ⟨M, ?_⟩
    have := r.2.2.2.2.2.2.2.2.2.2.2.2.2.2.2.2.2.2.2
    unfold R8m toC at this ⊢
    rw [rt_row (c := 172) e rfl, rt_row (c := 173) e rfl, rt_row (c := 174) e rfl, rt_row (c := 175) e rfl]
    exact this
  obtain ⟨M', r'⟩ := R8x_cg r (fun c hc => by rcases hc with rfl | rfl | rfl | rfl; exact e1; exact rt_num e rfl; exact rt_num e rfl; exact rt_num e rfl) (fun c h1 h2 => rt_row e (by
    have : c = 158 ∨ c = 159 ∨ c = 160 ∨ c = 161 ∨ c = 162 ∨ c = 163 ∨ c = 164 ∨ c = 165 ∨ c = 166 ∨ c = 167 := by omega
    rcases this with rfl | rfl | rfl | rfl | rfl | rfl | rfl | rfl | rfl | rfl <;> rfl)) hM
  exact ⟨nc, nk, C, D, M', b, r'⟩
theorem R9_rt (r : R9 h t) (e : rt T 9 = rt t 9) (e1 : T.1 1 = t.1 1) (e2 : T.1 2 = t.1 2) (e9 : T.1 9 = t.1 9) (e3 : t.1 1 ≠ 0 → rt T 2 = rt t 2) : R9 h T := by
  obtain ⟨nl, nr, nd, sm, W, ee, q, g, wn, sc, r⟩ := r
  exact ⟨nl, nr, nd, sm, W, ee, q, g, wn, sc, R9x_cg r (fun _ _ h => h) e1 e2 e9 e e3⟩
end
