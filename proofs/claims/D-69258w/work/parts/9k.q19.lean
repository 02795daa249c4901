/-! permits: whether a clause holds, the component -/
section
variable {s : CS}
/-- a clause's sign, as it is written -/
def sgL (k : Nat) : List Nat := if k = 0 then [60] else if k = 1 then [60, 61] else if k = 2 then [61] else if k = 3 then [62, 61] else [62]
def sgH (k : Nat) (x y : Int64) : Bool := if k = 0 then decide (x < y) else if k = 1 then !decide (y < x) else if k = 2 then decide (x = y) else if k = 3 then !decide (x < y) else decide (y < x)
/-- the constants -/
def SgK (s : CS) : Prop := (∃ w, s.1 87 = some (w, false, 1000, txV [60])) ∧ (∃ w, s.1 88 = some (w, false, 1000, txV [60, 61])) ∧ (∃ w, s.1 89 = some (w, false, 1000, txV [61])) ∧ (∃ w, s.1 90 = some (w, false, 1000, txV [62, 61])) ∧ ∃ w, s.1 91 = some (w, false, 1000, txV [])
theorem c_cmpX {a b : Nat} {x y z w : Int64} (h0 : FrC s a x y) (h1 : FrC s b z w) : c_965 a b s = if (ovM x w || ovM z y) = true then some (.inr (s.2.1, exAr s)) else some (.inl (if x * w < z * y then -1 else if x * w = z * y then 0 else 1, s)) := by
  unfold c_965
  rw [xL_o h0 rfl rfl, Option.bind_some, xL_o h1 rfl rfl, Option.bind_some, mulG]
  by_cases p : ovM x w = true
  · rw [if_pos p, if_pos (by rw [p]; rfl)]
  · rw [if_neg p]
    dsimp only
    rw [xL_o h1 rfl rfl, Option.bind_some, xL_o h0 rfl rfl, Option.bind_some, mulG]
    by_cases q : ovM z y = true
    · rw [if_pos q, if_pos (by rw [q, Bool.or_true])]
    · rw [if_neg q, if_neg (by cases hp : ovM x w <;> cases hq : ovM z y <;> simp_all)]
      dsimp only
      unfold c_113
      by_cases l : x * w < z * y
      · rw [if_pos ((lc_neg _ _).mpr l), if_pos l]; rfl
      · rw [if_neg (fun v => l ((lc_neg _ _).mp v)), if_neg l]
        by_cases e : x * w = z * y
        · rw [if_pos ((lc_0 _ _).mpr e), if_pos e]; rfl
        · rw [if_neg (fun v => e ((lc_0 _ _).mp v)), if_neg e]; rfl
theorem c_holX {c a b g k : Nat} {x y z w : Int64} {l r : Nat} (hc : s.1 c = some (true, false, 74, [.ref l, .ref g, .ref r])) (hg : s.1 g = some (true, false, 1000, txV (sgL k))) (hk : k < 5) (K : SgK s) (h0 : FrC s a x y) (h1 : FrC s b z w) : c_956 c a b s = if (ovM x w || ovM z y) = true then some (.inr (s.2.1, exAr s)) else some (.inl (if sgH k (x * w) (z * y) = true then 1 else 0, s)) := by
  obtain ⟨⟨w1, k1⟩, ⟨w2, k2⟩, ⟨w3, k3⟩, ⟨w4, k4⟩, _⟩ := K
  unfold c_956
  rw [if_pos (isK_t h0 rfl), c_cmpX h0 h1]
  by_cases o : (ovM x w || ovM z y) = true
  · rw [if_pos o, if_pos o]; rfl
  · rw [if_neg o, if_neg o, Option.bind_some, Sum.elim_inl]
    dsimp only
    have lt1 : ∀ {p q : Int64}, p < q → ¬ q < p := fun h h' => Int64.lt_irrefl (Int64.lt_trans h h')
    have xr : xR s [(74, 1)] c = some (some g) := xR_o hc rfl rfl
    rw [xr, Option.bind_some, Option.bind_some, if_pos (isK_t hg rfl)]
    have hh : stHash s g = hsh (txV (sgL k)) 0 := by unfold stHash; rw [hg]; rfl
    have he : ∀ {m : Nat} {v : Bool} {ys : List Nat}, s.1 m = some (v, false, 1000, txV ys) → stEq s g (some m) = some (if txV (sgL k) = txV ys then 1 else 0) := fun hm => by
      unfold stEq; rw [stC_r hg, Option.bind_some, Option.bind_some, stC_r hm]; rfl
    rw [hh]
    have c5 : k = 0 ∨ k = 1 ∨ k = 2 ∨ k = 3 ∨ k = 4 := by omega
    obtain ⟨P, hP⟩ : ∃ P, P = x * w := ⟨_, rfl⟩
    obtain ⟨Q, hQ⟩ : ∃ Q, Q = z * y := ⟨_, rfl⟩
    rw [← hP, ← hQ]
    rcases c5 with rfl | rfl | rfl | rfl | rfl
    · rw [show hsh (txV (sgL 0)) 0 = some 60 by decide, Option.bind_some, if_pos (by decide), if_pos (isK_t hg rfl), he k1, Option.bind_some, if_pos (show txV (sgL 0) = txV [60] from rfl), if_neg (by decide), Option.bind_some, if_pos (by decide)]
      unfold sgH
      by_cases l : P < Q
      · rw [if_pos l, if_pos (by decide)]; simp [l]
      · rw [if_neg l]
        by_cases e : P = Q
        · rw [if_pos e, if_neg (by decide)]; simp [l]
        · rw [if_neg e, if_neg (by decide)]; simp [l]
    · rw [show hsh (txV (sgL 1)) 0 = some 1921 by decide, Option.bind_some, if_neg (by decide), if_neg (by decide), if_pos (by decide), if_pos (isK_t hg rfl), he k2, Option.bind_some, if_pos (show txV (sgL 1) = txV [60, 61] from rfl), if_neg (by decide), Option.bind_some, if_neg (by decide), if_pos (by decide)]
      unfold sgH
      by_cases l : P < Q
      · rw [if_pos l, if_neg (by decide)]; simp [lt1 l]
      · rw [if_neg l]
        by_cases e : P = Q
        · rw [if_pos e, if_neg (by decide)]; simp [e]
        · have g2 : Q < P := Int64.lt_of_le_of_ne (Int64.not_lt.mp l) (fun v => e v.symm)
          rw [if_neg e, if_pos (by decide)]; simp [g2]
    · rw [show hsh (txV (sgL 2)) 0 = some 61 by decide, Option.bind_some, if_neg (by decide), if_pos (by decide), if_pos (isK_t hg rfl), he k3, Option.bind_some, if_pos (show txV (sgL 2) = txV [61] from rfl), if_neg (by decide), Option.bind_some, if_neg (by decide), if_neg (by decide), if_pos (by decide)]
      unfold sgH
      by_cases l : P < Q
      · have e : P ≠ Q := fun v => by rw [v] at l; exact Int64.lt_irrefl l
        rw [if_pos l, if_neg (by decide)]; simp [e]
      · rw [if_neg l]
        by_cases e : P = Q
        · rw [if_pos e, if_pos rfl]; simp [e]
        · rw [if_neg e, if_neg (by decide)]; simp [e]
    · rw [show hsh (txV (sgL 3)) 0 = some 1983 by decide, Option.bind_some, if_neg (by decide), if_neg (by decide), if_neg (by decide), if_pos (by decide), if_pos (isK_t hg rfl), he k4, Option.bind_some, if_pos (show txV (sgL 3) = txV [62, 61] from rfl), if_neg (by decide), Option.bind_some, if_neg (by decide), if_neg (by decide), if_neg (by decide), if_pos (by decide)]
      unfold sgH
      by_cases l : P < Q
      · rw [if_pos l, if_pos (by decide)]; simp [l]
      · rw [if_neg l]
        by_cases e : P = Q
        · rw [if_pos e, if_neg (by decide)]; simp [l]
        · rw [if_neg e, if_neg (by decide)]; simp [l]
    · rw [show hsh (txV (sgL 4)) 0 = some 62 by decide, Option.bind_some, if_neg (by decide), if_neg (by decide), if_neg (by decide), if_neg (by decide), Option.bind_some, if_neg (by decide), if_neg (by decide), if_neg (by decide), if_neg (by decide)]
      unfold sgH
      by_cases l : P < Q
      · rw [if_pos l, if_neg (by decide)]; simp [lt1 l]
      · rw [if_neg l]
        by_cases e : P = Q
        · have n : ¬ Q < P := fun v => by rw [e] at v; exact Int64.lt_irrefl v
          rw [if_pos e, if_neg (by decide)]; simp [n]
        · have g2 : Q < P := Int64.lt_of_le_of_ne (Int64.not_lt.mp l) (fun v => e v.symm)
          rw [if_neg e, if_pos (by decide)]; simp [g2]
end
