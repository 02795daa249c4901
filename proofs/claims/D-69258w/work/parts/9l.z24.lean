/-! the house: a second's switches -/
section
variable {s s' : CS} {own own' : Nat → Nat} {t T : TS} {K N : Nat} {p9 : lHeap → TS → Prop}
/-- what the lines bring to their points -/
def swU (t : TS) (nr n5 : Nat) : Nat → TS
  | 0 => t
  | k + 1 => if vO t k n5 = -2 then swU t nr n5 k else wrI (swU t nr n5 k) 99 (nr + k) (vO t k n5)
theorem swU_a (nr n5 k : Nat) : (swU t nr n5 k).1 = t.1 ∧ (swU t nr n5 k).2.1 = t.2.1 ∧ (∀ c, c ≠ 99 → (swU t nr n5 k).2.2.1 c = t.2.2.1 c) ∧ (swU t nr n5 k).2.2.2 = t.2.2.2 ∧ ∀ i, (swU t nr n5 k).2.2.1 99 i = if nr ≤ i ∧ i < nr + k ∧ vO t (i - nr) n5 ≠ -2 then vO t (i - nr) n5 else t.2.2.1 99 i := by
  induction k with
  | zero => exact ⟨rfl, rfl, fun _ _ => rfl, rfl, fun i => by rw [if_neg (by omega)]; rfl⟩
  | succ k ih =>
    obtain ⟨i1, i2, i3, i4, i5⟩ := ih
    unfold swU
    by_cases z : vO t k n5 = -2
    · rw [if_pos z]
      refine ⟨i1, i2, i3, i4, fun i => ?_⟩
      rw [i5 i]
      by_cases y : nr ≤ i ∧ i < nr + k ∧ vO t (i - nr) n5 ≠ -2
      · rw [if_pos y, if_pos ⟨y.1, by omega, y.2.2⟩]
      · rw [if_neg y, if_neg (fun w => y ⟨w.1, ?_, w.2.2⟩)]
        by_cases u : i = nr + k
        · exfalso
          have := w.2.2
          rw [u, show nr + k - nr = k by omega] at this
          exact this z
        · omega
    · rw [if_neg z]
      refine ⟨i1, i2, fun c hc => funext fun j => (wr_ne hc j).trans (congrFun (i3 c hc) j), i4, fun i => ?_⟩
      rw [wr_at]
      by_cases u : i = nr + k
      · rw [if_pos ⟨rfl, u⟩, if_pos ⟨by omega, by omega, by rw [u, show nr + k - nr = k by omega]; exact z⟩, u, show nr + k - nr = k by omega]
      · rw [if_neg (fun w => u w.2), i5 i]
        by_cases y : nr ≤ i ∧ i < nr + k ∧ vO t (i - nr) n5 ≠ -2
        · rw [if_pos y, if_pos ⟨y.1, by omega, y.2.2⟩]
        · rw [if_neg y, if_neg (fun w => y ⟨w.1, by omega, w.2.2⟩)]
theorem vO_cg {U : TS} (h1 : U.2.2.1 137 = t.2.2.1 137) (h2 : U.2.2.1 131 = t.2.2.1 131) (j : Nat) : ∀ n, vO U j n = vO t j n
  | 0 => rfl
  | n + 1 => by
    unfold vO
    rw [h1, h2, vO_cg h1 h2 j n]
theorem clp_ref (x : Int32) : (if x < 0 then some (0 : Int32) else (if 100 < x then some 100 else some x)) = some (clp x) := by
  unfold clp
  have e1 : (100 : Int32).toInt = 100 := rfl
  have e0 : (0 : Int32).toInt = 0 := rfl
  by_cases a : x < 100
  · rw [if_pos a]
    rw [Int32.lt_iff_toInt_lt, e1] at a
    by_cases b : x < 0
    · have b' := b
      rw [Int32.lt_iff_toInt_lt, e0] at b'
      rw [if_pos b, if_neg (by rw [Int32.lt_iff_toInt_lt, e0]; omega)]
    · have b' := b
      rw [Int32.lt_iff_toInt_lt, e0] at b'
      rw [if_neg b, if_neg (by rw [Int32.lt_iff_toInt_lt, e1]; omega)]
      by_cases d : 0 < x
      · rw [if_pos d]
      · rw [if_neg d]
        rw [Int32.lt_iff_toInt_lt, e0] at d
        have : x = 0 := Int32.toInt_inj.mp (by rw [e0]; omega)
        rw [this]
  · rw [if_neg a, if_pos (show (0 : Int32) < 100 by decide)]
    have a' := a
    rw [Int32.lt_iff_toInt_lt, e1] at a'
    rw [if_neg (by rw [Int32.lt_iff_toInt_lt, e0]; omega)]
    by_cases d : 100 < x
    · rw [if_pos d]
    · rw [if_neg d]
      rw [Int32.lt_iff_toInt_lt, e1] at d
      have : x = 100 := Int32.toInt_inj.mp (by rw [e1]; omega)
      rw [this]
theorem clp_n (x : Int32) : clp x ≠ -2 := by
  unfold clp
  intro h
  by_cases a : x < 100
  · rw [if_pos a] at h
    by_cases b : 0 < x
    · rw [if_pos b] at h
      rw [h] at b
      exact absurd b (by decide)
    · rw [if_neg b] at h
      exact absurd h (by decide)
  · rw [if_neg a, if_pos (by decide)] at h
    exact absurd h (by decide)
/-- the reference goes by blocks -/
theorem t_sw {nr n5 : Nat} (h9 : t.1 9 = Int32.ofNat nr) (hnr : nr ≤ 40) (h4 : t.1 400 = Int32.ofNat n5) (h40 : n5 ≤ 40) (hb : B137 t) : wh (S := TS × Int32) (X := TS) (fun p27 => (if p27.2 < (p27.1.1 400) then Option.bind (rdI p27.1 137 40 p27.2) (fun x3 => Option.bind ((if 0 < x3 then Option.bind (rdI p27.1 131 40 p27.2) (fun x4 => Option.bind (rdI p27.1 137 40 p27.2) (fun x5 => Option.bind ((if x4 < 0 then some 0 else (if 100 < x4 then some 100 else some x4))) (fun v67 => Option.bind (stI p27.1 99 50 (((p27.1.1 9) + x5) - 1) v67) (fun s6 => some s6)))) else some p27.1)) (fun v68 => some (.inl (v68, p27.2 + 1)))) else some (.inr p27.1))) (t, 0) = some (swU t nr n5 10) := by
  have key : Tr (wh (S := TS × Int32) (X := TS) (fun p27 => (if p27.2 < (p27.1.1 400) then Option.bind (rdI p27.1 137 40 p27.2) (fun x3 => Option.bind ((if 0 < x3 then Option.bind (rdI p27.1 131 40 p27.2) (fun x4 => Option.bind (rdI p27.1 137 40 p27.2) (fun x5 => Option.bind ((if x4 < 0 then some 0 else (if 100 < x4 then some 100 else some x4))) (fun v67 => Option.bind (stI p27.1 99 50 (((p27.1.1 9) + x5) - 1) v67) (fun s6 => some s6)))) else some p27.1)) (fun v68 => some (.inl (v68, p27.2 + 1)))) else some (.inr p27.1))) (t, 0)) (fun T => T.1 = t.1 ∧ T.2.1 = t.2.1 ∧ (∀ c, c ≠ 99 → T.2.2.1 c = t.2.2.1 c) ∧ T.2.2.2 = t.2.2.2 ∧ ∀ i, T.2.2.1 99 i = if nr ≤ i ∧ i < nr + 10 ∧ vO t (i - nr) n5 ≠ -2 then vO t (i - nr) n5 else t.2.2.1 99 i) := by
    refine wh_cnt n5 (fun k a => a.2 = Int32.ofNat k ∧ a.1.1 = t.1 ∧ a.1.2.1 = t.2.1 ∧ (∀ c, c ≠ 99 → a.1.2.2.1 c = t.2.2.1 c) ∧ a.1.2.2.2 = t.2.2.2 ∧ ∀ i, a.1.2.2.1 99 i = if nr ≤ i ∧ i < nr + 10 ∧ vO t (i - nr) k ≠ -2 then vO t (i - nr) k else t.2.2.1 99 i) ?_ ?_ ⟨rfl, rfl, rfl, fun _ _ => rfl, rfl, fun i => by rw [if_neg (fun w => w.2.2 rfl)]⟩
    · rintro k ⟨U, _⟩ hk ⟨rfl, u1, u2, u3, u4, u5⟩
      right
      dsimp only at u1 u2 u3 u4 u5 ⊢
      obtain ⟨v, hv, ev⟩ := hb k (by omega)
      rw [u1, h4, if_pos ((i_lt (by omega) (by omega)).mpr hk), rdI_n (by omega) (by omega), u3 137 (by omega), ev, Option.bind_some, h9]
      by_cases z : v = 0
      · subst z
        rw [if_neg (by decide), Option.bind_some, i_suc]
        refine ⟨_, rfl, rfl, u1, u2, u3, u4, fun i => ?_⟩
        dsimp only
        have e : ∀ j, j < 10 → vO t j (k + 1) = vO t j k := fun j hj => by
          show (if t.2.2.1 137 k - 1 = Int32.ofNat j then clp (t.2.2.1 131 k) else vO t j k) = _
          rw [ev, if_neg]
          intro w
          have := i_nlt0 (show j < 2147483648 by omega)
          rw [← w] at this
          exact this (by decide)
        rw [u5 i]
        by_cases y : nr ≤ i ∧ i < nr + 10
        · rw [e (i - nr) (by omega)]
        · rw [if_neg (fun w => y ⟨w.1, w.2.1⟩), if_neg (fun w => y ⟨w.1, w.2.1⟩)]
      · rw [if_pos (show (0 : Int32) < Int32.ofNat v from (i_lt (j := 0) (k := v) (by omega) (by omega)).mpr (by omega)), rdI_n (by omega) (by omega), u3 131 (by omega), Option.bind_some, Option.bind_some, clp_ref, Option.bind_some, show Int32.ofNat nr + Int32.ofNat v - 1 = Int32.ofNat (nr + (v - 1)) from ?_, stI_n (by omega) (by omega), Option.bind_some, Option.bind_some, i_suc]
        · refine ⟨_, rfl, rfl, u1, u2, fun c hc => funext fun j => (wr_ne hc j).trans (congrFun (u3 c hc) j), u4, fun i => ?_⟩
          have e : ∀ j, j < 10 → vO t j (k + 1) = if j = v - 1 then clp (t.2.2.1 131 k) else vO t j k := fun j hj => by
            show (if t.2.2.1 137 k - 1 = Int32.ofNat j then clp (t.2.2.1 131 k) else vO t j k) = _
            rw [ev, show Int32.ofNat v - 1 = Int32.ofNat (v - 1) from i_sub (k := 1) (by omega)]
            by_cases y : j = v - 1
            · rw [if_pos y, if_pos (by rw [y])]
            · rw [if_neg y, if_neg (fun w => y ((i_inj (by omega) (by omega)).mp w).symm)]
          dsimp only
          rw [wr_at, u5 i]
          by_cases y : nr ≤ i ∧ i < nr + 10
          · rw [e (i - nr) (by omega)]
            by_cases x : i = nr + (v - 1)
            · rw [if_pos ⟨rfl, x⟩, if_pos (show i - nr = v - 1 by omega), if_pos ⟨y.1, y.2, clp_n _⟩]
            · rw [if_neg (fun w => x w.2), if_neg (show ¬ i - nr = v - 1 by omega)]
          · rw [if_neg (fun w => y (by omega)), if_neg (fun w => y ⟨w.1, w.2.1⟩), if_neg (fun w => y ⟨w.1, w.2.1⟩)]
        · rw [i_add, show (1 : Int32) = Int32.ofNat 1 from rfl, i_sub (by omega), show nr + v - 1 = nr + (v - 1) by omega]
    · rintro ⟨U, _⟩ ⟨rfl, u1, u2, u3, u4, u5⟩
      dsimp only at u1 u2 u3 u4 u5 ⊢
      exact ⟨U, by rw [u1, h4, if_neg (by rw [i_lt (by omega) (by omega)]; omega)], u1, u2, u3, u4, u5⟩
  obtain ⟨T, e1, e2, e3, e4, e5, e6⟩ := key
  rw [e1]
  obtain ⟨f1, f2, f3, f4, f5⟩ := swU_a (t := t) nr n5 10
  congr 1
  refine Prod.ext (e2.trans f1.symm) (Prod.ext (e3.trans f2.symm) (Prod.ext (funext fun c => ?_) (e5.trans f4.symm)))
  by_cases z : c = 99
  · subst z
    funext i
    rw [e6 i, f5 i]
  · rw [e4 c z, f3 c z]
end
