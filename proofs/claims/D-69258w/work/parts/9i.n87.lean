/-! the plan's readers: ways: doors in sides; the reference lowers numbers -/
section
variable {s : CS} {t T U : TS} {L : PLn} {nl nr : Nat} {st ln : Nat → Nat} {lab : Int → Int → Int} {nm : Nat → Int32} {nd : Nat → Nat}
/-- a door lies in a side -/
def dIn (T : TS) (L : PLn) (nl q i : Nat) : Prop := ∃ a b : Nat, T.2.2.1 55 (6 * kL L nl (q / 2) + i) = Int32.ofNat a ∧ T.2.2.1 56 (6 * kL L nl (q / 2) + i) = Int32.ofNat b ∧ a < 100 ∧ b < 100 ∧ max (kAn L nl (q / 2)) a < min (kB L nl (q / 2)) b
def hsD (T : TS) (L : PLn) (nl q n : Nat) : Prop := ∃ i, i < n ∧ dIn T L nl q i
/-- the doors' rows -/
def drR (T : TS) (L : PLn) (nl : Nat) (nd : Nat → Nat) : Prop := ∀ l, l < nl → T.2.2.1 50 l = Int32.ofNat (pX L l) ∧ T.2.2.1 51 l = Int32.ofNat (pY L l) ∧ T.2.2.1 54 l = Int32.ofNat (nd l) ∧ nd l ≤ 6 ∧ ∀ i, i < nd l → ∃ a b : Nat, T.2.2.1 55 (6 * l + i) = Int32.ofNat a ∧ T.2.2.1 56 (6 * l + i) = Int32.ofNat b ∧ a < 100 ∧ b < 100
theorem t_shr {a b c d : Nat} (ha : a < 1000) (hb : b < 1000) (hc : c < 1000) (hd : d < 1000) : t_706 (Int32.ofNat a) (Int32.ofNat b) (Int32.ofNat c) (Int32.ofNat d) T = some (Int32.ofNat (min b d - max a c)) := by
  unfold t_706
  have e1 : (if Int32.ofNat c < Int32.ofNat a then some (Int32.ofNat a) else some (Int32.ofNat c)) = some (Int32.ofNat (max a c)) := by
    by_cases z : c < a
    · rw [if_pos ((i_lt (by omega) (by omega)).mpr z), Nat.max_eq_left (by omega)]
    · rw [if_neg (fun w => z ((i_lt (by omega) (by omega)).mp w)), Nat.max_eq_right (by omega)]
  have e2 : (if Int32.ofNat b < Int32.ofNat d then some (Int32.ofNat b) else some (Int32.ofNat d)) = some (Int32.ofNat (min b d)) := by
    by_cases z : b < d
    · rw [if_pos ((i_lt (by omega) (by omega)).mpr z), Nat.min_eq_left (by omega)]
    · rw [if_neg (fun w => z ((i_lt (by omega) (by omega)).mp w)), Nat.min_eq_right (by omega)]
  rw [e1, Option.bind_some, e2, Option.bind_some]
  by_cases z : max a c < min b d
  · rw [if_pos ((i_lt (by omega) (by omega)).mpr z), i_sub (by omega)]
  · rw [if_neg (fun w => z ((i_lt (by omega) (by omega)).mp w)), show min b d - max a c = 0 by omega]
    rfl
theorem t_hasD (F : FT T L nl nr st ln lab nm) (h : drR T L nl nd) {q : Nat} (hq : q < 2 * nP L nl) : ∃ v, t_721 (Int32.ofNat q) T = some v ∧ ((v = 0 ∧ ¬ hsD T L nl q (nd (kL L nl (q / 2)))) ∨ (v = 1 ∧ hsD T L nl q (nd (kL L nl (q / 2))))) := by
  have hle := FT_le F
  obtain ⟨ps, tg⟩ := F.2.2.2.2.1
  have n20 := F.1.1
  obtain ⟨k1, k2, k3, k4, k5, _⟩ := k_in (show q / 2 < nP L nl by omega)
  obtain ⟨p1, a, b, h1, h2, h3, h4, h5, h6⟩ := tg.1.2.2.2.2.2 (q / 2) (by omega)
  have pl := TPl_len F.1 tg.1
  have bl := a_lt F.1 k1 (show kAn L nl (q / 2) ≤ pN L (kL L nl (q / 2)) by omega)
  have bh := a_lt F.1 k1 k3
  have lN : kB L nl (q / 2) ≤ 24 := by
    unfold aX aY at bh
    by_cases w : pFl L (kL L nl (q / 2)) = true
    · rw [if_pos w, if_pos w] at bh; omega
    · rw [if_neg w, if_neg w] at bh; omega
  have e1 : ps.getD a 0 / 25 = aX L (kL L nl (q / 2)) (kAn L nl (q / 2)) := by rw [h3]; unfold qA; omega
  have e2 : ps.getD a 0 % 25 = aY L (kL L nl (q / 2)) (kAn L nl (q / 2)) := by rw [h3]; unfold qA; omega
  obtain ⟨g0, g1, g4, g5, g6⟩ := h _ k1
  have y1 := tg.1.2.2.1.2 a h1
  have off : ((Int32.ofNat (aX L (kL L nl (q / 2)) (kAn L nl (q / 2))) - Int32.ofNat (pX L (kL L nl (q / 2)))) + Int32.ofNat (aY L (kL L nl (q / 2)) (kAn L nl (q / 2)))) - Int32.ofNat (pY L (kL L nl (q / 2))) = Int32.ofNat (kAn L nl (q / 2)) := by
    rw [← i_ofI, ← i_ofI, ← i_ofI, ← i_ofI, ← i_ofI, i_subI, i_addI, i_subI]
    congr 1
    unfold aX aY
    by_cases w : pFl L (kL L nl (q / 2)) = true
    · rw [if_pos w, if_pos w]; omega
    · rw [if_neg w, if_neg w]; omega
  unfold t_721
  rw [i_half (by omega), rdI_n (by omega) (by decide), p1, Option.bind_some, rdI_n (by omega) (by decide), h5, Option.bind_some, rdI_n (by omega) (by decide), y1.1, e1, Option.bind_some, rdI_n (by omega) (by decide), g0, Option.bind_some, rdI_n (by omega) (by decide), y1.2, e2, Option.bind_some, rdI_n (by omega) (by decide), g1, Option.bind_some, i_mulL, off]
  have key : ∀ X : Option Int32, Tr X (fun v => (v = 0 ∧ ¬ hsD T L nl q (nd (kL L nl (q / 2)))) ∨ (v = 1 ∧ hsD T L nl q (nd (kL L nl (q / 2))))) → ∃ v, Option.bind X (fun v74 => (if v74 = 0 ∨ v74 = 1 then some v74 else none)) = some v ∧ ((v = 0 ∧ ¬ hsD T L nl q (nd (kL L nl (q / 2)))) ∨ (v = 1 ∧ hsD T L nl q (nd (kL L nl (q / 2))))) := by
    rintro X ⟨x, rfl, hx⟩
    refine ⟨x, ?_, hx⟩
    rw [Option.bind_some, if_pos (by rcases hx with ⟨z, _⟩ | ⟨z, _⟩; exact Or.inl z; exact Or.inr z)]
  refine key _ ?_
  refine wh_cnt (nd (kL L nl (q / 2))) (fun n (x : Int32 × Int32) => x.2 = Int32.ofNat (6 * kL L nl (q / 2) + n) ∧ ((x.1 = 0 ∧ ¬ hsD T L nl q n) ∨ (x.1 = 1 ∧ hsD T L nl q n))) ?_ ?_ ⟨rfl, Or.inl ⟨rfl, fun ⟨i, hi, _⟩ => absurd hi (Nat.not_lt_zero _)⟩⟩
  · rintro n ⟨v, _⟩ hn ⟨rfl, hv⟩
    right
    dsimp only at hv ⊢
    obtain ⟨da, db, d1, d2, d3, d4⟩ := g6 n hn
    rw [rdI_n (by omega) (by decide), g4, Option.bind_some, i_add, if_pos ((i_lt (by omega) (by omega)).mpr (by omega)), i_suc]
    rcases hv with ⟨rfl, hv⟩ | ⟨rfl, hv⟩
    · rw [if_pos rfl, t_len F.1 tg.1 hq, Option.bind_some, rdI_n (by omega) (by decide), d1, Option.bind_some, rdI_n (by omega) (by decide), d2, Option.bind_some, i_add, show kAn L nl (q / 2) + (kB L nl (q / 2) - kAn L nl (q / 2)) = kB L nl (q / 2) by omega, t_shr (by omega) (by omega) (by omega) (by omega), Option.bind_some]
      by_cases w : max (kAn L nl (q / 2)) da < min (kB L nl (q / 2)) db
      · rw [if_pos (show (0 : Int32) < Int32.ofNat (min (kB L nl (q / 2)) db - max (kAn L nl (q / 2)) da) from (i_lt (j := 0) (by omega) (by omega)).mpr (by omega)), Option.bind_some]
        exact ⟨_, rfl, rfl, Or.inr ⟨rfl, n, by omega, da, db, d1, d2, d3, d4, w⟩⟩
      · rw [if_neg (show ¬ (0 : Int32) < Int32.ofNat (min (kB L nl (q / 2)) db - max (kAn L nl (q / 2)) da) from fun z => by have := (i_lt (j := 0) (by omega) (by omega)).mp z; omega), Option.bind_some]
        refine ⟨_, rfl, rfl, Or.inl ⟨rfl, ?_⟩⟩
        rintro ⟨i, hi, a', b', x1, x2, x3, x4, x5⟩
        by_cases y : i = n
        · rw [y] at x1 x2
          have z1 := (i_inj (by omega) (by omega)).mp (d1.symm.trans x1)
          have z2 := (i_inj (by omega) (by omega)).mp (d2.symm.trans x2)
          omega
        · exact hv ⟨i, by omega, a', b', x1, x2, x3, x4, x5⟩
    · rw [if_neg (show ¬ (1 : Int32) = 0 by decide), Option.bind_some]
      obtain ⟨i, hi, x⟩ := hv
      exact ⟨_, rfl, rfl, Or.inr ⟨rfl, i, by omega, x⟩⟩
  · rintro ⟨v, _⟩ ⟨rfl, hv⟩
    dsimp only at hv ⊢
    rw [rdI_n (by omega) (by decide), g4, Option.bind_some, i_add, if_neg (fun z => by have := (i_lt (by omega) (by omega)).mp z; omega)]
    exact ⟨_, rfl, hv⟩
/-- a door leads from space to space (numbers from 1 on, the outside 0) -/
def adW (T : TS) (L : PLn) (nl : Nat) (lab : Int → Int → Int) (nd : Nat → Nat) (c b : Nat) : Prop := ∃ q, q < 2 * nP L nl ∧ gLL (gS L nl) lab q = (b : Int) - 1 ∧ gLL (gS L nl) lab (bkS q) = (c : Int) - 1 ∧ hsD T L nl q (nd (kL L nl (q / 2)))
/-- numbers being lowered: 1000 for none -/
def lwW (t T : TS) (L : PLn) (nl : Nat) (lab : Int → Int → Int) (nd : Nat → Nat) (N a : Nat) (D : Nat → Nat) : Prop := agr [] [75] t T ∧ (∀ i, i ≤ N → T.2.2.1 75 i = Int32.ofNat (D i) ∧ D i ≤ 1000) ∧ (∀ i, i ≤ N → D i ≠ 1000 → rcW (fun c => c = a) (adW t L nl lab nd) (D i + 1) i) ∧ D a = 0 ∧ ∀ i, i ≤ N → D i ≠ 1000 → D i + 1 ≤ ctB (fun j => decide (D j ≠ 1000)) (N + 1)
/-- nothing is to be lowered through a side -/
def stW (t : TS) (L : PLn) (nl : Nat) (lab : Int → Int → Int) (nd : Nat → Nat) (D : Nat → Nat) (q : Nat) : Prop := hsD t L nl q (nd (kL L nl (q / 2))) → ∀ b c : Nat, gLL (gS L nl) lab q = (b : Int) - 1 → gLL (gS L nl) lab (bkS q) = (c : Int) - 1 → D c ≤ D b + 1
theorem hsD_c {q n : Nat} (a : agr [] [75] t T) : hsD T L nl q n ↔ hsD t L nl q n := by
  unfold hsD dIn
  rw [a.2.2.1 55 (by simp), a.2.2.1 56 (by simp)]
theorem FT_75 (F : FT t L nl nr st ln lab nm) (a : agr [] [75] t T) : FT T L nl nr st ln lab nm := FT_cg2 F a (by simp) (by simp) (by simp) (fun l _ => by rw [a.2.2.1 52 (by simp)])
theorem drR_75 (h : drR t L nl nd) (a : agr [] [75] t T) : drR T L nl nd := by
  unfold drR
  rw [a.2.2.1 50 (by simp), a.2.2.1 51 (by simp), a.2.2.1 54 (by simp), a.2.2.1 55 (by simp), a.2.2.1 56 (by simp)]
  exact h
end
