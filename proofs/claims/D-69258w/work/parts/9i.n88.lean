/-! the plan's readers: ways, the reference whole -/
section
variable {t T U : TS} {L : PLn} {nl nr : Nat} {st ln : Nat → Nat} {lab : Int → Int → Int} {nm : Nat → Int32} {nd : Nat → Nat} {a : Nat} {D : Nat → Nat}
theorem LL_i (F : FT t L nl nr st ln lab nm) (q : Nat) : ∃ b, b ≤ spn L nl st ln nr ∧ gLL (gS L nl) lab q = (b : Int) - 1 ∧ Int32.ofInt (gLL (gS L nl) lab q) + 1 = Int32.ofNat b := by
  obtain ⟨i, hi, ei⟩ : ∃ i, i ≤ spn L nl st ln nr ∧ gLL (gS L nl) lab q = (i : Int) - 1 := by
    rcases LL_lt F q with h | ⟨n, h, hn⟩
    · exact ⟨0, by omega, by omega⟩
    · exact ⟨n + 1, by omega, by omega⟩
  refine ⟨i, hi, ei, ?_⟩
  rw [ei, show (1 : Int32) = Int32.ofInt 1 from rfl, i_addI, ← i_ofI]
  congr 1; omega
theorem lw_side (F : FT t L nl nr st ln lab nm) (hd : drR t L nl nd) (h : lwW t T L nl lab nd (spn L nl st ln nr) a D) {q : Nat} (hq : q < 2 * nP L nl) (ch : Int32) : ∃ T' ch' D', Option.bind (t_721 (Int32.ofNat q) T) (fun x2 => Option.bind ((if x2 = 0 then some (T, ch) else Option.bind (t_702 (Int32.ofNat q) T) (fun x3 => Option.bind (rdI T 75 401 (x3 + 1)) (fun x4 => Option.bind (t_712 (Int32.ofNat q) T) (fun x5 => Option.bind (rdI T 75 401 (x5 + 1)) (fun x6 => (if (x4 + 1) < x6 then Option.bind (t_712 (Int32.ofNat q) T) (fun x7 => Option.bind (t_702 (Int32.ofNat q) T) (fun x8 => Option.bind (rdI T 75 401 (x8 + 1)) (fun x9 => Option.bind (stI T 75 401 (x7 + 1) (x9 + 1)) (fun s10 => some (s10, 1))))) else some (T, ch)))))))) (fun v77 => (some (.inl (v77.1, v77.2, Int32.ofNat q + 1)) : Option (Sum (TS × Int32 × Int32) (TS × Int32))))) = some (.inl (T', ch', Int32.ofNat (q + 1))) ∧ lwW t T' L nl lab nd (spn L nl st ln nr) a D' ∧ ((T' = T ∧ ch' = ch ∧ D' = D ∧ stW t L nl lab nd D q) ∨ (ch' = 1 ∧ ∃ c, c ≤ spn L nl st ln nr ∧ D' c < D c ∧ ∀ i, i ≠ c → D' i = D i)) := by
  have hle := FT_le F
  obtain ⟨h1, h2, h3, h4, h5⟩ := h
  have FT' := FT_75 F h1
  obtain ⟨v, e1, e2⟩ := t_hasD FT' (drR_75 hd h1) hq
  obtain ⟨b, b1, b2, b3⟩ := LL_i F q
  obtain ⟨c, c1, c2, c3⟩ := LL_i F (bkS q)
  rw [e1, Option.bind_some, t_lf FT' hq, t_rt FT' hq]
  rcases e2 with ⟨rfl, e2⟩ | ⟨rfl, e2⟩
  · rw [if_pos rfl, Option.bind_some, i_suc]
    exact ⟨T, ch, D, rfl, ⟨h1, h2, h3, h4, h5⟩, Or.inl ⟨rfl, rfl, rfl, fun w => absurd ((hsD_c h1).mpr w) e2⟩⟩
  · obtain ⟨y1, y2⟩ := h2 b b1
    obtain ⟨z1, z2⟩ := h2 c c1
    rw [if_neg (show ¬ (1 : Int32) = 0 by decide), Option.bind_some, b3, rdI_n (by omega) (by decide), y1, Option.bind_some, Option.bind_some, c3, rdI_n (by omega) (by decide), z1, Option.bind_some, i_suc, i_suc]
    by_cases w : D b + 1 < D c
    · rw [if_pos ((i_lt (by omega) (by omega)).mpr w), Option.bind_some, Option.bind_some, b3, rdI_n (by omega) (by decide), y1, Option.bind_some, c3, i_suc, stI_n (by omega) (by decide), Option.bind_some, Option.bind_some]
      refine ⟨_, _, fun i => if i = c then D b + 1 else D i, rfl, ⟨agr_w h1 (by simp), fun i hi => ?_, fun i hi hn => ?_, ?_, ?_⟩, Or.inr ⟨rfl, c, c1, by dsimp only; rw [if_pos rfl]; exact w, fun i hi => if_neg hi⟩⟩
      · rw [wr_at]
        dsimp only
        by_cases z : i = c
        · rw [if_pos ⟨rfl, z⟩, if_pos z]
          exact ⟨rfl, by omega⟩
        · rw [if_neg (fun e => z e.2), if_neg z]
          exact h2 i hi
      · dsimp only at hn ⊢
        by_cases z : i = c
        · rw [if_pos z, z]
          exact Or.inr ⟨b, ⟨q, hq, b2, c2, (hsD_c h1).mp e2⟩, h3 b b1 (by omega)⟩
        · rw [if_neg z] at hn ⊢
          exact h3 i hi hn
      · dsimp only
        rw [if_neg (fun z => by rw [← z] at w; omega)]
        exact h4
      · have hb5 := h5 b b1 (by omega)
        by_cases y : D c = 1000
        · have lt : ctB (fun j => decide (D j ≠ 1000)) (spn L nl st ln nr + 1) < ctB (fun j => decide ((if j = c then D b + 1 else D j) ≠ 1000)) (spn L nl st ln nr + 1) := by
            refine ctB_lt (k := c) (by omega) (by rw [if_pos rfl]; exact decide_eq_true (by omega)) (decide_eq_false (fun z => z y)) (fun j hj => ?_)
            by_cases z : j = c
            · rw [if_pos z]; exact decide_eq_true (by omega)
            · rw [if_neg z]; exact hj
          intro i hi hn
          dsimp only at hn ⊢
          by_cases z : i = c
          · rw [if_pos z]; omega
          · rw [if_neg z] at hn ⊢
            have := h5 i hi hn
            omega
        · have eq : ctB (fun j => decide ((if j = c then D b + 1 else D j) ≠ 1000)) (spn L nl st ln nr + 1) = ctB (fun j => decide (D j ≠ 1000)) (spn L nl st ln nr + 1) := by
            refine ctB_cg (fun j hj => ?_)
            by_cases z : j = c
            · rw [if_pos z, z, decide_eq_true y]; exact decide_eq_true (by omega)
            · rw [if_neg z]
          rw [eq]
          intro i hi hn
          dsimp only at hn ⊢
          by_cases z : i = c
          · rw [if_pos z]
            have := h5 c c1 y
            omega
          · rw [if_neg z] at hn ⊢
            exact h5 i hi hn
    · rw [if_neg (fun z => w ((i_lt (by omega) (by omega)).mp z)), Option.bind_some]
      refine ⟨T, ch, D, rfl, ⟨h1, h2, h3, h4, h5⟩, Or.inl ⟨rfl, rfl, rfl, fun _ b' c' x1 x2 => ?_⟩⟩
      rw [show b' = b by omega, show c' = c by omega]
      omega
/-- one pass over all sides -/
theorem lw_pass (F : FT t L nl nr st ln lab nm) (hd : drR t L nl nd) (h : lwW t T L nl lab nd (spn L nl st ln nr) a D) : Tr (wh (S := TS × Int32 × Int32) (X := TS × Int32) (fun p28 => (if p28.2.2 < (2 * (p28.1.1 130)) then Option.bind (t_721 p28.2.2 p28.1) (fun x2 => Option.bind ((if x2 = 0 then some (p28.1, p28.2.1) else Option.bind (t_702 p28.2.2 p28.1) (fun x3 => Option.bind (rdI p28.1 75 401 (x3 + 1)) (fun x4 => Option.bind (t_712 p28.2.2 p28.1) (fun x5 => Option.bind (rdI p28.1 75 401 (x5 + 1)) (fun x6 => (if (x4 + 1) < x6 then Option.bind (t_712 p28.2.2 p28.1) (fun x7 => Option.bind (t_702 p28.2.2 p28.1) (fun x8 => Option.bind (rdI p28.1 75 401 (x8 + 1)) (fun x9 => Option.bind (stI p28.1 75 401 (x7 + 1) (x9 + 1)) (fun s10 => some (s10, 1))))) else some (p28.1, p28.2.1)))))))) (fun v77 => some (.inl (v77.1, v77.2, p28.2.2 + 1)))) else some (.inr (p28.1, p28.2.1)))) (T, 0, 0)) (fun x => ∃ D', lwW t x.1 L nl lab nd (spn L nl st ln nr) a D' ∧ ((x.2 = 0 ∧ D' = D ∧ ∀ q, q < 2 * nP L nl → stW t L nl lab nd D q) ∨ (x.2 = 1 ∧ smN D' (spn L nl st ln nr + 1) < smN D (spn L nl st ln nr + 1)))) := by
  have hle := FT_le F
  refine wh_cnt (2 * nP L nl) (fun n (x : TS × Int32 × Int32) => x.2.2 = Int32.ofNat n ∧ ∃ D', lwW t x.1 L nl lab nd (spn L nl st ln nr) a D' ∧ ((x.2.1 = 0 ∧ D' = D ∧ ∀ q, q < n → stW t L nl lab nd D q) ∨ (x.2.1 = 1 ∧ smN D' (spn L nl st ln nr + 1) < smN D (spn L nl st ln nr + 1)))) ?_ ?_ ⟨rfl, D, h, Or.inl ⟨rfl, rfl, fun q hq => absurd hq (Nat.not_lt_zero _)⟩⟩
  · rintro n ⟨U, ch, _⟩ hn ⟨rfl, D', h1, h2⟩
    right
    dsimp only at h1 h2 ⊢
    rw [h1.1.1 130 (by simp), FT_130 F, i_mulL, if_pos ((i_lt (by omega) (by omega)).mpr hn)]
    obtain ⟨T', ch', D2, e1, e2, e3⟩ := lw_side F hd h1 hn ch
    rw [e1]
    refine ⟨_, rfl, rfl, D2, e2, ?_⟩
    dsimp only
    rcases e3 with ⟨rfl, rfl, rfl, x4⟩ | ⟨rfl, c, x1, x2, x3⟩
    · rcases h2 with ⟨y1, rfl, y3⟩ | y
      · refine Or.inl ⟨y1, rfl, fun q hq => ?_⟩
        by_cases z : q = n
        · rw [z]; exact x4
        · exact y3 q (by omega)
      · exact Or.inr y
    · right
      refine ⟨rfl, ?_⟩
      have lt : smN D2 (spn L nl st ln nr + 1) < smN D' (spn L nl st ln nr + 1) := by
        refine smN_lt (k := c) (fun k _ => ?_) (by omega) x2
        by_cases z : k = c
        · rw [z]; omega
        · rw [x3 k z]; exact Nat.le_refl _
      rcases h2 with ⟨_, rfl, _⟩ | ⟨_, y⟩ <;> omega
  · rintro ⟨U, ch, _⟩ ⟨rfl, D', h1, h2⟩
    dsimp only at h1 h2 ⊢
    rw [h1.1.1 130 (by simp), FT_130 F, i_mulL, if_neg (fun z => by have := (i_lt (by omega) (by omega)).mp z; omega)]
    exact ⟨_, rfl, D', h1, h2⟩
/-- numbers from the least -/
def nfW (N : Nat) (D : Nat → Nat) (i : Nat) : Nat := if i ≤ N ∧ D i ≠ 1000 then D i + 1 else 0
theorem lw_fin (F : FT t L nl nr st ln lab nm) (ha : a ≤ spn L nl st ln nr) (h : lwW t T L nl lab nd (spn L nl st ln nr) a D) (hs : ∀ q, q < 2 * nP L nl → stW t L nl lab nd D q) : wnR (fun c => c = a) (adW t L nl lab nd) (nfW (spn L nl st ln nr) D) := by
  have hle := FT_le F
  obtain ⟨h1, h2, h3, h4, h5⟩ := h
  have nf : ∀ c, nfW (spn L nl st ln nr) D c = if c ≤ spn L nl st ln nr ∧ D c ≠ 1000 then D c + 1 else 0 := fun c => rfl
  refine ⟨fun c hc => ?_, fun c hc => ?_, fun c b hcb hb => ?_⟩
  · rw [nf] at hc ⊢
    by_cases z : c ≤ spn L nl st ln nr ∧ D c ≠ 1000
    · rw [if_pos z]; exact h3 c z.1 z.2
    · rw [if_neg z] at hc; exact absurd rfl hc
  · have hc : c = a := hc
    rw [hc, nf, if_pos ⟨ha, by rw [h4]; decide⟩, h4]
  · rw [nf] at hb ⊢
    rw [nf]
    by_cases z : b ≤ spn L nl st ln nr ∧ D b ≠ 1000
    · obtain ⟨q, q1, q2, q3, q4⟩ := hcb
      have := hs q q1 q4 b c q2 q3
      obtain ⟨c', c1, c2, _⟩ := LL_i F (bkS q)
      have e : c = c' := by omega
      have hD : D b ≤ 1000 := (h2 b z.1).2
      have hb5 := h5 b z.1 z.2
      have hb6 := ctB_le (fun j => decide (D j ≠ 1000)) (spn L nl st ln nr + 1)
      rw [if_pos z, if_pos ⟨by omega, by omega⟩]
      exact ⟨by omega, by omega⟩
    · rw [if_neg z] at hb; exact absurd rfl hb
theorem t_wayP (F : FT t L nl nr st ln lab nm) (hd : drR t L nl nd) {a i : Nat} (ha : a ≤ spn L nl st ln nr) (hi : i ≤ spn L nl st ln nr) {v1 v2 : Int32} (h1 : v1 + 1 = Int32.ofNat a) (h2 : v2 + 1 = Int32.ofNat i) : ∃ f T, wnR (fun c => c = a) (adW t L nl lab nd) f ∧ t_720 v1 v2 t = some (if f i = 0 then -2 else Int32.ofNat (f i - 1), T) ∧ agr [] [75] t T ∧ f i ≤ 500 := by
  have hle := FT_le F
  have first : Tr (wh (S := TS × Int32) (X := TS) (fun p2 => (if (p2.1.1 117) < p2.2 then some (.inr p2.1) else Option.bind ((if p2.2 = (v1 + 1) then some 0 else some 1000)) (fun v17 => Option.bind (stI p2.1 75 401 p2.2 v17) (fun s1 => some (.inl (s1, p2.2 + 1)))))) (t, 0)) (fun T => lwW t T L nl lab nd (spn L nl st ln nr) a (fun i => if i = a then 0 else 1000)) := by
    refine wh_cnt (spn L nl st ln nr + 1) (fun n (x : TS × Int32) => x.2 = Int32.ofNat n ∧ agr [] [75] t x.1 ∧ ∀ i, i < n → x.1.2.2.1 75 i = Int32.ofNat (if i = a then 0 else 1000)) ?_ ?_ ⟨rfl, agr_refl, fun i hi => absurd hi (Nat.not_lt_zero _)⟩
    · rintro n ⟨U, _⟩ hn ⟨rfl, u1, u2⟩
      right
      dsimp only at u1 u2 ⊢
      rw [u1.1 117 (by simp), FT_117 F, if_neg (fun z => by have := (i_lt (by omega) (by omega)).mp z; omega), h1]
      have e : (if Int32.ofNat n = Int32.ofNat a then some (0 : Int32) else some 1000) = some (Int32.ofNat (if n = a then 0 else 1000)) := by
        by_cases z : n = a
        · rw [if_pos (by rw [z]), if_pos z]; rfl
        · rw [if_neg (fun w => z ((i_inj (by omega) (by omega)).mp w)), if_neg z]; rfl
      rw [e, Option.bind_some, stI_n (by omega) (by decide), Option.bind_some, i_suc]
      refine ⟨_, rfl, rfl, agr_w u1 (by simp), fun i hi => ?_⟩
      dsimp only
      rw [wr_at]
      by_cases z : i = n
      · rw [if_pos ⟨rfl, z⟩, z]
      · rw [if_neg (fun w => z w.2)]
        exact u2 i (by omega)
    · rintro ⟨U, _⟩ ⟨rfl, u1, u2⟩
      dsimp only at u1 u2 ⊢
      rw [u1.1 117 (by simp), FT_117 F, if_pos ((i_lt (by omega) (by omega)).mpr (by omega))]
      refine ⟨_, rfl, u1, fun i hi => ⟨u2 i (by omega), by dsimp only; split <;> omega⟩, fun i hi hn => ?_, if_pos rfl, fun i hi hn => ?_⟩
      · dsimp only at hn ⊢
        by_cases z : i = a
        · rw [if_pos z, z]; exact Or.inl rfl
        · rw [if_neg z] at hn; exact absurd rfl hn
      · dsimp only at hn ⊢
        by_cases z : i = a
        · rw [if_pos z]
          have : 0 < ctB (fun j => decide ((if j = a then 0 else 1000) ≠ 1000)) (spn L nl st ln nr + 1) := Nat.lt_of_le_of_lt (Nat.zero_le (ctB (fun _ => false) (spn L nl st ln nr + 1))) (ctB_lt (k := a) (by omega) (by rw [if_pos rfl]; rfl) rfl (fun j hj => by cases hj))
          omega
        · rw [if_neg z] at hn; exact absurd rfl hn
  obtain ⟨T0, e0, l0⟩ := first
  unfold t_720
  rw [e0, Option.bind_some]
  have loop : ∀ X : Option TS, Tr X (fun T => ∃ D, lwW t T L nl lab nd (spn L nl st ln nr) a D ∧ ∀ q, q < 2 * nP L nl → stW t L nl lab nd D q) → ∃ f T, wnR (fun c => c = a) (adW t L nl lab nd) f ∧ Option.bind X (fun v80 => Option.bind (rdI v80 75 401 (v2 + 1)) (fun x11 => (if x11 = 1000 then some (-2, v80) else Option.bind (rdI v80 75 401 (v2 + 1)) (fun x12 => some (x12, v80))))) = some (if f i = 0 then -2 else Int32.ofNat (f i - 1), T) ∧ agr [] [75] t T ∧ f i ≤ 500 := by
    rintro X ⟨T, rfl, D, l, hs⟩
    have l' := l
    obtain ⟨x1, x2, x3, x4, x5⟩ := l
    obtain ⟨y1, y2⟩ := x2 i hi
    refine ⟨nfW (spn L nl st ln nr) D, T, lw_fin F ha l' hs, ?_, x1, ?_⟩
    · rw [Option.bind_some, h2, rdI_n (by omega) (by decide), y1, Option.bind_some]
      unfold nfW
      by_cases z : D i = 1000
      · rw [z, if_pos (show Int32.ofNat 1000 = 1000 from rfl), if_pos (by rw [if_neg (fun w => w.2 rfl)])]
      · rw [if_neg (show ¬ Int32.ofNat (D i) = 1000 from fun w => z ((i_inj (k := 1000) (by omega) (by omega)).mp w)), show (if i ≤ spn L nl st ln nr ∧ D i ≠ 1000 then D i + 1 else 0) = D i + 1 from if_pos ⟨hi, z⟩, if_neg (by omega), Option.bind_some, Nat.add_sub_cancel]
    · unfold nfW
      split
      · rename_i z
        have := x5 i hi z.2
        have := ctB_le (fun j => decide (D j ≠ 1000)) (spn L nl st ln nr + 1)
        omega
      · omega
  refine loop _ ?_
  refine wh_ind (P := fun x : TS × Int32 => ∃ D, lwW t x.1 L nl lab nd (spn L nl st ln nr) a D ∧ (x.2 = 1 ∨ (x.2 = 0 ∧ ∀ q, q < 2 * nP L nl → stW t L nl lab nd D q))) (fun x => 2 * smN (fun i => (x.1.2.2.1 75 i).toNatClampNeg) (spn L nl st ln nr + 1) + if x.2 = 0 then 0 else 1) ?_ ⟨_, l0, Or.inl rfl⟩
  rintro ⟨U, ch⟩ ⟨D, l, hc⟩
  dsimp only at l hc ⊢
  have sm : ∀ {V : TS} {D : Nat → Nat}, lwW t V L nl lab nd (spn L nl st ln nr) a D → smN (fun i => (V.2.2.1 75 i).toNatClampNeg) (spn L nl st ln nr + 1) = smN D (spn L nl st ln nr + 1) := fun {V D} l => by
    have e : ∀ i, i < spn L nl st ln nr + 1 → (V.2.2.1 75 i).toNatClampNeg = D i := fun i hi => by
      obtain ⟨q1, q2⟩ := l.2.1 i (by omega)
      rw [q1, i_clamp (by omega)]
    exact Nat.le_antisymm (smN_le (fun k hk => Nat.le_of_eq (e k hk))) (smN_le (fun k hk => Nat.le_of_eq (e k hk).symm))
  rcases hc with rfl | ⟨rfl, hs⟩
  · right
    rw [if_neg (show ¬ (1 : Int32) = 0 by decide)]
    obtain ⟨⟨V, c2⟩, q1, D2, q2, q3⟩ := lw_pass F hd l
    rw [q1, Option.bind_some]
    dsimp only at q2 q3 ⊢
    rcases q3 with ⟨rfl, rfl, q4⟩ | ⟨rfl, q4⟩
    · refine ⟨_, rfl, ⟨D2, q2, Or.inr ⟨rfl, q4⟩⟩, ?_⟩
      rw [sm q2, sm l, if_pos rfl, if_neg (show ¬ (1 : Int32) = 0 by decide)]
      omega
    · refine ⟨_, rfl, ⟨D2, q2, Or.inl rfl⟩, ?_⟩
      rw [sm q2, sm l, if_neg (show ¬ (1 : Int32) = 0 by decide)]
      omega
  · left
    rw [if_pos rfl]
    exact ⟨_, rfl, D, l, hs⟩
end
