/-! the lifts: a car's tours -/
def TouA (s : CS) (t : TS) (n : Nat) (f : Nat → Nat) (k : Nat) (C : Nat → Nat) (TR : Nat) : Prop := 179 ≤ TR ∧ ∃ (RL T : Nat) (mc : Int32) (g : Nat → Option Nat), s.1 TR = some (true, false, 97, [.ref (C k), .ref RL, .ref T, .ref 162]) ∧ 179 ≤ RL ∧ s.1 RL = some (true, false, 1013, .int mc :: rowC (fun σ => vR (g σ)) (2 ^ n)) ∧ ∀ σ, σ < 2 ^ n → feas (fun k i => fit t k (f i)) n k σ → ∃ B A, g σ = some B ∧ 179 ≤ B ∧ 179 ≤ A ∧ s.1 B = some (rwK A (bstR t n f k σ).2.length (bstR t n f k σ).1) ∧ arK s A f (bstR t n f k σ).2
theorem TouA_fr {s s' : CS} {t : TS} {n k TR : Nat} {f C : Nat → Nat} (h : TouA s t n f k C TR) (hq : ∀ q c, 179 ≤ q → s.1 q = some c → s'.1 q = some c) : TouA s' t n f k C TR := by
  obtain ⟨h0, RL, T, mc, g, h1, h2, h3, h4⟩ := h
  refine ⟨h0, RL, T, mc, g, hq _ _ h0 h1, h2, hq _ _ h2 h3, fun σ hσ hf => ?_⟩
  obtain ⟨B, A, k1, k2, k3, k4, g', k5, k6⟩ := h4 σ hσ hf
  exact ⟨B, A, k1, k2, k3, hq _ _ k2 k4, g', hq _ _ k3 k5, k6⟩
theorem TE_fr {s s' : CS} {t : TS} {nc n nk : Nat} {f C D M : Nat → Nat} {b : Nat → Option Nat} (h : TE s t nc n nk f C D M b) (h1 : ∃ (hm : Int32) (lst : Int64), (0 < n → hm = 0) ∧ s'.1 162 = some (true, false, 49, [.ref 163, .ref 164, .int (t.1 606), .int (t.1 612), .int hm, .int (t.1 1), .ref 165, .ref 166, .ref 167, .ref 168, .long lst, .ref 169])) (h3 : ∃ mc es, s'.1 166 = some (true, false, 1013, .int mc :: es)) (h4 : ∃ f : Nat → Int32, s'.1 167 = some (true, true, 0, rowC (fun i => .int (f i)) 4)) (h5 : ∃ f : Nat → Int32, s'.1 168 = some (true, true, 0, rowC (fun i => .int (f i)) 4)) (hq : ∀ q c, q ≠ 162 → q ≠ 166 → q ≠ 167 → q ≠ 168 → s.1 q = some c → s'.1 q = some c) : TE s' t nc n nk f C D M b := by
  obtain ⟨r, _, ⟨mc, e3⟩, hO⟩ := h
  have e3' := hq _ _ (by omega) (by omega) (by omega) (by omega) e3
  refine ⟨R8x_fr r ?_ ⟨_, _, e3'⟩ h3 h4 h5 (fun q c a1 _ a3 a4 a5 e => hq q c a1 a3 a4 a5 e), h1, ⟨mc, e3'⟩, hO⟩
  obtain ⟨hm, lst, _, z⟩ := h1
  exact ⟨_, _, _, z⟩
theorem TE_sm {s s' : CS} {t : TS} {nc n nk : Nat} {f C D M : Nat → Nat} {b : Nat → Option Nat} (h : TE s t nc n nk f C D M b) (hq : ∀ q c, s.1 q = some c → s'.1 q = some c) : TE s' t nc n nk f C D M b := by
  have h' := h
  obtain ⟨⟨_, _, _, ⟨x4, y4, p4⟩, ⟨x5, p5⟩, ⟨x6, p6⟩, _⟩, ⟨hm, lst, z1, z2⟩, _, _⟩ := h'
  exact TE_fr h ⟨hm, lst, z1, hq _ _ z2⟩ ⟨_, _, hq _ _ p4⟩ ⟨_, hq _ _ p5⟩ ⟨_, hq _ _ p6⟩ (fun q c _ _ _ _ e => hq q c e)
theorem c_tours {sp s : CS} {t : TS} {nc n nk k : Nat} {f C D M : Nat → Nat} {b : Nat → Option Nat} (hwp : wfS sp) (h179 : 179 ≤ sp.2.1) (v : Lv t nc n f) (hk : k < nc) (hT : TE sp t nc n nk f C D M b) (hN : Nw sp s (true, false, 97, [.null, .null, .null, .null]) 1 4) :
    Tr (c_1077 sp.2.1 162 (C k) s) (fun S => TouA S t n f k C sp.2.1 ∧ (∀ q, q < sp.2.1 → S.1 q = sp.1 q) ∧ sp.2.1 ≤ S.2.1 ∧ wfS S ∧ S.2.2.1 ≤ sp.2.2.1 + 196 ∧ S.2.2.2 ≤ sp.2.2.2 + 1616) := by
  have hn := v.2.1
  have hn6 := v.2.2.1
  have h64 := pow_n6 hn6
  obtain ⟨a1, a2, a3, a4, a5, a6⟩ := hN
  generalize hTR : sp.2.1 = TR at *
  unfold c_1077
  rw [xP_c (fs' := [.null, .null, .null, .ref 162]) a1 rfl (by simp) rfl, Option.bind_some, Option.bind_some]
  have hw1 : wfS (cup s TR (true, false, 97, [.null, .null, .null, .ref 162])) := wf_cup a4 (by omega)
  obtain ⟨S1, E1, b1, b2, b3, b4, b5, b6⟩ := nw_o (s := cup s TR (true, false, 97, [.null, .null, .null, .ref 162])) 13 [.int 0, .null, .int 0] hw1
  have hx : (cup s TR (true, false, 97, [.null, .null, .null, .ref 162])).2.1 = TR + 1 := a3
  rw [hx] at E1 b1 b2 b3
  rw [E1]
  dsimp only
  have c1 : S1.1 TR = some (true, false, 97, [.null, .null, .null, .ref 162]) := by rw [b2 TR (by omega), cup_eq]
  rw [if_pos (isK_t b1 rfl), alInit_o b1, Option.bind_some, xP_c (fs' := [.null, .ref (TR + 1), .null, .ref 162]) ((cup_ne (by omega)).trans c1) rfl (by simp) rfl, Option.bind_some, Option.bind_some]
  generalize hS2 : cup (cup S1 (TR + 1) (true, false, 1013, [.int 0])) TR (true, false, 97, [.null, .ref (TR + 1), .null, .ref 162]) = S2
  have d1 : S2.1 TR = some (true, false, 97, [.null, .ref (TR + 1), .null, .ref 162]) := by rw [← hS2, cup_eq]
  have d2 : S2.1 (TR + 1) = some (true, false, 1013, [.int 0]) := by rw [← hS2, cup_ne (by omega), cup_eq]
  have d3 : ∀ q, q < TR → S2.1 q = sp.1 q := fun q hq => by
    rw [← hS2, cup_ne (by omega), cup_ne (by omega), b2 q (by omega), cup_ne (by omega), a2 q (by omega)]
  have d4 : S2.2 = S1.2 := by rw [← hS2]; rfl
  have d5 : wfS S2 := by
    rw [← hS2]
    exact wf_cup (wf_cup b4 (by rw [b3]; omega)) (by show TR < S1.2.1; rw [b3]; omega)
  obtain ⟨S3, E3, f1, f2, f3, f4, f5, f6⟩ := nw_o (s := S2) 98 [.null, .int 0, .long 0] d5
  rw [d4, b3] at E3 f1 f2 f3
  rw [E3]
  dsimp only
  obtain ⟨S4, E4, g1, g2, g3, g4, g5, g6, g7⟩ := c_rowInit f4 f1
  rw [f3] at g1 g2 g3 g4
  rw [if_pos (isK_t f1 rfl), E4, Option.bind_some]
  have h1 : S4.1 TR = some (true, false, 97, [.null, .ref (TR + 1), .null, .ref 162]) := by rw [g3 TR (by omega) (by omega), f2 TR (by omega)]; exact d1
  rw [xP_c (fs' := [.null, .ref (TR + 1), .ref (TR + 1 + 1), .ref 162]) h1 rfl (by simp) rfl, Option.bind_some, xP_c (fs' := [.ref (C k), .ref (TR + 1), .ref (TR + 1 + 1), .ref 162]) (cup_eq ..) rfl (by simp) rfl, Option.bind_some, cupU]
  generalize hS5 : cup S4 TR (true, false, 97, [.ref (C k), .ref (TR + 1), .ref (TR + 1 + 1), .ref 162]) = S5
  have i1 : S5.1 TR = some (true, false, 97, [.ref (C k), .ref (TR + 1), .ref (TR + 1 + 1), .ref 162]) := by rw [← hS5, cup_eq]
  have i2 : S5.1 (TR + 1) = some (true, false, 1013, [.int 0]) := by rw [← hS5, cup_ne (by omega), g3 _ (by omega) (by omega), f2 _ (by omega)]; exact d2
  have i3 : S5.1 (TR + 1 + 1) = some (true, false, 98, [.ref (TR + 1 + 1 + 1), .int 0, .long 0]) := by rw [← hS5, cup_ne (by omega)]; exact g1
  have i4 : S5.1 (TR + 1 + 1 + 1) = some (true, true, 0, rowC (fun _ => .int 0) 6) := by rw [← hS5, cup_ne (by omega)]; exact g2
  have i5 : ∀ q, q < TR → S5.1 q = sp.1 q := fun q hq => by rw [← hS5, cup_ne (by omega), g3 q (by omega) (by omega), f2 q (by omega)]; exact d3 q hq
  have i6 : S5.2.1 = TR + 1 + 1 + 1 + 1 := by rw [← hS5]; exact g4
  have i7 : wfS S5 := by rw [← hS5]; exact wf_cup g5 (by rw [g4]; omega)
  have i8 : S5.2.2.1 = sp.2.2.1 + 4 := by
    rw [← hS5]
    show S4.2.2.1 = _
    rw [g6, f5, d4, b5]
    show s.2.2.1 + 1 + 1 + 1 = _
    rw [a5]
  have i9 : S5.2.2.2 = sp.2.2.2 + 16 := by
    rw [← hS5]
    show S4.2.2.2 = _
    rw [g7, f6, d4, b6]
    show s.2.2.2 + 3 + 3 + 6 = _
    rw [a6]
  have old : ∀ q c, sp.1 q = some c → q < TR := fun q c h => by rw [← hTR]; exact wf_lt hwp h
  refine Tr.bd (P := fun S => TouA S t n f k C TR ∧ (∀ q, q < TR → S.1 q = sp.1 q) ∧ TR ≤ S.2.1 ∧ wfS S ∧ S.2.2.1 ≤ sp.2.2.1 + 196 ∧ S.2.2.2 ≤ sp.2.2.2 + 1616) (wh_cnt (2 ^ n) (fun j (a : CS × Int32) => a.2 = Int32.ofNat j ∧ wfS a.1 ∧ (∀ q, q < TR → a.1.1 q = sp.1 q) ∧ a.1.1 TR = some (true, false, 97, [.ref (C k), .ref (TR + 1), .ref (TR + 1 + 1), .ref 162]) ∧ (∃ N c0, a.1.1 (TR + 1 + 1) = some (true, false, 98, [.ref (TR + 1 + 1 + 1), .int (Int32.ofNat N), .long c0])) ∧ (∃ g : Nat → Int32, a.1.1 (TR + 1 + 1 + 1) = some (true, true, 0, rowC (fun i => .int (g i)) 6)) ∧ TR + 4 ≤ a.1.2.1 ∧ a.1.2.2.1 ≤ sp.2.2.1 + 4 + 3 * j ∧ a.1.2.2.2 ≤ sp.2.2.2 + 16 + 25 * j ∧ ∃ (mc : Int32) (g : Nat → Option Nat), a.1.1 (TR + 1) = some (true, false, 1013, .int mc :: rowC (fun σ => vR (g σ)) j) ∧ ∀ σ, σ < j → feas (fun k i => fit t k (f i)) n k σ → ∃ B A, g σ = some B ∧ TR + 4 ≤ B ∧ TR + 4 ≤ A ∧ a.1.1 B = some (rwK A (bstR t n f k σ).2.length (bstR t n f k σ).1) ∧ arK a.1 A f (bstR t n f k σ).2) ?_ ?_ ⟨rfl, i7, i5, i1, ⟨0, 0, i3⟩, ⟨_, i4⟩, by show _ ≤ S5.2.1; omega, by show S5.2.2.1 ≤ _; omega, by show S5.2.2.2 ≤ _; omega, 0, fun _ => none, i2, fun σ hσ => by omega⟩) (fun S hS => ⟨S, rfl, hS⟩)
  · rintro j ⟨X, q⟩ hj ⟨hq, x1, x2, x3, ⟨N, c0, x4⟩, ⟨gT, x5⟩, x6, x7, x8, mc, g, x9, x10⟩
    dsimp only at hq x1 x2 x3 x4 x5 x6 x7 x8 x9 x10 ⊢
    subst hq
    have hTX : TE X t nc n nk f C D M b := TE_sm hT (fun q c e => by rw [x2 q (old q c e)]; exact e)
    obtain ⟨_, ⟨hm, lst, _, y2⟩, ⟨m3, y3⟩, _⟩ := hTX
    have hsz : (1 : Int32) <<< (Int32.ofNat n &&& 31) = Int32.ofNat (2 ^ n) := by
      rw [i_and31, Nat.mod_eq_of_lt (by omega), show (1 : Int32) = Int32.ofNat 1 from rfl, i_shl (by omega), Nat.one_mul]
    rw [xN_o y2 rfl rfl, Option.bind_some, if_pos (isK_t y3 rfl), alSize_r y3, Option.bind_some, hsz, if_pos ((i_lt (by omega) (by omega)).mpr hj), xN_o x3 rfl rfl, Option.bind_some, if_pos (isK_t x3 rfl)]
    obtain ⟨⟨r1, X2⟩, eB, hB⟩ := c_best x1 v hk (TE_sm hT (fun q c e => by rw [x2 q (old q c e)]; exact e)) x3 x4 x5 hj
    rw [eB, Option.bind_some]
    rcases hB with ⟨hf, hB⟩ | ⟨hf, k1, k2, k3, k4, ⟨gT2, k5⟩, k6, k7, k8, k9, k10⟩
    · cases hB
      dsimp only
      rw [if_pos (isK_t x9 rfl), alAdd_r (v := vR none) x9 (by omega) rfl, Option.bind_some, i_suc]
      refine Or.inr ⟨_, rfl, rfl, wf_cup x1 (by omega), fun q hq => (cput_ne (by omega)).trans (x2 q hq), (cput_ne (by omega)).trans x3, ⟨N, c0, (cput_ne (by omega)).trans x4⟩, ⟨gT, (cput_ne (by omega)).trans x5⟩, x6, by show X.2.2.1 + 1 ≤ _; omega, by show X.2.2.2 + 16 ≤ _; omega, mc + 1, fun σ => if σ = j then none else g σ, ?_, fun σ hσ hfe => ?_⟩
      · rw [cput_eq]
        have : rowC (fun i => if i = j then vR none else vR (g i)) (j + 1) = rowC (fun σ => vR (if σ = j then none else g σ)) (j + 1) := rowC_congr (fun i _ => by split <;> rfl)
        rw [this]
      · by_cases y : σ = j
        · subst y; exact absurd hfe hf
        · obtain ⟨B, A, z1, z2, z3, z4, gz, z5, z6⟩ := x10 σ (by omega) hfe
          exact ⟨B, A, (if_neg y).trans z1, z2, z3, (cput_ne (by omega)).trans z4, gz, (cput_ne (by omega)).trans z5, z6⟩
    · dsimp only at k1 k2 k3 k4 k5 k6 k7 k8 k9 k10
      subst k1
      dsimp only
      have u9 : X2.1 (TR + 1) = _ := (k6 (TR + 1) (by omega) (by omega) (by omega)).trans x9
      rw [if_pos (isK_t u9 rfl), alAdd_r (v := vR (some _)) u9 (by omega) (elO_o (show X2.1 _ = some (true, false, _, _) from k2)), Option.bind_some, i_suc]
      refine Or.inr ⟨_, rfl, rfl, wf_cup k8 (by omega), fun q hq => (cput_ne (by omega)).trans ((k6 q (by omega) (by omega) (by omega)).trans (x2 q hq)), (cput_ne (by omega)).trans ((k6 TR (by omega) (by omega) (by omega)).trans x3), ⟨0, _, (cput_ne (by omega)).trans k4⟩, ⟨gT2, (cput_ne (by omega)).trans k5⟩, by show _ ≤ X2.2.1; omega, by show X2.2.2.1 + 1 ≤ _; omega, by show X2.2.2.2 + 16 ≤ _; omega, mc + 1, fun σ => if σ = j then some X.2.1 else g σ, ?_, fun σ hσ hfe => ?_⟩
      · rw [cput_eq]
        have : rowC (fun i => if i = j then vR (some X.2.1) else vR (g i)) (j + 1) = rowC (fun σ => vR (if σ = j then some X.2.1 else g σ)) (j + 1) := rowC_congr (fun i _ => by split <;> rfl)
        rw [this]
      · by_cases y : σ = j
        · subst y
          obtain ⟨gz, z5, z6⟩ := k3
          exact ⟨X.2.1, X.2.1 + 1, if_pos rfl, by omega, by omega, (cput_ne (by omega)).trans k2, gz, (cput_ne (by omega)).trans z5, z6⟩
        · obtain ⟨B, A, z1, z2, z3, z4, gz, z5, z6⟩ := x10 σ (by omega) hfe
          have lB := wf_lt x1 z4
          have lA := wf_lt x1 z5
          exact ⟨B, A, (if_neg y).trans z1, z2, z3, (cput_ne (by omega)).trans ((k6 B lB (by omega) (by omega)).trans z4), gz, (cput_ne (by omega)).trans ((k6 A lA (by omega) (by omega)).trans z5), z6⟩
  · rintro ⟨X, q⟩ ⟨hq, x1, x2, x3, ⟨N, c0, x4⟩, ⟨gT, x5⟩, x6, x7, x8, mc, g, x9, x10⟩
    dsimp only at hq x1 x2 x3 x4 x5 x6 x7 x8 x9 x10 ⊢
    subst hq
    have hTX : TE X t nc n nk f C D M b := TE_sm hT (fun q c e => by rw [x2 q (old q c e)]; exact e)
    obtain ⟨_, ⟨hm, lst, _, y2⟩, ⟨m3, y3⟩, _⟩ := hTX
    have hsz : (1 : Int32) <<< (Int32.ofNat n &&& 31) = Int32.ofNat (2 ^ n) := by
      rw [i_and31, Nat.mod_eq_of_lt (by omega), show (1 : Int32) = Int32.ofNat 1 from rfl, i_shl (by omega), Nat.one_mul]
    refine ⟨X, ?_, ⟨h179, TR + 1, TR + 1 + 1, mc, g, x3, by omega, x9, fun σ hσ hfe => ?_⟩, x2, by omega, x1, by omega, by omega⟩
    · rw [xN_o y2 rfl rfl, Option.bind_some, if_pos (isK_t y3 rfl), alSize_r y3, Option.bind_some, hsz, if_neg (by rw [i_lt (by omega) (by omega)]; omega)]
    · obtain ⟨B, A, z1, z2, z3, z4, z5⟩ := x10 σ hσ hfe
      exact ⟨B, A, z1, by omega, by omega, z4, z5⟩
