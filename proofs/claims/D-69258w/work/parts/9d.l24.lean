/-! the lifts: the component deals out -/
def DE (s : CS) (t : TS) (nc n nk : Nat) (f C D M : Nat → Nat) (b : Nat → Option Nat) (R : Nat → Nat) : Prop := TE s t nc n nk f C D M b ∧ (∃ mc : Int32, s.1 166 = some (true, false, 1013, .int mc :: rowC (fun k => .ref (R k)) nc)) ∧ ∀ k, k < nc → TouA s t n f k C (R k)
/-- sets of the cars so far, the best ones -/
def DS (s0 s : CS) (t : TS) (nc n : Nat) (kk P : Nat) (w : Nat × Nat) : Prop :=
  (∃ hm : Int32, (0 < n → hm = 0) ∧ s.1 162 = some (true, false, 49, [.ref 163, .ref 164, .int (t.1 606), .int (t.1 612), .int hm, .int (t.1 1), .ref 165, .ref 166, .ref 167, .ref 168, .long (Int64.ofNat w.1), .ref 169])) ∧ (∃ g : Nat → Int32, s.1 167 = some (true, true, 0, rowC (fun i => .int (g i)) 4) ∧ ∀ c, c < nc → g c = Int32.ofNat (bitW nc kk P c)) ∧ (∃ g : Nat → Int32, s.1 168 = some (true, true, 0, rowC (fun i => .int (g i)) 4) ∧ (w.1 = 1152921504606846975 ∨ ∀ c, c < nc → g c = Int32.ofNat (bitW nc n w.2 c))) ∧ (∀ q, q ≠ 162 → q ≠ 167 → q ≠ 168 → s.1 q = s0.1 q) ∧ s.2 = s0.2
theorem DE_st {s0 s : CS} {t : TS} {nc n nk : Nat} {f C D M R : Nat → Nat} {b : Nat → Option Nat} {kk P : Nat} {w : Nat × Nat} (h : DE s0 t nc n nk f C D M b R) (k : DS s0 s t nc n kk P w) : DE s t nc n nk f C D M b R := by
  obtain ⟨h1, ⟨mc, h2⟩, h3⟩ := h
  obtain ⟨⟨hm, k1, k2⟩, ⟨g, k3, _⟩, ⟨g', k4, _⟩, k5, _⟩ := k
  have e166 := (k5 166 (by omega) (by omega) (by omega)).trans h2
  exact ⟨TE_fr h1 ⟨hm, _, k1, k2⟩ ⟨_, _, e166⟩ ⟨_, k3⟩ ⟨_, k4⟩ (fun q c a1 _ a3 a4 e => by rw [k5 q a1 a3 a4]; exact e), ⟨mc, e166⟩, fun k hk => TouA_fr (h3 k hk) (fun q c hq e => by rw [k5 q (by omega) (by omega) (by omega)]; exact e)⟩
theorem c_tRow {s : CS} {t : TS} {n k TR σ : Nat} {f C : Nat → Nat} (h : TouA s t n f k C TR) (hn : n ≤ 6) (hσ : σ < 2 ^ n) (hf : feas (fun k i => fit t k (f i)) n k σ) : ∃ B A, c_1081 TR (Int32.ofNat σ) s = some B ∧ s.1 B = some (rwK A (bstR t n f k σ).2.length (bstR t n f k σ).1) ∧ arK s A f (bstR t n f k σ).2 ∧ 179 ≤ B ∧ 179 ≤ A := by
  obtain ⟨_, RL, T, mc, g, h1, h2, h3, h4⟩ := h
  obtain ⟨B, A, k1, k2, k3, k4, k5⟩ := h4 σ hσ hf
  have h64 := pow_n6 hn
  refine ⟨B, A, ?_, k4, k5, k2, k3⟩
  unfold c_1081
  rw [xN_o h1 rfl rfl, Option.bind_some, if_pos (isK_t h3 rfl), alGet_r h3 hσ (by omega), Option.bind_some, k1]
  show Option.bind (toN s [98] (.ref B)) _ = _
  rw [toN_o k4 rfl]; rfl
theorem or6 : ∀ kk : Fin 6, ∀ a : Fin 64, a.val < 2 ^ kk.val → Int32.ofNat a.val ||| ((1 : Int32) <<< (Int32.ofNat kk.val &&& 31)) = Int32.ofNat (a.val + 2 ^ kk.val) := by decide +kernel
theorem c_deal {s0 : CS} {t : TS} {nc n nk : Nat} {f C D M R : Nat → Nat} {b : Nat → Option Nat} (v : Lv t nc n f) (hE : DE s0 t nc n nk f C D M b R) (hu : ∀ k, k < nc → ∀ x y, x < n → y < n → begB t f k x = true → begB t f k y = true → x = y) :
    ∀ (m kk P d : Nat) (w : Nat × Nat) (s : CS), kk + m = n → m < d → (∀ c, c < nc → feas (fun k i => fit t k (f i)) kk c (bitW nc kk P c)) → w.1 ≤ 1152921504606846975 → DS s0 s t nc n kk P w → Tr (c_533 d 162 (Int32.ofNat kk) s) (fun s' => DS s0 s' t nc n kk P (dealF nc (smW t nc n f) m P w)) := by
  have hn := v.2.1
  have hn6 := v.2.2.1
  have h64 := pow_n6 hn6
  intro m
  induction m with
  | zero =>
    intro kk P d w s hkm hd hfe hw1 hS
    obtain ⟨d, rfl⟩ : ∃ d', d = d' + 1 := ⟨d - 1, by omega⟩
    have hkn : kk = n := by omega
    subst hkn
    have hE' := DE_st hE hS
    obtain ⟨⟨r, _, ⟨m5, e5⟩, hO⟩, ⟨m6, e6⟩, hTo⟩ := hE'
    obtain ⟨_, ⟨m1, p2⟩, _⟩ := r
    have hS0 := hS
    obtain ⟨⟨hm, k1, k2⟩, ⟨g, k3, k3'⟩, ⟨g', k4, k4'⟩, k5, k6⟩ := hS
    unfold c_533
    rw [xN_o k2 rfl rfl, Option.bind_some, if_pos (isK_t e5 rfl), alSize_r e5, Option.bind_some, if_pos rfl]
    have hsm : ∀ c, c < nc → (bstR t kk f c (bitW nc kk P c)).1 ≤ 126600000 := fun c hc => (bstR_ok v hc (hfe c hc) (hu c hc)).1
    have hsum : smW t nc kk f P ≤ 4 * 126600000 := Nat.le_trans (sumN_le hsm) (Nat.mul_le_mul_right _ hn)
    refine Tr.bd (P := fun x => x = Int64.ofNat (smW t nc kk f P)) (wh_cnt nc (fun i st => st = (Int64.ofNat (sumN (fun c => (bstR t kk f c (bitW nc kk P c)).1) i), Int32.ofNat i)) ?_ ?_ rfl) ?_
    · rintro i _ hi rfl
      obtain ⟨B, A, z1, z2, _⟩ := c_tRow (hTo i hi) hn6 (bitW_lt nc kk P i) (hfe i hi)
      refine Or.inr ⟨_, ?_, rfl⟩
      dsimp only
      obtain ⟨_, _, _, _, _, hTR, _⟩ := hTo i hi
      rw [xN_o k2 rfl rfl, Option.bind_some, if_pos (isK_t p2 rfl), alSize_r p2, Option.bind_some, if_pos ((i_lt (by omega) (by omega)).mpr hi), xN_o k2 rfl rfl, Option.bind_some, if_pos (isK_t e6 rfl), alGet_r e6 hi (by omega), Option.bind_some, toN_o hTR rfl, Option.bind_some, xN_o k2 rfl rfl, Option.bind_some, aI_r (x := g i) k3 (by omega) rfl (by omega) (by omega) rfl, Option.bind_some, if_pos (isK_t hTR rfl), k3' i hi, z1, Option.bind_some, xL_o (x := Int64.ofNat (bstR t kk f i (bitW nc kk P i)).1) z2 rfl rfl, Option.bind_some, l_add, i_suc]; rfl
    · rintro _ rfl
      refine ⟨_, ?_, rfl⟩
      dsimp only
      rw [xN_o k2 rfl rfl, Option.bind_some, if_pos (isK_t p2 rfl), alSize_r p2, Option.bind_some, if_neg (by rw [i_lt (by omega) (by omega)]; omega)]; rfl
    · rintro _ rfl
      rw [xL_o (x := Int64.ofNat w.1) k2 rfl rfl, Option.bind_some, dealF_0]
      unfold updW
      by_cases c1 : smW t nc kk f P < w.1
      · rw [if_pos ((l_cmp (by omega) (by omega)).mpr c1), if_pos c1, xP_c (fs' := [.ref 163, .ref 164, .int (t.1 606), .int (t.1 612), .int hm, .int (t.1 1), .ref 165, .ref 166, .ref 167, .ref 168, .long (Int64.ofNat (smW t nc kk f P)), .ref 169]) k2 rfl (by simp) rfl, Option.bind_some]
        generalize hS1 : cup s 162 (true, false, 49, [.ref 163, .ref 164, .int (t.1 606), .int (t.1 612), .int hm, .int (t.1 1), .ref 165, .ref 166, .ref 167, .ref 168, .long (Int64.ofNat (smW t nc kk f P)), .ref 169]) = S1
        have u1 : S1.1 162 = some (true, false, 49, [.ref 163, .ref 164, .int (t.1 606), .int (t.1 612), .int hm, .int (t.1 1), .ref 165, .ref 166, .ref 167, .ref 168, .long (Int64.ofNat (smW t nc kk f P)), .ref 169]) := by rw [← hS1, cup_eq]
        have u2 : ∀ q, q ≠ 162 → S1.1 q = s.1 q := fun q hq => by rw [← hS1, cup_ne hq]
        have u3 : S1.2 = s.2 := by rw [← hS1]; rfl
        refine Tr.bd (P := fun s' => DS s0 s' t nc kk kk P (smW t nc kk f P, P)) (wh_cnt nc (fun i (a : CS × Int32) => a.2 = Int32.ofNat i ∧ a.1.2 = s0.2 ∧ (∀ q, q ≠ 168 → a.1.1 q = S1.1 q) ∧ ∃ g2 : Nat → Int32, a.1.1 168 = some (true, true, 0, rowC (fun i => .int (g2 i)) 4) ∧ ∀ c, c < i → g2 c = Int32.ofNat (bitW nc kk P c)) ?_ ?_ ⟨rfl, by rw [u3, k6], fun _ _ => rfl, g', (u2 168 (by omega)).trans k4, fun c hc => by omega⟩) (fun s' h => ⟨s', rfl, h⟩)
        · rintro i ⟨X, q⟩ hi ⟨hq, x0, x1, g2, x2, x3⟩
          dsimp only at hq x0 x1 x2 x3 ⊢
          subst hq
          have y1 := (x1 162 (by omega)).trans u1
          have y2 := (x1 163 (by omega)).trans ((u2 163 (by omega)).trans p2)
          have y3 := (x1 167 (by omega)).trans ((u2 167 (by omega)).trans k3)
          refine Or.inr ⟨(cup X 168 (true, true, 0, rowC (fun j => if j = i then .int (g i) else .int (g2 j)) 4), Int32.ofNat (i + 1)), ?_, rfl, x0, fun q hq => (cup_ne hq).trans (x1 q hq), fun j => if j = i then g i else g2 j, ?_, fun c hc => ?_⟩
          · rw [xN_o y1 rfl rfl, Option.bind_some, if_pos (isK_t y2 rfl), alSize_r y2, Option.bind_some, if_pos ((i_lt (by omega) (by omega)).mpr hi), xN_o y1 rfl rfl, Option.bind_some, xN_o y1 rfl rfl, Option.bind_some, aI_r (x := g i) y3 (by omega) rfl (by omega) (by omega) rfl, Option.bind_some, aPut_r x2 (by omega) (by omega), Option.bind_some, i_suc]
          · dsimp only
            rw [cup_eq]
            have : rowC (fun j => if j = i then Value.int (g i) else .int (g2 j)) 4 = rowC (fun j => .int (if j = i then g i else g2 j)) 4 := rowC_congr (fun j _ => by split <;> rfl)
            rw [this]
          · dsimp only
            by_cases y : c = i
            · rw [if_pos y, y, k3' i hi]
            · rw [if_neg y]; exact x3 c (by omega)
        · rintro ⟨X, q⟩ ⟨hq, x0, x1, g2, x2, x3⟩
          dsimp only at hq x0 x1 x2 x3 ⊢
          subst hq
          have y1 := (x1 162 (by omega)).trans u1
          have y2 := (x1 163 (by omega)).trans ((u2 163 (by omega)).trans p2)
          refine ⟨X, by rw [xN_o y1 rfl rfl, Option.bind_some, if_pos (isK_t y2 rfl), alSize_r y2, Option.bind_some, if_neg (by rw [i_lt (by omega) (by omega)]; omega)], ⟨hm, k1, y1⟩, ⟨g, (x1 167 (by omega)).trans ((u2 167 (by omega)).trans k3), k3'⟩, ⟨g2, x2, Or.inr x3⟩, fun q h1 h2 h3 => (x1 q h3).trans ((u2 q h1).trans (k5 q h1 h2 h3)), x0⟩
      · rw [if_neg (fun y => c1 ((l_cmp (by omega) (by omega)).mp y)), if_neg c1]
        exact ⟨s, rfl, hS0⟩
  | succ m ih =>
    intro kk P d w s hkm hd hfe hw1 hS
    obtain ⟨d, rfl⟩ : ∃ d', d = d' + 1 := ⟨d - 1, by omega⟩
    have hkk : kk < n := by omega
    have hE' := DE_st hE hS
    obtain ⟨⟨r, _, ⟨m5, e5⟩, hO⟩, ⟨m6, e6⟩, hTo⟩ := hE'
    have r' := r
    obtain ⟨_, ⟨m1, p2⟩, _, _, _, _, _, _, _, _, _, _, _, _, _, p16, _⟩ := r'
    have hS0 := hS
    obtain ⟨⟨hm, k1, k2⟩, _, _, _, _⟩ := hS
    have e5i : s.1 (D (f kk)) = some (calC t C (f kk)) := ((p16 _ (hO kk hkk).1).2.2 (hO kk hkk).2).1
    have hcars := c_cars (s := s) (own := fun _ => 8) (c := f kk) (by rw [rs_all]; exact r) (hO kk hkk).1 (hO kk hkk).2 k2
    rw [if_pos (k1 (by omega))] at hcars
    have hlt := cob_lt t (f kk) nc
    have h16 : 2 ^ nc ≤ 16 := Nat.pow_le_pow_right (n := 2) (by omega) hn
    unfold c_533
    rw [xN_o k2 rfl rfl, Option.bind_some, if_pos (isK_t e5 rfl), alSize_r e5, Option.bind_some, if_neg (fun y => by have := (i_inj (by omega) (by omega)).mp y; omega), Option.bind_some, if_pos (isK_t e5 rfl), alGet_r e5 hkk (by omega), Option.bind_some, toN_o e5i rfl, Option.bind_some, if_pos (isK_t k2 rfl), hcars, Option.bind_some, dealF_suc]
    refine Tr.bd (P := fun s' => DS s0 s' t nc n kk P ((List.range nc).foldl (fun b c => dealF nc (smW t nc n f) m (P * nc + c) b) w)) (wh_cnt nc (fun i (a : CS × Int32) => a.2 = Int32.ofNat i ∧ DS s0 a.1 t nc n kk P ((List.range i).foldl (fun b c => dealF nc (smW t nc n f) m (P * nc + c) b) w) ∧ ((List.range i).foldl (fun b c => dealF nc (smW t nc n f) m (P * nc + c) b) w).1 ≤ 1152921504606846975) ?_ ?_ ⟨rfl, hS0, hw1⟩) (fun s' h => ⟨s', rfl, h⟩)
    · rintro i ⟨X, q⟩ hi ⟨hq, hX, hwi⟩
      dsimp only at hq hX ⊢
      subst hq
      rw [List.range_succ, List.foldl_append]
      generalize (List.range i).foldl (fun b c => dealF nc (smW t nc n f) m (P * nc + c) b) w = w' at hX hwi
      show _ ∨ ∃ a' : CS × Int32, _ ∧ a'.2 = _ ∧ DS s0 a'.1 t nc n kk P (dealF nc (smW t nc n f) m (P * nc + i) w') ∧ (dealF nc (smW t nc n f) m (P * nc + i) w').1 ≤ _
      have hXE := DE_st hE hX
      obtain ⟨⟨rX, _, _, _⟩, _, _⟩ := hXE
      obtain ⟨_, ⟨m1', p2'⟩, _⟩ := rX
      have hX0 := hX
      obtain ⟨⟨hm2, j1, j2⟩, ⟨g, j3, j3'⟩, ⟨g', j4, j4'⟩, j5, j6⟩ := hX
      have hwle : (dealF nc (smW t nc n f) m (P * nc + i) w').1 ≤ 1152921504606846975 := Nat.le_trans foldW_le hwi
      rw [xN_o j2 rfl rfl, Option.bind_some, if_pos (isK_t p2' rfl), alSize_r p2', Option.bind_some, if_pos ((i_lt (by omega) (by omega)).mpr hi), i_suc kk, i_suc i]
      by_cases hf2 : fit t i (f kk) = true
      · have hb2 : bt (cob t (f kk) nc) i = 1 := by rw [cob_bit hi, if_pos hf2]
        have hbw := bitW_lt nc kk P i
        have hp2 : 2 ^ kk ≤ 32 := Nat.pow_le_pow_right (n := 2) (by omega) (show kk ≤ 5 by omega)
        have hor := or6 ⟨kk, by omega⟩ ⟨bitW nc kk P i, by omega⟩ hbw
        dsimp only at hor
        rw [if_pos ((i_bt1 (by omega) (by omega)).mpr hb2), xR_o (b := 167) j2 rfl rfl, Option.bind_some, Option.bind_some, aI_r (x := g i) j3 (by omega) rfl (by omega) (by omega) rfl, Option.bind_some, aPut_r j3 (by omega) (by omega), Option.bind_some, j3' i hi, hor]
        generalize hY : cup X 167 (true, true, 0, rowC (fun j => if j = i then .int (Int32.ofNat (bitW nc kk P i + 2 ^ kk)) else .int (g j)) 4) = Y
        have y1 : Y.1 162 = _ := (show Y.1 162 = X.1 162 by rw [← hY, cup_ne (by omega)]).trans j2
        have hYS : DS s0 Y t nc n (kk + 1) (P * nc + i) w' := by
          refine ⟨⟨hm2, j1, y1⟩, ⟨fun j => if j = i then Int32.ofNat (bitW nc kk P i + 2 ^ kk) else g j, ?_, fun c hc => ?_⟩, ⟨g', by rw [← hY, cup_ne (by omega)]; exact j4, j4'⟩, fun q h1 h2 h3 => by rw [← hY, cup_ne h2]; exact j5 q h1 h2 h3, by rw [← hY]; exact j6⟩
          · rw [← hY, cup_eq]
            have : rowC (fun j => if j = i then Value.int (Int32.ofNat (bitW nc kk P i + 2 ^ kk)) else .int (g j)) 4 = rowC (fun j => .int (if j = i then Int32.ofNat (bitW nc kk P i + 2 ^ kk) else g j)) 4 := rowC_congr (fun j _ => by split <;> rfl)
            rw [this]
          · dsimp only
            rw [bitW_suc hi]
            by_cases y : c = i
            · rw [if_pos y, if_pos y.symm, Nat.one_mul, y]
            · rw [if_neg y, if_neg (fun z => y z.symm), Nat.zero_mul, Nat.add_zero, j3' c hc]
        have hfe2 : ∀ c, c < nc → feas (fun k i => fit t k (f i)) (kk + 1) c (bitW nc (kk + 1) (P * nc + i) c) := by
          intro c hc j hj hb
          rw [bitW_suc hi] at hb
          by_cases y : j = kk
          · subst y
            by_cases y2 : i = c
            · rw [← y2]; exact hf2
            · rw [if_neg y2, bt_top (bitW_lt ..) 0 (by omega)] at hb; omega
          · rw [bt_add (by omega)] at hb
            exact hfe c hc j (by omega) hb
        obtain ⟨Z, eZ, hZ⟩ := ih (kk + 1) (P * nc + i) d w' Y (by omega) (by omega) hfe2 hwi hYS
        obtain ⟨⟨hm3, l1, l2⟩, ⟨g3, l3, l3'⟩, ⟨g4, l4, l4'⟩, l5, l6⟩ := hZ
        have hv : g3 i = Int32.ofNat (bitW nc kk P i + 2 ^ kk) := by rw [l3' i hi, bitW_suc hi, if_pos rfl, Nat.one_mul]
        have hbt : bt (bitW nc kk P i + 2 ^ kk) kk = 1 := by
          have := bt_top hbw 1 (by omega)
          rwa [Nat.one_mul] at this
        have hcl := clr6 ⟨bitW nc kk P i + 2 ^ kk, by omega⟩ ⟨kk, by omega⟩ hbt
        dsimp only at hcl
        rw [Nat.add_sub_cancel] at hcl
        rw [if_pos (isK_t y1 rfl), eZ, Option.bind_some, xR_o (b := 167) l2 rfl rfl, Option.bind_some, Option.bind_some, aI_r (x := g3 i) l3 (by omega) rfl (by omega) (by omega) rfl, Option.bind_some, aPut_r l3 (by omega) (by omega), Option.bind_some, hv, hcl.1, Option.bind_some]
        refine Or.inr ⟨_, rfl, rfl, ⟨⟨hm3, l1, (cup_ne (by omega)).trans l2⟩, ⟨fun j => if j = i then Int32.ofNat (bitW nc kk P i) else g3 j, ?_, fun c hc => ?_⟩, ⟨g4, (cup_ne (by omega)).trans l4, l4'⟩, fun q h1 h2 h3 => (cup_ne h2).trans (l5 q h1 h2 h3), l6⟩, hwle⟩
        · dsimp only
          rw [cup_eq]
          have : rowC (fun j => if j = i then Value.int (Int32.ofNat (bitW nc kk P i)) else .int (g3 j)) 4 = rowC (fun j => .int (if j = i then Int32.ofNat (bitW nc kk P i) else g3 j)) 4 := rowC_congr (fun j _ => by split <;> rfl)
          rw [this]
        · dsimp only
          by_cases y : c = i
          · rw [if_pos y, y]
          · rw [if_neg y, l3' c hc, bitW_suc hi, if_neg (fun z => y z.symm), Nat.zero_mul, Nat.add_zero]
      · have hb2 : bt (cob t (f kk) nc) i = 0 := by rw [cob_bit hi, if_neg hf2]
        rw [if_neg (by rw [i_bt1 (by omega) (by omega), hb2]; decide), Option.bind_some]
        have hskip : dealF nc (smW t nc n f) m (P * nc + i) w' = w' := by
          refine dealF_skip (fun W hW => ?_) (by omega)
          have hbit : bt (bitW nc n W i) kk = 1 := by
            have h1 := bitW_pre (nc := nc) (k := kk + 1) (m := m) (by omega) (w := W) (c := i) (i := kk) (by omega)
            rw [hW, show kk + 1 + m = n by omega, bitW_suc hi, if_pos rfl, bt_top (bitW_lt ..) 1 (by omega)] at h1
            exact h1
          have hno : ¬ feas (fun k i => fit t k (f i)) n i (bitW nc n W i) := fun z => hf2 (z kk hkk hbit)
          have h3 := sumN_ge (f := fun c => (bstR t n f c (bitW nc n W c)).1) hi
          rw [bstR_no hno] at h3
          have h3 : 1152921504606846976 ≤ smW t nc n f W := h3
          omega
        rw [hskip]
        exact Or.inr ⟨_, rfl, rfl, hX0, hwi⟩
    · rintro ⟨X, q⟩ ⟨hq, hX, hwi⟩
      dsimp only at hq hX ⊢
      subst hq
      have hXE := DE_st hE hX
      obtain ⟨⟨rX, _, _, _⟩, _, _⟩ := hXE
      obtain ⟨_, ⟨m1', p2'⟩, _⟩ := rX
      have hX0 := hX
      obtain ⟨⟨hm2, j1, j2⟩, _⟩ := hX
      refine ⟨X, ?_, hX0⟩
      rw [xN_o j2 rfl rfl, Option.bind_some, if_pos (isK_t p2' rfl), alSize_r p2', Option.bind_some, if_neg (by rw [i_lt (by omega) (by omega)]; omega)]
