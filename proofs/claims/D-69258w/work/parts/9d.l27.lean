/-! the lifts: the component gives -/
theorem wf_chg {s : CS} {a b : Nat} (h : wfS s) : wfS (chg s a b) := h
/-- the tours of all cars -/
theorem c_all {s : CS} {t : TS} {nc n nk : Nat} {f C D M : Nat → Nat} {b : Nat → Option Nat} {m1 : Int32} {lst : Int64} {mv : Int32} (hw : wfS s) (h179 : 179 ≤ s.2.1) (v : Lv t nc n f) (hT : TE s t nc n nk f C D M b) (h166 : s.1 166 = some (true, false, 1013, [.int mv])) (p2 : s.1 163 = some (true, false, 1013, .int m1 :: rowC (fun k => .ref (C k)) nc)) :
    Tr (wh (S := CS × Int32) (X := CS) (fun p15 => Option.bind (α := Int32) (alHas p15.1 163 p15.2) (fun x10 => (if x10 = 0 then some (.inr p15.1) else Option.bind (α := Value) (alNext p15.1 163 m1 p15.2) (fun e11 => Option.bind (α := Nat) (toN p15.1 [95] e11) (fun a12 => Option.bind (α := Nat) (xN p15.1 [(49, 7)] 162) (fun a13 => Option.bind (α := Nat × CS) (some (nw p15.1 97 [.null, .null, .null, .null])) (fun n14 => (if isK n14.2 [97] n14.1 = true then Option.bind (α := CS) (c_1077 n14.1 162 a12 n14.2) (fun x15 => (if isK x15 [13] a13 = true then Option.bind (α := CS) (alAdd x15 a13 (.ref n14.1)) (fun s16 => Option.bind (α := Nat) (xN s16 [(49, 8)] 162) (fun a17 => Option.bind (α := Int32) (xI s16 [(95, 0)] a12) (fun x18 => Option.bind (α := CS) (aPut s16 0 a17 x18 (.int 0)) (fun s19 => some (.inl (s19, p15.2 + 1)))))) else none)) else none)))))))) (s, 0))
      (fun S => (∃ R, DE S t nc n nk f C D M b R) ∧ (∃ g : Nat → Int32, S.1 167 = some (true, true, 0, rowC (fun i => .int (g i)) 4) ∧ ∀ c, c < nc → g c = 0) ∧ (∀ q, q < s.2.1 → q ≠ 166 → q ≠ 167 → S.1 q = s.1 q) ∧ s.2.1 ≤ S.2.1 ∧ wfS S ∧ S.2.2.1 ≤ s.2.2.1 + 197 * 4 ∧ S.2.2.2 ≤ s.2.2.2 + 1632 * 4) := by
  have hn := v.2.1
  have hT0 := hT
  obtain ⟨r, ⟨hm, lst, hh, e2⟩, ⟨m5, e5⟩, hO⟩ := hT0
  have r' := r
  obtain ⟨_, _, _, _, ⟨f7, p5⟩, ⟨f8, p6⟩, p7, p8, p9, p10, p11, p12, p13, p14, p15, p16, p17, p18, _⟩ := r'
  have old : ∀ (X : CS) q c, (∀ q, q < s.2.1 → q ≠ 166 → q ≠ 167 → X.1 q = s.1 q) → s.1 q = some c → q ≠ 166 → q ≠ 167 → X.1 q = some c := fun X q c hX h h2 h3 => by rw [hX q (wf_lt hw h) h2 h3]; exact h
  refine wh_cnt nc (fun i (a : CS × Int32) => a.2 = Int32.ofNat i ∧ wfS a.1 ∧ s.2.1 ≤ a.1.2.1 ∧ (∀ q, q < s.2.1 → q ≠ 166 → q ≠ 167 → a.1.1 q = s.1 q) ∧ (∃ g : Nat → Int32, a.1.1 167 = some (true, true, 0, rowC (fun i => .int (g i)) 4) ∧ ∀ c, c < i → g c = 0) ∧ a.1.2.2.1 ≤ s.2.2.1 + 197 * i ∧ a.1.2.2.2 ≤ s.2.2.2 + 1632 * i ∧ ∃ (R : Nat → Nat) (mv : Int32), a.1.1 166 = some (true, false, 1013, .int mv :: rowC (fun k => .ref (R k)) i) ∧ ∀ k, k < i → TouA a.1 t n f k C (R k)) ?_ ?_ ⟨rfl, hw, Nat.le_refl _, fun _ _ _ _ => rfl, ⟨f7, p5, fun c hc => by omega⟩, by show s.2.2.1 ≤ _; omega, by show s.2.2.2 ≤ _; omega, fun _ => 0, mv, h166, fun k hk => by omega⟩
  · rintro i ⟨X, q⟩ hi ⟨hq, x1, x2, x3, ⟨g, x4, x5⟩, x6, x7, R, mv, x8, x9⟩
    dsimp only at hq x1 x2 x3 x4 x5 x6 x7 x8 x9 ⊢
    subst hq
    have u3 : X.1 163 = _ := old X _ _ x3 p2 (by omega) (by omega)
    have u2 : X.1 162 = _ := old X _ _ x3 e2 (by omega) (by omega)
    have hC := (p14 i hi)
    have uC : X.1 (C i) = _ := old X _ _ x3 hC.1 (by omega) (by omega)
    have hTX : TE X t nc n nk f C D M b := TE_fr hT ⟨hm, lst, hh, u2⟩ ⟨_, _, x8⟩ ⟨_, x4⟩ ⟨_, old X _ _ x3 p6 (by omega) (by omega)⟩ (fun q c _ a2 a3 _ e => old X q c x3 e a2 a3)
    obtain ⟨S1, E1, n1⟩ := nw_o (s := X) 97 [.null, .null, .null, .null] x1
    rw [alHas_r u3 (by omega) (by omega), Option.bind_some, if_neg (show ¬ i = nc by omega), if_neg (by decide), alNext_r u3 hi (by omega), Option.bind_some, toN_o uC rfl, Option.bind_some, xN_o (b := 166) u2 rfl rfl, Option.bind_some, Option.bind_some, E1]
    dsimp only
    rw [if_pos (isK_t n1.1 rfl)]
    obtain ⟨Y, eY, y1, y2, y3, y4, y5, y6⟩ := c_tours x1 (by omega) v hi hTX n1
    have l166 := wf_lt x1 x8
    have l167 := wf_lt x1 x4
    have lC := wf_lt x1 uC
    have l162 := wf_lt x1 u2
    have z166 : Y.1 166 = _ := (y2 166 (by omega)).trans x8
    have z167 : Y.1 167 = _ := (y2 167 (by omega)).trans x4
    have z162 : Y.1 162 = _ := (y2 162 (by omega)).trans u2
    have zC : Y.1 (C i) = _ := (y2 _ lC).trans uC
    rw [eY, Option.bind_some, if_pos (isK_t z166 rfl), alAdd_r z166 (by omega) (elO_o y1.2.choose_spec.choose_spec.choose_spec.choose_spec.1), Option.bind_some, xN_o (b := 167) ((cput_ne (by omega)).trans z162) rfl rfl, Option.bind_some, xI_o (x := Int32.ofNat i) ((cput_ne (by omega)).trans zC) rfl rfl, Option.bind_some, aPut_r ((cput_ne (by omega)).trans z167) (by omega) (by omega), Option.bind_some, i_suc]
    refine Or.inr ⟨_, rfl, rfl, ?_, ?_, fun q h1 h2 h3 => ?_, ⟨fun j => if j = i then 0 else g j, ?_, fun c hc => ?_⟩, ?_, ?_, nxt1 i X.2.1 R, mv + 1, ?_, fun k hk => ?_⟩
    · exact wf_cup (wf_cup y4 (by omega)) (by show 167 < Y.2.1; omega)
    · show s.2.1 ≤ Y.2.1; omega
    · dsimp only
      rw [cup_ne h3, cput_ne h2, y2 q (by omega)]; exact x3 q h1 h2 h3
    · dsimp only
      rw [cup_eq]
      have : rowC (fun j => if j = i then Value.int 0 else .int (g j)) 4 = rowC (fun j => .int (if j = i then 0 else g j)) 4 := rowC_congr (fun j _ => by split <;> rfl)
      rw [this]
    · dsimp only
      by_cases y : c = i
      · rw [if_pos y]
      · rw [if_neg y]; exact x5 c (by omega)
    · show Y.2.2.1 + 1 ≤ _; omega
    · show Y.2.2.2 + 16 ≤ _; omega
    · dsimp only
      rw [cup_ne (by omega), cput_eq]
      have : rowC (fun j => if j = i then Value.ref X.2.1 else .ref (R j)) (i + 1) = rowC (fun k => .ref (nxt1 i X.2.1 R k)) (i + 1) := rowC_congr (fun j _ => by unfold nxt1; split <;> rfl)
      rw [this]
    · unfold nxt1
      by_cases y : k = i
      · subst y
        rw [if_pos rfl]
        exact TouA_fr y1 (fun q c hq e => by dsimp only; rw [cup_ne (by omega), cput_ne (by omega)]; exact e)
      · rw [if_neg y]
        exact TouA_fr (x9 k (by omega)) (fun q c hq e => by dsimp only; rw [cup_ne (by omega), cput_ne (by omega), y2 q (wf_lt x1 e)]; exact e)
  · rintro ⟨X, q⟩ ⟨hq, x1, x2, x3, ⟨g, x4, x5⟩, x6, x7, R, mv, x8, x9⟩
    dsimp only at hq x1 x2 x3 x4 x5 x6 x7 x8 x9 ⊢
    subst hq
    have u3 : X.1 163 = _ := old X _ _ x3 p2 (by omega) (by omega)
    have u2 : X.1 162 = _ := old X _ _ x3 e2 (by omega) (by omega)
    have hTX : TE X t nc n nk f C D M b := TE_fr hT ⟨hm, lst, hh, u2⟩ ⟨_, _, x8⟩ ⟨_, x4⟩ ⟨_, old X _ _ x3 p6 (by omega) (by omega)⟩ (fun q c _ a2 a3 _ e => old X q c x3 e a2 a3)
    refine ⟨X, by rw [alHas_r u3 (by omega) (by omega), Option.bind_some, if_pos rfl, if_pos rfl], ⟨R, hTX, ⟨mv, x8⟩, x9⟩, ?_, x3, x2, x1, ?_, ?_⟩
    · exact ⟨g, x4, x5⟩
    · have : 197 * nc ≤ 197 * 4 := Nat.mul_le_mul_left _ hn
      omega
    · have : 1632 * nc ≤ 1632 * 4 := Nat.mul_le_mul_left _ hn
      omega
