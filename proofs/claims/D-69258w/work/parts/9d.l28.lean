/-! the lifts: give, both sides alike -/
/-- what was made of all cars -/
theorem c_told {s0 s : CS} {t T : TS} {nc n nk W : Nat} {f C D M R : Nat → Nat} {b : Nat → Option Nat} {m1 : Int32} {hm : Int32} {lst : Int64} {g : Nat → Int32} (h179 : 179 ≤ s0.2.1) (hw0 : wfS s0) (v : Lv t nc n f) (hE : DE s0 t nc n nk f C D M b R) (hch : (chs t nc nk).length ≤ 6) (hf : ∀ i, i < n → mayG t nc (f i) = true) (hu : ∀ k, k < nc → ∀ x y, x < n → y < n → begB t f k x = true → begB t f k y = true → x = y) (hfe : ∀ k, k < nc → feas (fun k i => fit t k (f i)) n k (bitW nc n W k)) (p2 : s0.1 163 = some (true, false, 1013, .int m1 :: rowC (fun k => .ref (C k)) nc)) (e2 : s0.1 162 = some (true, false, 49, [.ref 163, .ref 164, .int (t.1 606), .int (t.1 612), .int hm, .int (t.1 1), .ref 165, .ref 166, .ref 167, .ref 168, .long lst, .ref 169])) (e8 : s0.1 168 = some (true, true, 0, rowC (fun i => .int (g i)) 4)) (hg : ∀ c, c < nc → g c = Int32.ofNat (bitW nc n W c)) (w : TM s0 s t T nc nk) :
    Tr (wh (S := CS × Int32) (X := CS) (fun p51 => Option.bind (α := Int32) (alHas p51.1 163 p51.2) (fun x26 => (if x26 = 0 then some (.inr p51.1) else Option.bind (α := Value) (alNext p51.1 163 m1 p51.2) (fun e27 => Option.bind (α := Nat) (toN p51.1 [95] e27) (fun a28 => Option.bind (α := Nat) (xN p51.1 [(49, 7)] 162) (fun a29 => Option.bind (α := Int32) (xI p51.1 [(95, 0)] a28) (fun x30 => (if isK p51.1 [13] a29 = true then Option.bind (α := Value) (alGet p51.1 a29 x30) (fun e31 => Option.bind (α := Nat) (toN p51.1 [97] e31) (fun a32 => Option.bind (α := Nat) (xN p51.1 [(49, 9)] 162) (fun a33 => Option.bind (α := Int32) (xI p51.1 [(95, 0)] a28) (fun x34 => Option.bind (α := Int32) (aI p51.1 [0, 12] a33 x34) (fun x35 => (if isK p51.1 [97] a32 = true then Option.bind (α := Nat) (c_1081 a32 x35 p51.1) (fun x36 => (if isK p51.1 [49] 162 = true then Option.bind (α := CS) (c_534 162 a28 x36 p51.1) (fun x37 => some (.inl (x37, p51.2 + 1))) else none)) else none)))))) else none)))))))) (s, 0))
      (fun S => TM s0 S t (tellAll t nc n f W nc T) nc nk ∧ S.2.2.1 ≤ s.2.2.1 + 96 ∧ S.2.2.2 ≤ s.2.2.2 + 288) := by
  have hn := v.2.1
  have hn6 := v.2.2.1
  obtain ⟨hT, ⟨mv, e6⟩, hTo⟩ := hE
  have hT0 := hT
  obtain ⟨r, _, _, hO⟩ := hT0
  obtain ⟨_, _, _, _, _, _, p7, p8, p9, p10, p11, p12, p13, p14, p15, p16, p17, p18, _⟩ := r
  have old : ∀ (X : CS) q c, (∀ q, q < s0.2.1 → q ≠ 169 → X.1 q = s0.1 q) → s0.1 q = some c → q ≠ 169 → X.1 q = some c := fun X q c hX h h2 => by rw [hX q (wf_lt hw0 h) h2]; exact h
  refine wh_cnt nc (fun i (a : CS × Int32) => a.2 = Int32.ofNat i ∧ TM s0 a.1 t (tellAll t nc n f W i T) nc nk ∧ a.1.2.2.1 ≤ s.2.2.1 + 24 * i ∧ a.1.2.2.2 ≤ s.2.2.2 + 72 * i) ?_ ?_ ⟨rfl, w, by show s.2.2.1 ≤ _; omega, by show s.2.2.2 ≤ _; omega⟩
  · rintro i ⟨X, q⟩ hi ⟨hq, x1, x2, x3⟩
    dsimp only at hq x1 x2 x3 ⊢
    subst hq
    have hC := p14 i hi
    have nC : C i ≠ 169 := by omega
    have u3 : X.1 163 = _ := old X _ _ x1.1 p2 (by omega)
    have u2 : X.1 162 = _ := old X _ _ x1.1 e2 (by omega)
    have u6 : X.1 166 = _ := old X _ _ x1.1 e6 (by omega)
    have u8 : X.1 168 = _ := old X _ _ x1.1 e8 (by omega)
    have uC : X.1 (C i) = _ := old X _ _ x1.1 hC.1 nC
    have hbw := bitW_lt nc n W i
    have hToX : TouA X t n f i C (R i) := TouA_fr (hTo i hi) (fun q c h1 h2 => old X q c x1.1 h2 (by omega))
    obtain ⟨B, A, z1, _, _, _, _⟩ := c_tRow hToX hn6 hbw (hfe i hi)
    obtain ⟨B', A', z1', z2', z3', _, _⟩ := c_tRow (hTo i hi) hn6 hbw (hfe i hi)
    have hBB : B = B' := by
      obtain ⟨_, RL, TT, mc, g1, h1, h2, h3, h4⟩ := hTo i hi
      obtain ⟨B1, A1, k1, k2, k3, k4, k5⟩ := h4 _ hbw (hfe i hi)
      have a1 : c_1081 (R i) (Int32.ofNat (bitW nc n W i)) s0 = some B1 := by
        have h64 := pow_n6 hn6
        unfold c_1081
        rw [xN_o h1 rfl rfl, Option.bind_some, if_pos (isK_t h3 rfl), alGet_r h3 hbw (by omega), Option.bind_some, k1]
        show Option.bind (toN s0 [98] (.ref B1)) _ = _
        rw [toN_o k4 rfl]; rfl
      have a2 : c_1081 (R i) (Int32.ofNat (bitW nc n W i)) X = some B1 := by
        have h64 := pow_n6 hn6
        have h3' := old X _ _ x1.1 h3 (by omega)
        have k4' := old X _ _ x1.1 k4 (by omega)
        unfold c_1081
        rw [xN_o (old X _ _ x1.1 h1 (by have := (hTo i hi).1; omega)) rfl rfl, Option.bind_some, if_pos (isK_t h3' rfl), alGet_r h3' hbw (by omega), Option.bind_some, k1]
        show Option.bind (toN X [98] (.ref B1)) _ = _
        rw [toN_o k4' rfl]; rfl
      rw [a1] at z1'
      rw [a2] at z1
      exact (Option.some.inj z1).symm.trans (Option.some.inj z1')
    have hok := bstR_ok v hi (hfe i hi) (hu i hi)
    have hl6 : (bstR t n f i (bitW nc n W i)).2.length ≤ 6 := Nat.le_trans (bstR_len ..) hn6
    obtain ⟨Y, eY, y1, y2, y3⟩ := c_tell h179 hw0 v hi hT hch hf (fun x hx => (plL_mem.mp (hok.2.2 x hx)).1) hl6 z2' z3' x1
    obtain ⟨_, RL, TT, mc, g1, h1, _⟩ := hToX
    rw [alHas_r u3 (by omega) (by omega), Option.bind_some, if_neg (show ¬ i = nc by omega), if_neg (by decide), alNext_r u3 hi (by omega), Option.bind_some, toN_o uC rfl, Option.bind_some, xN_o (b := 166) u2 rfl rfl, Option.bind_some, xI_o (x := Int32.ofNat i) uC rfl rfl, Option.bind_some, if_pos (isK_t u6 rfl), alGet_r u6 hi (by omega), Option.bind_some, toN_o h1 rfl, Option.bind_some, xN_o (b := 168) u2 rfl rfl, Option.bind_some, Option.bind_some, aI_r (x := g i) u8 (by omega) rfl (by omega) (by omega) rfl, Option.bind_some, if_pos (isK_t h1 rfl), hg i hi, z1, Option.bind_some, if_pos (isK_t u2 rfl), hBB, eY, Option.bind_some, i_suc]
    refine Or.inr ⟨_, rfl, rfl, by rw [tellAll_suc]; exact y1, ?_, ?_⟩
    · show Y.2.2.1 ≤ _; omega
    · show Y.2.2.2 ≤ _; omega
  · rintro ⟨X, q⟩ ⟨hq, x1, x2, x3⟩
    dsimp only at hq x1 x2 x3 ⊢
    subst hq
    have u3 : X.1 163 = _ := old X _ _ x1.1 p2 (by omega)
    exact ⟨X, by rw [alHas_r u3 (by omega) (by omega), Option.bind_some, if_pos rfl, if_pos rfl], x1, by omega, by omega⟩
theorem sr_rt {T V : TS} {Z : Nat} (h : Tl T V) (hZ : Z ≠ 8) : rt V Z = rt T Z := by
  have m616 : mI 616 = 8 := rfl
  unfold rt
  refine Prod.ext ?_ (Prod.ext ?_ (Prod.ext ?_ ?_))
  · funext c
    by_cases y : mI c = Z
    · simp only [if_pos y]
      exact h.1 c (fun z => hZ (by rw [← y, z]; rfl))
    · simp only [if_neg y]
  · funext c
    simp only [h.2.1]
  · funext c j
    by_cases y : mR c = Z
    · simp only [if_pos y]
      rw [h.2.2.1 c (fun z => hZ (by rw [← y, z]; rfl)) (fun z => hZ (by rw [← y, z]; rfl)) (fun z => hZ (by rw [← y]; rcases (show c = 172 ∨ c = 173 ∨ c = 174 ∨ c = 175 by omega) with e | e | e | e <;> rw [e] <;> rfl))]
    · simp only [if_neg y]
  · funext c j
    by_cases y : mR c = Z
    · simp only [if_pos y]
      rw [h.2.2.2 c (fun z => hZ (by rw [← y, z]; rfl))]
    · simp only [if_neg y]
theorem chl_rt {t T : TS} {Z : Nat} (h : Chl t T) (hZ : Z ≠ 8) : rt T Z = rt t Z := by
  unfold rt
  refine Prod.ext ?_ (Prod.ext ?_ (Prod.ext ?_ ?_))
  · funext c
    by_cases y : mI c = Z
    · simp only [if_pos y]
      exact h.1 c (fun z => hZ (by rw [← y, z]; rfl))
    · simp only [if_neg y]
  · funext c
    simp only [h.2.1]
  · funext c j
    by_cases y : mR c = Z
    · simp only [if_pos y]
      rw [h.2.2.2 c j (fun z => hZ (by rw [← y, z]; rfl))]
    · simp only [if_neg y]
  · funext c j
    simp only [h.2.2.1]
/-- give, where the house is built -/
theorem li_give {own : Nat → Nat} {s : CS} {t : TS} {nc nk : Nat} {C D M : Nat → Nat} {b : Nat → Option Nat} {nw : Int32} {lst : Int64} (hw : wfS s) (hs : 179 ≤ s.2.1) (r : R8x (rs s.1 own 8) t nc nk C D M b) (h1 : s.1 162 = some (true, false, 49, [.ref 163, .ref 164, .int (t.1 606), .int nw, .int (t.1 613), .int (t.1 1), .ref 165, .ref 166, .ref 167, .ref 168, .long lst, .ref 169])) (hb : ¬ t.1 1 = 0) (hcnt : s.2.2.1 < 3998000000) :
    ∃ x s' t' own', c_530 162 (t.1 612) s = some (.inl (x, s')) ∧ t_851 t = some (x, t') ∧ t'.1 0 = t.1 0 ∧ (∀ Z, Z ≠ 8 → rt t' Z = rt t Z) ∧ Frm (fun X => X = 8) own own' s s' ∧ R8 (rs s'.1 own' 8) t' ∧ s'.2.2.1 ≤ s.2.2.1 + 1000 ∧ s'.2.2.2 ≤ s.2.2.2 + 7000 := by
  have own8 : ∀ q c, rs s.1 own 8 q = some c → own q = 8 ∧ s.1 q = some c := fun q c h => rs_some.mp h
  obtain ⟨mo, eo, o1, o2, o3, o4, o5⟩ := li_len r
  have r' := r
  obtain ⟨p1, ⟨m1, p2⟩, ⟨m5, e5, p3⟩, ⟨m6, e6, p4⟩, ⟨f7, p5⟩, ⟨f8, p6⟩, p7, p8, p9, p10, p11, p12, p13, p14, p15, p16, p17, p18, _, ⟨mm, em, q1, q2, q3, q4, q5, q6⟩⟩ := r'
  -- the reference's choice
  obtain ⟨T, eT, hT, h14, h168⟩ := t_choose p7 p8 p9 p10 (fun c hc => (p16 c hc).1) (fun c hc => (p16 c hc).2.1.2.2.2) o5
  rw [← chs_cg hT] at h14 h168
  have v := lv_of r hT h14 h168
  -- the component's state before its choice
  have rA : R8x s.1 t nc nk C D M b := by
    obtain ⟨hm2, x2, y2, z2⟩ := p1
    exact R8x_fr r ⟨_, _, _, h1⟩ ⟨_, _, (own8 _ _ p3).2⟩ ⟨_, _, (own8 _ _ p4).2⟩ ⟨_, (own8 _ _ p5).2⟩ ⟨_, (own8 _ _ p6).2⟩ (fun q c _ _ _ _ _ e => (own8 q c e).2)
  have hr := fun c (hc : c ≠ 168) => funext (fun j => hT.2.2.2 c j hc)
  have rT : R8x s.1 T nc nk C D M b := by
    have hm := R8m_cg (T := T) rA.2.2.2.2.2.2.2.2.2.2.2.2.2.2.2.2.2.2.2 (fun c j a1 a2 => hT.2.2.2 c j (by omega))
    exact R8x_fin rA ⟨_, _, _, h1⟩ ⟨_, _, (own8 _ _ p3).2⟩ ⟨_, _, (own8 _ _ p4).2⟩ ⟨_, (own8 _ _ p5).2⟩ ⟨_, (own8 _ _ p6).2⟩ (fun q c _ _ _ _ _ _ e => e) (fun c hc => hT.1 c (by omega)) (fun c a1 a2 => hr c (by omega)) hm
  have t606 : T.1 606 = t.1 606 := hT.1 606 (by omega)
  have t1 : T.1 1 = t.1 1 := hT.1 1 (by omega)
  have t612 : T.1 612 = t.1 612 := hT.1 612 (by omega)
  have t613 : T.1 613 = t.1 613 := hT.1 613 (by omega)
  generalize hn : (chs T nc nk).length = n at v h14 h168
  generalize hf : (fun i => (chs T nc nk).getD i 0) = f at v
  have hfi : ∀ i, f i = (chs T nc nk).getD i 0 := fun i => by rw [← hf]
  have hn6 := v.2.2.1
  have hmay : ∀ i, i < n → f i < nk ∧ mayG T nc (f i) = true := fun i hi => by
    rw [hfi]; exact chs_get (by omega)
  have hO : ∀ i, i < n → f i < nk ∧ isO T (f i) := fun i hi => ⟨(hmay i hi).1, (mayG_e (hmay i hi).2).1⟩
  have h0 : 0 < n → T.1 613 = 0 := fun h => (mayG_e (hmay 0 h).2).2.1
  have hc : ∀ i, i < n → ∃ k, k < nc ∧ fit T k (f i) = true := fun i hi => cob_pos (mayG_e (hmay i hi).2).2.2
  have p18T := rT.2.2.2.2.2.2.2.2.2.2.2.2.2.2.2.2.2.1
  have hu : ∀ k, k < nc → ∀ x y, x < n → y < n → begB T f k x = true → begB T f k y = true → x = y := by
    intro k hk x y hx hy h3 h4
    unfold begB at h3 h4
    rw [decide_eq_true_eq] at h3 h4
    have h5 := (p18T k (f x) hk).mpr ⟨(hO x hx).1, (hO x hx).2, h3⟩
    have h6 := (p18T k (f y) hk).mpr ⟨(hO y hy).1, (hO y hy).2, h4⟩
    have h7 : f x = f y := Option.some.inj (h5.symm.trans h6)
    rcases Nat.lt_trichotomy x y with z | z | z
    · have := v.2.2.2.2.2.2.1 x y z hy; omega
    · exact z
    · have := v.2.2.2.2.2.2.1 y x z hx; omega
  -- the reference gives
  obtain ⟨⟨xr, U⟩, eU, hx1, V, hV, hU⟩ := t_give v h0 eT (t606.trans p9) p10 hu hc
  dsimp only at hx1 hU
  have hWok := bstW_ok v hu hc
  -- the component
  unfold c_530
  rw [xI_o (x := t.1 1) h1 rfl rfl, Option.bind_some, may_eq, if_neg hb, Option.bind_some, Sum.elim_inl, xP_c (fs' := [.ref 163, .ref 164, .int (t.1 606), .int (t.1 612), .int (t.1 613), .int (t.1 1), .ref 165, .ref 166, .ref 167, .ref 168, .long lst, .ref 169]) h1 rfl (by simp) rfl, Option.bind_some]
  generalize hS1 : cup s 162 (true, false, 49, [.ref 163, .ref 164, .int (t.1 606), .int (t.1 612), .int (t.1 613), .int (t.1 1), .ref 165, .ref 166, .ref 167, .ref 168, .long lst, .ref 169]) = S1
  have a1 : S1.1 162 = some (true, false, 49, [.ref 163, .ref 164, .int (T.1 606), .int (T.1 612), .int (T.1 613), .int (T.1 1), .ref 165, .ref 166, .ref 167, .ref 168, .long lst, .ref 169]) := by rw [← hS1, cup_eq, t606, t1, t612, t613]
  have a2 : ∀ q, q ≠ 162 → S1.1 q = s.1 q := fun q hq => by rw [← hS1, cup_ne hq]
  have a3 : S1.2 = s.2 := by rw [← hS1]; rfl
  have a4 : wfS S1 := by rw [← hS1]; exact wf_cup hw (wf_lt hw h1)
  have rS1 : R8x S1.1 T nc nk C D M b := R8x_fr rT ⟨_, _, _, a1⟩ ⟨_, _, (a2 165 (by omega)).trans (own8 _ _ p3).2⟩ ⟨_, _, (a2 166 (by omega)).trans (own8 _ _ p4).2⟩ ⟨_, (a2 167 (by omega)).trans (own8 _ _ p5).2⟩ ⟨_, (a2 168 (by omega)).trans (own8 _ _ p6).2⟩ (fun q c z _ _ _ _ e => by rw [a2 q z]; exact e)
  rw [if_pos (isK_t a1 rfl)]
  obtain ⟨S2, E2, ⟨mc2, b1⟩, b2, b3, b4, b5⟩ := c_choose rS1 a1 rfl (by rw [a3]; omega)
  rw [E2, Option.bind_some]
  have hrow : (chs T nc nk).map (fun c => Value.ref (D c)) = rowC (fun i => .ref (D (f i))) n := by
    refine rowC_ext (by rw [List.length_map, hn]) (fun i hi => ?_)
    rw [List.getElem?_map, hfi, List.getD_eq_getElem?_getD, List.getElem?_eq_getElem (by omega)]; rfl
  rw [hrow] at b1
  have c162 : S2.1 162 = _ := (b2 162 (by omega)).trans a1
  have c166 : S2.1 166 = some (true, false, 1013, .int m6 :: e6) := (b2 166 (by omega)).trans ((a2 166 (by omega)).trans (own8 _ _ p4).2)
  have c163 : S2.1 163 = some (true, false, 1013, .int m1 :: rowC (fun k => .ref (C k)) nc) := (b2 163 (by omega)).trans ((a2 163 (by omega)).trans (own8 _ _ p2).2)
  have hw2 : wfS S2 := fun q hq => by
    rw [b3, a3] at hq
    rw [b2 q (by omega)]; exact a4 q (by rw [a3]; omega)
  have l166 : 166 < S2.2.1 := by rw [b3, a3]; omega
  rw [xN_o (b := 166) c162 rfl rfl, Option.bind_some, if_pos (isK_t c166 rfl)]
  unfold alClear
  rw [alC_l c166, Option.bind_some, Option.bind_some]
  generalize hS3 : cput S2 1013 166 0 0 [.int (m6 + 1)] = S3
  have d166 : S3.1 166 = some (true, false, 1013, [.int (m6 + 1)]) := by rw [← hS3, cput_eq]
  have d2 : ∀ q, q ≠ 166 → S3.1 q = S2.1 q := fun q hq => by rw [← hS3, cput_ne hq]
  have d3 : S3.2 = S2.2 := by rw [← hS3]; rfl
  have hw3 : wfS S3 := by rw [← hS3]; exact wf_cup hw2 l166
  have d162 := (d2 162 (by omega)).trans c162
  have d163 := (d2 163 (by omega)).trans c163
  rw [xN_o (b := 163) d162 rfl rfl, Option.bind_some, if_pos (isK_t d163 rfl), alMc_l d163, Option.bind_some]
  have rS2 : R8x S3.1 T nc nk C D M b := R8x_fr rS1 ⟨_, _, _, d162⟩ ⟨_, _, (d2 165 (by omega)).trans b1⟩ ⟨_, _, d166⟩ ⟨_, (d2 167 (by omega)).trans ((b2 167 (by omega)).trans ((a2 167 (by omega)).trans (own8 _ _ p5).2))⟩ ⟨_, (d2 168 (by omega)).trans ((b2 168 (by omega)).trans ((a2 168 (by omega)).trans (own8 _ _ p6).2))⟩ (fun q c _ z1 z2 _ _ e => by rw [d2 q z2, b2 q z1]; exact e)
  have hTE : TE (chg S3 1 4) T nc n nk f C D M b := ⟨rS2, ⟨T.1 613, lst, h0, d162⟩, ⟨mc2, (d2 165 (by omega)).trans b1⟩, hO⟩
  refine Exists.elim (c_all (s := chg S3 1 4) (m1 := m1) (lst := lst) hw3 (by show 179 ≤ S3.2.1; rw [d3, b3, a3]; exact hs) v hTE d166 d163) ?_
  rintro S4 ⟨E4, ⟨R, hDE⟩, ⟨g7, i1, i2⟩, i3, i4, i5, i6, i7⟩
  rw [E4, Option.bind_some]
  have i4 : s.2.1 ≤ S4.2.1 := by
    have i4 : S3.2.1 ≤ S4.2.1 := i4
    rw [d3, b3, a3] at i4; exact i4
  have i3 : ∀ q, q < s.2.1 → q ≠ 166 → q ≠ 167 → S4.1 q = S3.1 q := fun q h1 h2 h3 => i3 q (by show q < S3.2.1; rw [d3, b3, a3]; exact h1) h2 h3
  have l162 := wf_lt hw h1
  have j162 := (i3 162 l162 (by omega) (by omega)).trans d162
  rw [xP_c (fs' := [.ref 163, .ref 164, .int (T.1 606), .int (T.1 612), .int (T.1 613), .int (T.1 1), .ref 165, .ref 166, .ref 167, .ref 168, .long 1152921504606846975, .ref 169]) j162 rfl (by simp) rfl, Option.bind_some]
  generalize hS5 : cup S4 162 (true, false, 49, [.ref 163, .ref 164, .int (T.1 606), .int (T.1 612), .int (T.1 613), .int (T.1 1), .ref 165, .ref 166, .ref 167, .ref 168, .long 1152921504606846975, .ref 169]) = S5
  have k1 : S5.1 162 = some (true, false, 49, [.ref 163, .ref 164, .int (T.1 606), .int (T.1 612), .int (T.1 613), .int (T.1 1), .ref 165, .ref 166, .ref 167, .ref 168, .long 1152921504606846975, .ref 169]) := by rw [← hS5, cup_eq]
  have k2 : ∀ q, q ≠ 162 → S5.1 q = S4.1 q := fun q hq => by rw [← hS5, cup_ne hq]
  have k3 : S5.2 = S4.2 := by rw [← hS5]; rfl
  have hw5 : wfS S5 := by rw [← hS5]; exact wf_cup i5 (by omega)
  have l168 : (168 : Nat) < s.2.1 := by omega
  have k168 : S5.1 168 = some (true, true, 0, rowC (fun i => .int (f8 i)) 4) := (k2 168 (by omega)).trans ((i3 168 l168 (by omega) (by omega)).trans ((d2 168 (by omega)).trans ((b2 168 (by omega)).trans ((a2 168 (by omega)).trans (own8 _ _ p6).2))))
  have hDE5 : DE S5 T nc n nk f C D M b R := by
    obtain ⟨x1, ⟨mv, x2⟩, x3⟩ := hDE
    have x2' := (k2 166 (by omega)).trans x2
    exact ⟨TE_fr x1 ⟨_, _, h0, k1⟩ ⟨_, _, x2'⟩ ⟨_, (k2 167 (by omega)).trans i1⟩ ⟨_, k168⟩ (fun q c z1 _ _ _ e => by rw [k2 q z1]; exact e), ⟨mv, x2'⟩, fun k hk => TouA_fr (x3 k hk) (fun q c z e => by rw [k2 q (by omega)]; exact e)⟩
  have hDS : DS S5 S5 T nc n 0 0 (1152921504606846975, 0) := ⟨⟨_, h0, k1⟩, ⟨g7, (k2 167 (by omega)).trans i1, fun c hc => by rw [i2 c hc]; rfl⟩, ⟨f8, k168, Or.inl rfl⟩, fun _ _ _ _ => rfl, rfl⟩
  rw [if_pos (isK_t k1 rfl)]
  obtain ⟨S6, E6, hS6⟩ := c_deal v hDE5 hu n 0 0 200 (1152921504606846975, 0) S5 (by omega) (by omega) (fun c hc j hj => by omega) (Nat.le_refl _) hDS
  have E6 : c_533 200 162 0 S5 = some S6 := E6
  rw [E6, Option.bind_some]
  have hbest : dealF nc (smW T nc n f) n 0 (1152921504606846975, 0) = bstW T nc n f := by
    have hle := hWok.1
    unfold bstW dealF at hle ⊢
    have key : ∀ w, smW T nc n f w < 1152921504606846975 ∨ 1152921504606846975 + 1 ≤ smW T nc n f w := by
      intro w
      by_cases y : ∃ c, c < nc ∧ ¬ feas (fun k i => fit T k (f i)) n c (bitW nc n w c)
      · obtain ⟨c, y1, y2⟩ := y
        have h3 := sumN_ge (f := fun c => (bstR T n f c (bitW nc n w c)).1) y1
        rw [bstR_no y2] at h3
        exact Or.inr h3
      · have h3 : smW T nc n f w ≤ nc * 126600000 := sumN_le (fun c hcn => (bstR_ok v hcn (Classical.byContradiction (fun z => y ⟨c, hcn, z⟩)) (hu c hcn)).1)
        have h4 : nc * 126600000 ≤ 4 * 126600000 := Nat.mul_le_mul_right _ v.2.1
        exact Or.inl (by omega)
    rcases foldW_two (S := smW T nc n f) (N := 1152921504606846975) (x := 0) (y := 0) (l := List.range' (0 * nc ^ n) (nc ^ n)) (b := (1152921504606846976, 0)) (b' := (1152921504606846975, 0)) (fun w _ => key w) (Or.inr ⟨rfl, rfl⟩) with z | z
    · exact z.symm
    · rw [z.1] at hle
      exact absurd hle (by decide)
  rw [hbest] at hS6
  have hDE6 := DE_st hDE5 hS6
  obtain ⟨⟨hm6, u1, u2⟩, ⟨g6, u3, u3'⟩, ⟨g8, u4, u4'⟩, u5, u6⟩ := hS6
  have u4'' : ∀ c, c < nc → g8 c = Int32.ofNat (bitW nc n (bstW T nc n f).2 c) := by
    rcases u4' with z | z
    · have := hWok.1
      rw [z] at this
      exact absurd this (by decide)
    · exact z
  -- what was made
  have k169 : S5.1 169 = some (true, false, 1042, .int mm :: fl em) := (k2 169 (by omega)).trans ((i3 169 (by omega) (by omega) (by omega)).trans ((d2 169 (by omega)).trans ((b2 169 (by omega)).trans ((a2 169 (by omega)).trans (own8 _ _ q1).2))))
  have v169 : S6.1 169 = some (true, false, 1042, .int mm :: fl em) := (u5 169 (by omega) (by omega) (by omega)).trans k169
  have v163 : S6.1 163 = some (true, false, 1013, .int m1 :: rowC (fun k => .ref (C k)) nc) := (u5 163 (by omega) (by omega) (by omega)).trans ((k2 163 (by omega)).trans ((i3 163 (by omega) (by omega) (by omega)).trans d163))
  rw [xN_o (b := 169) u2 rfl rfl, Option.bind_some, if_pos (isK_t v169 rfl), tmClear_l v169, Option.bind_some]
  generalize hS7 : cput S6 1042 169 1 0 [.int (mm + 1)] = S7
  have w169 : S7.1 169 = some (true, false, 1042, .int (mm + 1) :: fl []) := by rw [← hS7, cput_eq]; rfl
  have w2 : ∀ q, q ≠ 169 → S7.1 q = S6.1 q := fun q hq => by rw [← hS7, cput_ne hq]
  have w3 : S7.2 = (S6.2.1, S6.2.2.1 + 1, S6.2.2.2 + 0) := by rw [← hS7]; rfl
  have h62 : S6.2.1 = S4.2.1 := by rw [u6, k3]
  have hw6 : wfS S6 := fun q hq => by
    rw [h62] at hq
    have e : S6.2.1 = S5.2.1 := by rw [u6]
    rw [u5 q (by omega) (by omega) (by omega)]
    exact hw5 q (by rw [← e, h62]; exact hq)
  have hw7 : wfS S7 := by rw [← hS7]; exact wf_cup hw6 (by rw [h62]; omega)
  have w162 := (w2 162 (by omega)).trans u2
  have w163 := (w2 163 (by omega)).trans v163
  rw [xN_o (b := 163) w162 rfl rfl, Option.bind_some, if_pos (isK_t w163 rfl), alMc_l w163, Option.bind_some]
  have hST : Tl T V := ⟨hV.1, hV.2.1, fun c a b _ => hV.2.2.1 c a b, hV.2.2.2⟩
  have h172 : ∀ c, (rsL nk V).2.2.1 172 c = if c < nk then -1 else T.2.2.1 172 c := by
    have : ∀ m c, (rsL m V).2.2.1 172 c = if c < m then -1 else V.2.2.1 172 c := by
      intro m
      induction m with
      | zero => intro c; rw [if_neg (by omega)]; rfl
      | succ m ih =>
        intro c
        rw [rsL_suc, wr_at, ih]
        by_cases y : c = m
        · rw [if_pos ⟨rfl, y⟩, if_pos (by omega)]
        · rw [if_neg (fun z => y z.2)]
          by_cases y2 : c < m
          · rw [if_pos y2, if_pos (by omega)]
          · rw [if_neg y2, if_neg (by omega)]
    intro c
    rw [this, hV.2.2.1 172 (by omega) (by omega)]
  have hRm : R8m (chg S7 1 4).1 (rsL nk V) nk nc M := by
    refine ⟨mm + 1, [], w169, ⟨List.Pairwise.nil, fun e he => (nomatch he), fun z x hz => ?_⟩, fun x hx => (nomatch hx), (by decide), fun c z1 z2 => ?_, fun c z1 z2 => ?_⟩
    · dsimp only at hz
      rw [if_neg] at hz
      · cases hz
      · rintro ⟨y1, y2, y3⟩
        rw [h172, if_pos (by omega)] at y3
        exact y3 rfl
    · rw [h172, if_pos z1] at z2
      exact absurd rfl z2
    · rw [h172, if_neg (by omega), hT.2.2.2 172 c (by omega)]
      exact q6 c z1 z2
  have hTM : TM S6 (chg S7 1 4) T (rsL nk V) nc nk := ⟨fun q _ hq => w2 q hq, (by show S6.2.1 ≤ S7.2.1; rw [w3]; exact Nat.le_refl _), hw7, ⟨M, hRm, fun c z1 z2 => (by rw [h172, if_pos z1] at z2; exact absurd rfl z2)⟩, fun c z1 z2 => (by rw [h172, if_pos z1] at z2; exact absurd rfl z2)⟩
  have hn7 : S7.2.1 = S4.2.1 := by rw [w3]; exact h62
  obtain ⟨S8, E8, hS8, y8, y9⟩ := c_told (by rw [h62]; omega) hw6 v hDE6 (by omega) (fun i hi => (hmay i hi).2) hu hWok.2.2 v163 u2 u4 u4'' hTM
  rw [E8, Option.bind_some]
  obtain ⟨z1, z2, z3, ⟨M', z4, z5⟩, z6⟩ := hS8
  have l6 : ∀ q, q < s.2.1 → q < S6.2.1 := fun q hq => by rw [h62]; omega
  have x162 := (z1 162 (l6 _ l162) (by omega)).trans u2
  rw [xL_o (x := Int64.ofNat (bstW T nc n f).1) x162 rfl rfl, Option.bind_some]
  -- what is unchanged
  have keep : ∀ q, q < s.2.1 → q ≠ 162 → q ≠ 165 → q ≠ 166 → q ≠ 167 → q ≠ 168 → q ≠ 169 → S8.1 q = s.1 q := by
    intro q h2 h3 h4 h5 h6 h7 h8
    rw [z1 q (l6 q h2) h8, u5 q h3 h6 h7, k2 q h3, i3 q h2 h5 h6, d2 q h5, b2 q h4, a2 q h3]
  have hn8 : s.2.1 ≤ S8.2.1 := by have := z2; rw [h62] at this; omega
  have hown : ∀ q, q < s.2.1 → givs own s.2.1 (S8.2.1 - s.2.1) 8 q = own q := fun q hq => if_neg (by omega)
  have hnew : ∀ q, s.2.1 ≤ q → q < S8.2.1 → givs own s.2.1 (S8.2.1 - s.2.1) 8 q = 8 := fun q h2 h3 => if_pos (by omega)
  have o162 : own 162 = 8 := by obtain ⟨x2, y2, w2', w3'⟩ := p1; exact (own8 _ _ w3').1
  have o165 := (own8 _ _ p3).1
  have o166 := (own8 _ _ p4).1
  have o167 := (own8 _ _ p5).1
  have o168 := (own8 _ _ p6).1
  have o169 := (own8 _ _ q1).1
  have in8 : ∀ q c, q < s.2.1 → own q = 8 → S8.1 q = some c → rs S8.1 (givs own s.2.1 (S8.2.1 - s.2.1) 8) 8 q = some c := fun q c h2 h3 h4 => rs_some.mpr ⟨by rw [hown q h2]; exact h3, h4⟩
  have hTlU : Tl T U := by rw [hU]; exact tellAll_tl (rsL_tl hST nk)
  refine ⟨xr, S8, U, givs own s.2.1 (S8.2.1 - s.2.1) 8, by rw [hx1], eU, by rw [hTlU.1 0 (by omega), hT.1 0 (by omega)], fun Z hZ => by rw [sr_rt hTlU hZ, chl_rt hT hZ], ?_, ?_, ?_, ?_⟩
  · refine frm_pt (fun q => q = 162 ∨ q = 165 ∨ q = 166 ∨ q = 167 ∨ q = 168 ∨ q = 169) (fun q _ y => ?_) (fun q h2 h3 => keep q h2 (fun y => h3 (Or.inl y)) (fun y => h3 (Or.inr (Or.inl y))) (fun y => h3 (Or.inr (Or.inr (Or.inl y)))) (fun y => h3 (Or.inr (Or.inr (Or.inr (Or.inl y))))) (fun y => h3 (Or.inr (Or.inr (Or.inr (Or.inr (Or.inl y)))))) (fun y => h3 (Or.inr (Or.inr (Or.inr (Or.inr (Or.inr y))))))) hn8 hown hnew z3
    rcases y with rfl | rfl | rfl | rfl | rfl | rfl
    · exact o162
    · exact o165
    · exact o166
    · exact o167
    · exact o168
    · exact o169
  · refine ⟨nc, nk, C, D, M', b, R8x_fin r ⟨_, _, _, in8 162 _ l162 o162 (by rw [← t606, ← t1]; exact x162)⟩ ⟨_, _, in8 165 _ (by omega) o165 ((z1 165 (l6 _ (by omega)) (by omega)).trans ((u5 165 (by omega) (by omega) (by omega)).trans ((k2 165 (by omega)).trans ((i3 165 (by omega) (by omega) (by omega)).trans ((d2 165 (by omega)).trans b1)))))⟩ ?_ ⟨_, in8 167 _ (by omega) o167 ((z1 167 (l6 _ (by omega)) (by omega)).trans u3)⟩ ⟨_, in8 168 _ (by omega) o168 ((z1 168 (l6 _ (by omega)) (by omega)).trans u4)⟩ (fun q c h2 h3 h4 h5 h6 h7 e => ?_) (fun c hc1 => ?_) (fun c h2 h3 => ?_) (R8m_mono (h := S8.1) (M := M') (by rw [hU]; exact z4) (fun x hx => in8 169 _ (by omega) o169 hx) (fun c x h2 h3 h4 => ?_))⟩
    · obtain ⟨_, ⟨mv, x2⟩, _⟩ := hDE6
      exact ⟨_, _, in8 166 _ (by omega) o166 ((z1 166 (l6 _ (by omega)) (by omega)).trans x2)⟩
    · obtain ⟨y1, y2⟩ := own8 q c e
      have hl := wf_lt hw y2
      exact in8 q c hl y1 (by rw [keep q hl h2 h3 h4 h5 h6 h7]; exact y2)
    · rw [hTlU.1 c (by omega), hT.1 c (by omega)]
    · rw [hTlU.2.2.1 c (by omega) (by omega) (by omega)]; exact hr c (by omega)
    · rw [hU] at h3
      have := z5 c h2 h3
      exact rs_some.mpr ⟨hnew _ (by rw [h62] at this; omega) (wf_lt z3 h4), h4⟩
  · have e1 : S6.2.2.1 = S4.2.2.1 := by rw [u6, k3]
    have e2 : (chg S7 1 4).2.2.1 = S6.2.2.1 + 1 + 1 := by show S7.2.2.1 + 1 = _; rw [w3]
    have e3 : S3.2.2.1 = S2.2.2.1 := by rw [d3]
    have e4 : S1.2.2.1 = s.2.2.1 := by rw [a3]
    have i6 : S4.2.2.1 ≤ S3.2.2.1 + 1 + 197 * 4 := i6
    omega
  · have e1 : S6.2.2.2 = S4.2.2.2 := by rw [u6, k3]
    have e2 : (chg S7 1 4).2.2.2 = S6.2.2.2 + 0 + 4 := by show S7.2.2.2 + 4 = _; rw [w3]; rfl
    have e3 : S3.2.2.2 = S2.2.2.2 := by rw [d3]
    have e4 : S1.2.2.2 = s.2.2.2 := by rw [a3]
    have i7 : S4.2.2.2 ≤ S3.2.2.2 + 4 + 1632 * 4 := i7
    omega
