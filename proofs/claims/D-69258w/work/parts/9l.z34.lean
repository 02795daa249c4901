/-! the house's build: from the checks on -/
section
variable {s : CS} {own : Nat → Nat} {tu : TS} {K N : Nat}
theorem frm_at {A B : CS} {o o' : Nat → Nat} {X : Nat → Prop} {p : Nat} {c : lCell} (hF : Frm X o o' A B) (hw : wfS A) (hc : A.1 p = some c) (hX : ¬ X (o p)) : B.1 p = some c ∧ o' p = o p := ⟨by rw [hF.2.2.1 p (wf_lt hw hc) hX]; exact hc, hF.2.1 p (wf_lt hw hc)⟩
theorem bld_core {sp0 : Nat} (r : RH s own tu K N) (h1u : tu.1 1 = 0) (hy : tu.1 110 = 1) (h117 : tu.1 117 = Int32.ofNat sp0) (h40 : sp0 ≤ 40) : ∃ W T own' x, Option.bind (xP s [(45, 9)] 100 (.int 1)) (fun s16 => Option.bind (xN s16 [(45, 1)] 100) (fun a17 => Option.bind (xP s16 [(67, 6)] a17 (.int 1)) (fun s18 => Option.bind (xN s18 [(45, 4)] 100) (fun a19 => Option.bind (xP s18 [(100, 7)] a19 (.int 1)) (fun s20 => Option.bind (xN s20 [(45, 5)] 100) (fun a21 => Option.bind (xP s20 [(122, 12)] a21 (.int 1)) (fun s22 => Option.bind (xN s22 [(45, 7)] 100) (fun a23 => Option.bind (xP s22 [(49, 5)] a23 (.int 1)) (fun s24 => Option.bind (xN s24 [(45, 8)] 100) (fun a25 => Option.bind (xN s24 [(45, 1)] 100) (fun a26 => (if isK s24 [50] a25 = true then Option.bind (c_539 a25 a26 s24) (fun x27 => Option.bind (xN x27 [(45, 6)] 100) (fun a28 => Option.bind (xN x27 [(45, 1)] 100) (fun a29 => (if isK x27 [67] a29 = true then Option.bind (c_919 a29 x27) (fun x30 => (if isK x27 [47] a28 = true then Option.bind (c_484 a28 (x30 + 10) x27) (fun x31 => Option.bind (xN x31 [(45, 3)] 100) (fun a32 => Option.bind (xN x31 [(45, 1)] 100) (fun a33 => (if isK x31 [89] a32 = true then Option.bind (c_1021 a32 a33 x31) (fun x34 => (some (.inl (x34.1, x34.2)) : Option (Sum (Int32 × CS) (Nat × CS)))) else none)))) else none)) else none)))) else none)))))))))))) = some (.inl (x, W)) ∧
    Option.bind (some (ptI tu 1 1)) (fun s6 => Option.bind (some (ptI s6 9 (s6.1 117))) (fun s7 => Option.bind (some (ptI s7 300 ((s7.1 9) + 10))) (fun s8 => Option.bind (wh (S := TS × Int32) (X := TS) (fun p75 => (if p75.2 < 576 then Option.bind (t_716 (p75.2 - p75.2 / (24 : Int32) * (24 : Int32)) (p75.2 / 24) p75.1) (fun x9 => Option.bind (stI p75.1 47 576 p75.2 x9) (fun s10 => some (.inl (s10, p75.2 + 1)))) else some (.inr p75.1))) (s8, 0)) (fun v93 => Option.bind (t_584 v93) (fun x11 => Option.bind (t_587 x11) (fun x12 => some (x12.1 10, x12))))))) = some (x, T) ∧ RH W own' T K N ∧ Frm HP own own' s W ∧ T.1 0 = tu.1 0 ∧ W.2.2.1 + PHc W T N ≤ s.2.2.1 + PHc s tu N + 30300 ∧ W.2.2.2 + PHs W T N ≤ s.2.2.2 + PHs s tu N + 591300 := by
  -- the parts are told
  obtain ⟨A1, a1, r1, f1, z1⟩ := flg1 r.wf r.r1
  have w1 := f1.2.2.2.2
  obtain ⟨A2, a2, r2, f2, z2⟩ := flg2 (t := tu) w1 (by rw [frm_rs r.wf f1 (by omega)]; exact r.r2)
  have w2 := f2.2.2.2.2
  obtain ⟨A3, a3, r3, f3, z3, st3⟩ := flg5 (t := tu) w2 (by rw [frm_rs w1 f2 (by omega), frm_rs r.wf f1 (by omega)]; exact r.r5)
  have w3 := f3.2.2.2.2
  obtain ⟨A4, a4, r4, f4, z4⟩ := flg6 (t := tu) (N := N) w3 (by rw [frm_rs w2 f3 (by omega), frm_rs w1 f2 (by omega), frm_rs r.wf f1 (by omega)]; exact r.r6)
  have w4 := f4.2.2.2.2
  obtain ⟨A5, a5, r5, f5, z5⟩ := flg8 (t := tu) w4 (by rw [frm_rs w3 f4 (by omega), frm_rs w2 f3 (by omega), frm_rs w1 f2 (by omega), frm_rs r.wf f1 (by omega)]; exact r.r8)
  have w5 := f5.2.2.2.2
  have rs5 : ∀ Z, Z ≠ 1 → Z ≠ 2 → Z ≠ 5 → Z ≠ 6 → Z ≠ 8 → rs A5.1 own Z = rs s.1 own Z := fun Z b1 b2 b5 b6 b8 => by
    rw [frm_rs w4 f5 b8, frm_rs w3 f4 b6, frm_rs w2 f3 b5, frm_rs w1 f2 b2, frm_rs r.wf f1 b1]
  have z5s : A5.2 = s.2 := by rw [z5, z4, z3, z2, z1]
  obtain ⟨h100, o100⟩ := rs_in r1.1
  have h2c : ∀ {A B : CS} {o o' : Nat → Nat} {X : Nat → Prop}, Frm X o o' A B → wfS A → ∀ {c}, A.1 100 = some c → o 100 = 1 → ¬ X 1 → B.1 100 = some c ∧ o' 100 = 1 := fun hF hw c hc ho hX => by
    obtain ⟨y1, y2⟩ := frm_at hF hw hc (by rw [ho]; exact hX)
    exact ⟨y1, by rw [y2]; exact ho⟩
  have c2 := h2c f2 w1 h100 o100 (by omega)
  have c3 := h2c f3 w2 c2.1 o100 (by omega)
  have c4 := h2c f4 w3 c3.1 o100 (by omega)
  have c5 := h2c f5 w4 c4.1 o100 (by omega)
  -- the reference's rooms
  have R2A : R2 (rs A5.1 own 2) (ptI tu 1 1) := by
    rw [frm_rs w4 f5 (by omega), frm_rs w3 f4 (by omega), frm_rs w2 f3 (by omega)]; exact r2
  obtain ⟨t0, ht0⟩ : ∃ t0, t0 = ptI (ptI (ptI tu 1 1) 9 ((ptI tu 1 1).1 117)) 300 ((ptI (ptI tu 1 1) 9 ((ptI tu 1 1).1 117)).1 9 + 10) := ⟨_, rfl⟩
  have n0 : ∀ c, t0.1 c = if c = 300 then Int32.ofNat (sp0 + 10) else if c = 9 then Int32.ofNat sp0 else if c = 1 then 1 else tu.1 c := fun c => by
    rw [ht0, pt_1]
    by_cases x : c = 300
    · rw [if_pos x, if_pos x]
      show tu.1 117 + 10 = _
      rw [h117, show (10 : Int32) = Int32.ofNat 10 from rfl, i_add]
    · rw [if_neg x, if_neg x, pt_1]
      by_cases y : c = 9
      · rw [if_pos y, if_pos y]; exact h117
      · rw [if_neg y, if_neg y, pt_1]
  have rt0 : ∀ Z, Z ≠ 4 → Z ≠ 7 → rt t0 Z = rt (ptI tu 1 1) Z := fun Z h4 h7 => by
    rw [ht0, rt_ptI (by show 7 ≠ Z; exact fun w => h7 w.symm), rt_ptI (by show 4 ≠ Z; exact fun w => h4 w.symm)]
  have R2t : R2 (rs A5.1 own 2) t0 := R2_rt R2A (rt0 2 (by omega) (by omega)) (by rw [n0, if_neg (by omega), if_neg (by omega), if_pos rfl]; rfl)
  have eRR : rs (rs A5.1 own 2) (fun _ => 2) 2 = rs A5.1 own 2 := funext fun a => if_pos rfl
  obtain ⟨L, nl, nr, st, ln, lab, LC, LD, DC, nd, fd, fL, ou, ol, mp, pid, nid, aid, si, rc, rl, sp, sl, p0⟩ := pl_bld (s := (rs A5.1 own 2, A5.2)) (own := fun _ => 2) (t := t0) (by show R2 (rs (rs A5.1 own 2) (fun _ => 2) 2) t0; rw [eRR]; exact R2t) (by rw [n0, if_neg (by omega), if_neg (by omega), if_neg (by omega)]; exact hy)
  have esp : spn L nl st ln nr = sp0 := by
    have e1 := p0.2.2.2.2.2.2.2.2.2.2.2.2.2
    have e2 := FN_le p0.1
    rw [n0, if_neg (by omega), if_neg (by omega), if_neg (by omega), h117] at e1
    exact ((i_inj (by omega) (by omega)).mp e1).symm
  obtain ⟨t1, d1, g1, h47⟩ := t_sp9 p0.1.1
  have e1 : t1.1 = t0.1 := funext fun c => g1.1 c (by simp)
  have pR := PlB_cg p0 e1 (fun c hc => g1.2.2.1 c (by simpa using hc))
  have p1 := PlB_ext (S := A5) pR (fun a c _ h => (rs_some.mp h).2)
  have n1 : ∀ c, t1.1 c = if c = 300 then Int32.ofNat (sp0 + 10) else if c = 9 then Int32.ofNat sp0 else if c = 1 then 1 else tu.1 c := fun c => by rw [e1]; exact n0 c
  have au : agr [1, 9, 300] [47] tu t1 := ⟨fun c hc => by
    simp at hc
    rw [n1, if_neg hc.2.2, if_neg hc.2.1, if_neg hc.1], by rw [g1.2.1, ht0]; rfl, fun c hc => by rw [g1.2.2.1 c hc, ht0]; rfl, by rw [g1.2.2.2, ht0]; rfl⟩
  have h10 : tu.1 10 = 0 := by
    obtain ⟨zn, nr', nS, nT, nC, nR, nP, nL, a, rel, S', C, CS', CM, CT, E, RS, RM', RT, P, G, D, Lk, F, RW, q⟩ := r.r4
    have e := q.2.2.2.2.2.2.1.2.1
    rw [(q.2.2.2.2.2.2.2.2.2 h1u).2.2.2.2.1] at e
    exact e
  obtain ⟨F1, ⟨fr, gfd⟩, q1, q2, hdr, H1, D1, Hb, ⟨ml, g103⟩, n20, nd6, h64, h100r, _⟩ := id p1
  obtain ⟨t2, d2, hP⟩ := t_pors F1.1 hdr h100r (by rw [n1, if_neg (by omega), if_pos rfl, esp]) (by rw [n1, if_neg (by omega), if_neg (by omega), if_neg (by omega)]; exact h10)
  -- the cells
  have R9A : R9 (rs A5.1 own 9) tu := by rw [rs5 9 (by omega) (by omega) (by omega) (by omega) (by omega)]; exact r.r9
  obtain ⟨nlx, nrx, ndx, smx, Wx, ex, qx, gx, wnx, scx, r9x⟩ := id R9A
  have g170 := rs_in r9x.1.1
  have hEd := p1.edh w5 (by rw [z5s]; exact r.hs) ⟨_, _, g170.1⟩
  have k9A : K9 A5.1 := by
    have k := r.k9
    rw [← rs5 11 (by omega) (by omega) (by omega) (by omega) (by omega)] at k
    obtain ⟨⟨w, x⟩, v, y⟩ := k
    exact ⟨⟨w, (rs_in x).1⟩, v, (rs_in y).1⟩
  obtain ⟨T, U, d3, a6, r9U, eT1, eT3, eTZ, wU, leU, sameU, o9, cU1, cU2⟩ := ce_built R9A h1u au (by rw [n1, if_neg (by omega), if_neg (by omega), if_pos rfl]) (by rw [n1, if_neg (by omega), if_pos rfl, esp]) h100r n20 (by rw [esp]; exact h40) h47 hP.1 hEd F1 gfd k9A
  have fU : Frm (fun X => X = 9) own (ow9 own A5.2.1) A5 U := ⟨leU, fun a ha => if_neg (by omega), fun a ha hx => sameU a ha (fun z => hx (by rw [z]; exact o9 170 (by omega) (by omega))) (fun z => hx (by rw [z]; exact o9 171 (by omega) (by omega))) (fun z => hx (by rw [z]; exact o9 172 (by omega) (by omega))) (fun z => hx (by rw [z]; exact o9 173 (by omega) (by omega))) (fun z => hx (by rw [z]; exact o9 174 (by omega) (by omega))) (fun z => hx (by rw [z]; exact o9 175 (by omega) (by omega))), fun a h1 h2 => if_pos h1, wU⟩
  generalize ow9 own A5.2.1 = own1 at fU r9U
  have cU := h2c fU w5 c5.1 o100 (by omega)
  have eU2 : rs U.1 own1 2 = rs A5.1 own 2 := frm_rs w5 fU (by omega)
  have pU := PlB_ext (S := U) pR (fun a c _ h => (rs_some.mp (show rs U.1 own1 2 a = some c by rw [eU2]; exact h)).2)
  obtain ⟨FU, ⟨frU, gU⟩, _⟩ := id pU
  have nT : ∀ c, c ≠ 10 → T.1 c = if c = 300 then Int32.ofNat (sp0 + 10) else if c = 9 then Int32.ofNat sp0 else if c = 1 then 1 else tu.1 c := fun c hc => by rw [eT1, hP.1.1 c (by simpa using hc)]; exact n1 c
  have T1 : T.1 1 = 1 := by rw [nT 1 (by omega), if_neg (by omega), if_neg (by omega), if_pos rfl]
  -- the warden
  have R7U : R7 (rs U.1 own1 7) tu := by rw [frm_rs w5 fU (by omega), rs5 7 (by omega) (by omega) (by omega) (by omega) (by omega)]; exact r.r7
  obtain ⟨g151, h300⟩ : isK U [47] 151 = true ∧ tu.1 300 = 0 := by
    obtain ⟨np, sz, mx, zm, am, rl, nr, na, ec, P, Z, ZP, A, RW, od, q⟩ := R7U
    refine ⟨isK_t (rs_in q.1.1).1 rfl, ?_⟩
    have e2 := q.2.1.2.1
    rw [q.2.1.2.2.2.1.mp h1u] at e2
    exact e2
  have rt17 : rt T 7 = rt t1 7 := (eTZ 7 (by omega)).trans (agr_rt hP.1 (by decide) (by decide))
  have e7 : rt (ptI (ptI T 1 0) 300 0) 7 = rt tu 7 := by
    refine Prod.ext (funext fun c => ?_) (Prod.ext ?_ (Prod.ext (funext fun c => ?_) ?_))
    · unfold rt
      dsimp only
      by_cases z : mI c = 7
      · rw [if_pos z, if_pos z, pt_1]
        by_cases y : c = 300
        · rw [if_pos y, y, h300]
        · have hc1 : c ≠ 1 := fun w => by rw [w] at z; exact absurd z (by decide)
          have hc9 : c ≠ 9 := fun w => by rw [w] at z; exact absurd z (by decide)
          have hc10 : c ≠ 10 := fun w => by rw [w] at z; exact absurd z (by decide)
          rw [if_neg y, pt_1, if_neg hc1, nT c hc10, if_neg y, if_neg hc9, if_neg hc1]
      · rw [if_neg z, if_neg z]
    · have h := congrArg (fun x => x.2.1) rt17
      refine h.trans ?_
      unfold rt
      rw [au.2.1]
    · have h := congrFun (congrArg (fun x => x.2.2.1) rt17) c
      refine h.trans ?_
      unfold rt
      dsimp only
      funext k
      by_cases z : mR c = 7
      · rw [if_pos z, if_pos z, au.2.2.1 c (by simp; intro w; rw [w] at z; exact absurd z (by decide))]
      · rw [if_neg z, if_neg z]
    · have h := congrArg (fun x => x.2.2.2) rt17
      refine h.trans ?_
      unfold rt
      rw [au.2.2.2]
  obtain ⟨V, own2, a7, fV, r7V, cV1, cV2⟩ := wa_build (T := T) (m := sp0 + 10) wU (by have := fU.1; rw [z5s] at this; have := r.hs; omega) (R7_rt R7U e7 (by rw [pt_1, if_neg (by omega), pt_1, if_pos rfl]; exact h1u.symm)) T1 (by rw [nT 300 (by omega), if_pos rfl]) (by omega) (by omega)
  have wV := fV.2.2.2.2
  have hsV : 179 ≤ V.2.1 := by have := fV.1; have h := fU.1; rw [z5s] at h; have := r.hs; omega
  have cVh := h2c fV wU cU.1 cU.2 (by omega)
  have eV2 : rs V.1 own2 2 = rs A5.1 own 2 := by rw [frm_rs wU fV (by omega)]; exact eU2
  have pV := PlB_ext (S := V) pR (fun a c _ h => (rs_some.mp (show rs V.1 own2 2 a = some c by rw [eV2]; exact h)).2)
  obtain ⟨FV, ⟨frV, gV⟩, _, _, _, HV, DV, HbV, ⟨mlV, g103V⟩, _⟩ := id pV
  -- the gate
  have R4V : R4 (rs V.1 own2 4) tu K := by rw [frm_rs wU fV (by omega), frm_rs w5 fU (by omega), rs5 4 (by omega) (by omega) (by omega) (by omega) (by omega)]; exact r.r4
  obtain ⟨⟨z0, zz1, ff, g108, o108⟩, mcx, g110, o110⟩ : (∃ (z0 zz1 : Value) (ff : List Value), V.1 108 = some (true, false, 89, .ref 101 :: z0 :: zz1 :: .ref 110 :: ff) ∧ own2 108 = 4) ∧ ∃ mc : Int32, V.1 110 = some (true, false, 1013, [.int mc]) ∧ own2 110 = 4 := by
    obtain ⟨zn, nr', nS, nT, nC, nR, nP, nL, a, rel, S', C, CS', CM, CT, E, RS, RM', RT, P, G, D, Lk, F, RW, q⟩ := R4V
    have hz := (q.2.2.2.2.2.2.2.2.2 h1u).2.2.2.2.1
    obtain ⟨⟨mc, e⟩, _⟩ := q.2.2.2.2.2.2.1
    rw [hz] at e
    exact ⟨⟨_, _, _, rs_in q.1.1⟩, mc, rs_in e⟩
  obtain ⟨W, m0, GA, a8, wW, u1, u2, u3, u4, u5, u6, u7, cW1, cW2⟩ := c_gate wV hsV FV HV HbV gV g103V g108 g110 h64
  have r4W := ga_built wV hsV R4V h1u (fun c k x y => r.nn.z4 h1u c x y k) ⟨fun c hc => au.1 c (fun w => hc (List.mem_cons_of_mem _ w)), au.2.1, au.2.2.1, au.2.2.2⟩ (by rw [n1, if_neg (by omega), if_neg (by omega), if_pos rfl]) (by rw [n1, if_neg (by omega), if_pos rfl, esp]) (by rw [esp]; exact h40) h64 F1.1 hdr nd6 hP wW (fun ff' y0 y1 e => by
    rw [e] at g108
    cases g108
    exact u1) u2 u3 u4 u5 u6
  have fW : Frm (fun X => X = 4) own2 (ow4 own2 V.2.1) V W := ⟨by omega, fun a ha => if_neg (by omega), fun a ha hx => u5 a ha (fun z => hx (by rw [z]; exact o108)) (fun z => hx (by rw [z]; exact o110)), fun a h1 h2 => if_pos h1, wW⟩
  generalize ow4 own2 V.2.1 = own3 at fW r4W
  have hlen := gapA_1320 (t := t1) (lab := lab) F1.1.1 (n := nl) (nd := nd) nd6
  have hsW : 179 ≤ W.2.1 := by have := fW.1; omega
  have eW : ∀ Z, Z ≠ 4 → Z ≠ 7 → Z ≠ 9 → rs W.1 own3 Z = rs A5.1 own Z := fun Z h4 h7 h9 => by rw [frm_rs wV fW h4, frm_rs wU fV h7, frm_rs w5 fU h9]
  have eS : ∀ Z, Z ≠ 1 → Z ≠ 2 → Z ≠ 4 → Z ≠ 5 → Z ≠ 6 → Z ≠ 7 → Z ≠ 8 → Z ≠ 9 → rs W.1 own3 Z = rs s.1 own Z := fun Z h1 h2 h4 h5 h6 h7 h8 h9 => (eW Z h4 h7 h9).trans (rs5 Z h1 h2 h5 h6 h8)
  have rtT : ∀ Z, Z ≠ 4 → Z ≠ 7 → Z ≠ 9 → rt T Z = rt (ptI tu 1 1) Z := fun Z h4 h7 h9 => by
    have x1 : ∀ c ∈ ([10] : List Nat), mI c ≠ Z := fun c hc => by simp at hc; rw [hc]; exact fun w => h4 w.symm
    have x2 : ∀ c ∈ ([7, 8, 9, 10, 11, 15] : List Nat), mR c ≠ Z := fun c hc => by
      simp at hc
      rcases hc with rfl | rfl | rfl | rfl | rfl | rfl <;> exact fun w => h4 w.symm
    have x3 : ∀ c ∈ ([47] : List Nat), mR c ≠ Z := fun c hc => by simp at hc; rw [hc]; exact fun w => h9 w.symm
    exact (eTZ Z h9).trans ((agr_rt hP.1 x1 x2).trans ((agr_rt g1 (by simp) x3).trans (rt0 Z h4 h7)))
  have ptu : ∀ Z, Z ≠ 1 → rt (ptI tu 1 1) Z = rt tu Z := fun Z h => rt_ptI (by show 1 ≠ Z; exact fun w => h w.symm)
  have up : ∀ {X : Nat → Prop} {o o' : Nat → Nat} {a b : CS}, Frm X o o' a b → (∀ Z, X Z → 1 ≤ Z ∧ Z ≤ 10) → Frm HP o o' a b := fun h hx => frm_up h (fun Z hZ => Or.inl (hx Z hZ))
  have fAll : Frm HP own own3 s W := (up f1 (fun Z h => by omega)).trans ((up f2 (fun Z h => by omega)).trans ((up f3 (fun Z h => by omega)).trans ((up f4 (fun Z h => by omega)).trans ((up f5 (fun Z h => by omega)).trans ((up fU (fun Z h => by omega)).trans ((up fV (fun Z h => by omega)).trans (up fW (fun Z h => by omega))))))))
  have T2 : T.1 2 = tu.1 2 := by rw [nT 2 (by omega), if_neg (by omega), if_neg (by omega), if_neg (by omega)]
  have ePc : Pc T N = Pc tu N ∧ Ps T N = Ps tu N := by
    have h : ∀ c, c = 503 ∨ c = 516 ∨ c = 517 ∨ c = 528 → T.1 c = tu.1 c := fun c hc => by rw [nT c (by omega), if_neg (by omega), if_neg (by omega), if_neg (by omega)]
    obtain ⟨y1, y2⟩ := pot_cg (t := tu) (t' := T) (N := N) (h 516 (by omega)) (h 517 (by omega)) (h 528 (by omega))
    unfold Pc Ps
    rw [y1, y2, h 503 (by omega)]
    exact ⟨rfl, rfl⟩
  have est : st5 W = st5 s := by
    obtain ⟨n15, B, o, od, nw, q5⟩ := id r.r5
    have o5 : own 115 = 5 ∧ 115 < s.2.1 := ⟨(rs_in q5.1.1).2, wf_lt r.wf (rs_in q5.1.1).1⟩
    have x1 := st5_o5 o5 f1 (by omega)
    have x2 := st5_o5 x1.2 f2 (by omega)
    have x3 : own 115 = 5 ∧ 115 < A3.2.1 := ⟨o5.1, by have := f3.1; have := x2.2.2; omega⟩
    have x4 := st5_o5 x3 f4 (by omega)
    have x5 := st5_o5 x4.2 f5 (by omega)
    have x6 := st5_o5 x5.2 fU (by omega)
    have x7 := st5_o5 x6.2 fV (by omega)
    have x8 := st5_o5 x7.2 fW (by omega)
    rw [x8.1, x7.1, x6.1, x5.1, x4.1, st3, x2.1, x1.1]
  refine ⟨W, T, own3, Int32.ofNat (gapA t1 L nl lab nd nl).length, ?_, ?_, ⟨wW, hsW, fun a ha => ?_, fun a ha => ?_, ?_, ?_, ?_, ?_, ⟨Or.inr T1, ?_, ?_, ?_, fun z => ?_, fun _ => ?_, fun k hk => ?_⟩, ?_, ?_, ?_, ?_, ?_, ?_, ?_, ?_, ?_, ?_⟩, fAll, ?_, ?_, ?_⟩
  · rw [a1, Option.bind_some, xN_o h100 rfl rfl, Option.bind_some, a2, Option.bind_some, xN_o c2.1 rfl rfl, Option.bind_some, a3, Option.bind_some, xN_o c3.1 rfl rfl, Option.bind_some, a4, Option.bind_some, xN_o c4.1 rfl rfl, Option.bind_some, a5, Option.bind_some, xN_o c5.1 rfl rfl, Option.bind_some, xN_o c5.1 rfl rfl, Option.bind_some, if_pos (isK_t g170.1 rfl), a6, Option.bind_some]
    rw [xN_o cU.1 rfl rfl, Option.bind_some, xN_o cU.1 rfl rfl, Option.bind_some, if_pos (isK_t gU rfl), c_spaces FU gU, Option.bind_some, if_pos g151, esp, show (10 : Int32) = Int32.ofNat 10 from rfl, i_add, a7, Option.bind_some]
    rw [xN_o cVh.1 rfl rfl, Option.bind_some, xN_o cVh.1 rfl rfl, Option.bind_some, if_pos (isK_t g108 rfl), a8, Option.bind_some]
  · rw [Option.bind_some, Option.bind_some, Option.bind_some, ← ht0, d1, Option.bind_some, d2, Option.bind_some, d3, Option.bind_some, eT1, hP.2.1]
  · rw [fAll.2.1 a (by have := r.hs; omega)]; exact r.o11 a ha
  · by_cases z : a < s.2.1
    · rw [fAll.2.1 a z]; exact r.o98 a z
    · intro w
      have := fAll.2.2.2.1 a (by omega) ha
      rw [w] at this
      rcases this with w | w <;> omega
  · rw [eS 11 (by omega) (by omega) (by omega) (by omega) (by omega) (by omega) (by omega) (by omega)]; exact r.k3
  · rw [eS 11 (by omega) (by omega) (by omega) (by omega) (by omega) (by omega) (by omega) (by omega)]; exact r.k7
  · rw [eS 11 (by omega) (by omega) (by omega) (by omega) (by omega) (by omega) (by omega) (by omega)]; exact r.k9
  · rw [eS 11 (by omega) (by omega) (by omega) (by omega) (by omega) (by omega) (by omega) (by omega)]; exact r.k5
  · obtain ⟨nw, y1, y2⟩ := r.nn.nw
    exact ⟨nw, T2.trans y1, y2⟩
  · rw [T2, nT 301 (by omega), if_neg (by omega), if_neg (by omega), if_neg (by omega)]; exact r.nn.n7
  · rw [T2, nT 612 (by omega), if_neg (by omega), if_neg (by omega), if_neg (by omega)]; exact r.nn.n8
  · rw [T1] at z; exact absurd z (by decide)
  · rw [nT 300 (by omega), nT 9 (by omega), if_pos rfl, if_neg (by omega), if_pos rfl, show (10 : Int32) = Int32.ofNat 10 from rfl, i_add]
  · rw [rt_row (c := 137) ((rtT 5 (by omega) (by omega) (by omega)).trans (ptu 5 (by omega))) rfl]; exact r.nn.b5 k hk
  · rw [eW 1 (by omega) (by omega) (by omega), frm_rs w4 f5 (by omega), frm_rs w3 f4 (by omega), frm_rs w2 f3 (by omega), frm_rs w1 f2 (by omega)]
    unfold H1r
    rw [T1, T2]
    exact r1
  · rw [eW 2 (by omega) (by omega) (by omega)]
    exact R2_rt R2A (rtT 2 (by omega) (by omega) (by omega)) T1
  · rw [eS 3 (by omega) (by omega) (by omega) (by omega) (by omega) (by omega) (by omega) (by omega)]
    exact R3_rt r.r3 ((rtT 3 (by omega) (by omega) (by omega)).trans (ptu 3 (by omega)))
  · exact R4_rt r4W (eTZ 4 (by omega)) (by rw [eT1]) (fun _ => eTZ 2 (by omega))
  · rw [eW 5 (by omega) (by omega) (by omega), frm_rs w4 f5 (by omega), frm_rs w3 f4 (by omega)]
    exact R5_rt r3 (rtT 5 (by omega) (by omega) (by omega)) T1
  · rw [eW 6 (by omega) (by omega) (by omega), frm_rs w4 f5 (by omega)]
    exact R6_rt r4 (rtT 6 (by omega) (by omega) (by omega)) T1
  · rw [frm_rs wV fW (by omega)]; exact r7V
  · rw [eW 8 (by omega) (by omega) (by omega)]
    exact R8_rt r5 (rtT 8 (by omega) (by omega) (by omega)) T1
  · rw [frm_rs wV fW (by omega), frm_rs wU fV (by omega)]; exact r9U
  · rw [eS 10 (by omega) (by omega) (by omega) (by omega) (by omega) (by omega) (by omega) (by omega)]
    exact R10_rt r.r10 ((rtT 10 (by omega) (by omega) (by omega)).trans (ptu 10 (by omega)))
  · rw [nT 0 (by omega), if_neg (by omega), if_neg (by omega), if_neg (by omega)]
  · unfold PHc
    rw [est, ePc.1]
    rw [z5s] at cU1
    omega
  · unfold PHs
    rw [est, ePc.2]
    rw [z5s] at cU2
    omega
end
