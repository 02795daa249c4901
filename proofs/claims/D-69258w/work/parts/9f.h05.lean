/-! the gate: ends, lost cards -/
theorem R4_tl {h h' : lHeap} {t : TS} {K zn nr nS nT nC nR nP nL a : Nat} {rel : Int32} {S C CS' CM CT E RS RM' RT P G D L F : Nat → Nat} {RW : Nat → Nat → Nat} {k w b m : Nat} (r : R4x h t K zn nr nS nT nC nR nP nL a rel S C CS' CM CT E RS RM' RT P G D L F RW) (hK : K < 1000) (hbu : ¬ t.1 1 = 0) (hm : m < 1000001) (hkw : (k = 3 ∧ w < nC ∧ b = CM w ∧ Snc h' (tllT t nT k w m) (nT + 1) k w (CS' w) b) ∨ (k = 2 ∧ w < nR ∧ b = RM' w ∧ Snc h' (tllT t nT k w m) (nT + 1) k w (RS w) b)) (hb108 : b ≠ 108) (hbk : ∃ l, h b = some (true, false, 1042, l)) (hh : ∀ q c, q ≠ 108 → q ≠ b → h q = some c → h' q = some c) (h108 : h' 108 = some (true, false, 89, [.ref 101, .int (if t.1 1 = 0 then -1 else t.1 9), .ref zn, .ref 110, .ref 111, .ref 112, .ref 113, .ref 114, .int (t.1 49), .int (Int32.ofNat (nT + 1)), .int rel])) : R4x h' (tllT t nT k w m) (K + 1) zn nr nS (nT + 1) nC nR nP nL a rel S C CS' CM CT E RS RM' RT P G D L F RW := by
  obtain ⟨v0, v1, v2t, v2c, v2r, v2d, v3, v4, v5, v6⟩ := r
  obtain ⟨l, hbl⟩ := hbk
  have hH : ∀ X : Nat → lCell → Prop, (∀ c, X 108 c → c.2.2.1 = 89 → False) → (∀ c, X b c → c.2.2.1 = 1042 → False) → hS h h' X := fun X h1 h2 => hS_mk2 v0.1 hbl hh h1 h2
  have T1 : ∀ c, c ≠ 45 → (tllT t nT k w m).1 c = t.1 c := fun c h1 => by unfold tllT; rw [pt_1, if_neg h1]; rfl
  have T3 : ∀ c, c ≠ 37 ∧ c ≠ 38 ∧ c ≠ 39 → (tllT t nT k w m).2.2.1 c = t.2.2.1 c := fun c h1 => tll_r h1
  have eq : ∀ l : List Nat, (∀ c ∈ l, c ≠ 37 ∧ c ≠ 38 ∧ c ≠ 39) → eqR t (tllT t nT k w m) l := fun l h1 c hc => T3 c (h1 c hc)
  have hk3 : k < 4 := by omega
  have hnC : nC ≤ 60 := v2c.2.2.1
  have hnR : nR ≤ 16 := v2r.2.2.1
  have hw : w < 100 := by omega
  have tl : ∀ k' w' j, k' < 4 → w' < 1000 → (isTl (tllT t nT k w m) k' w' j ↔ if j = nT then k' = k ∧ w' = w else isTl t k' w' j) := fun k' w' j h1 h2 => tll_isTl (by omega) (by omega) (by omega) (by omega)
  have b111 : b ≠ 111 := fun z => by obtain ⟨mc, z1⟩ := v1.1; rw [z, z1] at hbl; cases hbl
  have b112 : b ≠ 112 := fun z => by obtain ⟨mc, z1⟩ := v2c.1; rw [z, z1] at hbl; cases hbl
  have b113 : b ≠ 113 := fun z => by obtain ⟨mc, z1⟩ := v2r.1; rw [z, z1] at hbl; cases hbl
  have b114 : b ≠ 114 := fun z => by obtain ⟨mc, z1⟩ := v4.1; rw [z, z1] at hbl; cases hbl
  have b110 : b ≠ 110 := fun z => by obtain ⟨mc, z1⟩ := v3.1; rw [z, z1] at hbl; cases hbl
  have keep : ∀ q c, h q = some c → q ≠ 108 → q ≠ b → h' q = h q := fun q c h1 h2 h3 => by rw [h1]; exact hh q c h2 h3 h1
  refine ⟨?_, V1_cg v1 (hH _ (fun c h1 h2 => by omega) (fun c h1 h2 => by omega)) (T1 27 (by omega)) (T1 9 (by omega)) (eq _ (by decide)), ⟨by unfold tllT; rw [pt_1, if_pos rfl], fun j hj => ?_⟩, ?_, ?_, v2d, ?_, V4_cg v4 (hH _ (fun c h1 h2 => by omega) (fun c h1 h2 => by omega)) (T1 49 (by omega)) (eq _ (by decide)), ⟨by omega, by omega, by omega⟩, fun z => absurd ((T1 1 (by omega)).symm.trans z) hbu⟩
  · obtain ⟨r1, r2, r3, r4, r5, r6⟩ := v0
    unfold V0
    rw [T1 1 (by omega), T1 9 (by omega), T1 49 (by omega), T3 64 (by omega), show (tllT t nT k w m).1 45 = Int32.ofNat (nT + 1) from rfl]
    refine ⟨h108, r2, r3, r4, r5, fun z => ⟨(r6 z).1, ?_⟩⟩
    obtain ⟨f, z1, z2⟩ := (r6 z).2
    exact ⟨f, hh _ _ (fun z => by rw [z, r1] at z1; cases z1) (fun z => by rw [z, hbl] at z1; cases z1) z1, z2⟩
  · rw [tll_39]
    by_cases y : j = nT
    · rw [if_pos y]; exact ⟨m, hm, rfl⟩
    · rw [if_neg y]; exact v2t.2 j (by omega)
  · obtain ⟨⟨mc, c1⟩, c2, c3, c4, c5, c6⟩ := v2c
    refine ⟨⟨mc, hh _ _ (by omega) b112.symm c1⟩, by rw [T1 36 (by omega)]; exact c2, c3, fun c hc => ?_, c5, fun j c h1 h2 h3 => ?_⟩
    · obtain ⟨d1, d2, d3, d4, d5, d6, d7, d8, d9⟩ := c4 c hc
      refine ⟨?_, d2, d3, d4, by rw [T3 30 (by omega)]; exact d5, ?_, by omega, ?_, fun j hj hT => ?_⟩
      · unfold carD at *
        rw [T3 30 (by omega), T3 31 (by omega)]
        exact hh _ _ (apart d1 v0.1 (by simp)) (apart d1 hbl (by simp)) d1
      · by_cases y : 3 = k ∧ c = w
        · rcases hkw with z | z
          · obtain ⟨_, _, z1, z2⟩ := z
            rw [← y.1, ← y.2] at z2 ⊢
            rw [z1, ← y.2] at z2
            exact z2
          · omega
        · refine Snc_tell (by omega) (by omega) (by omega) (by omega) y d6 (keep _ _ d6.1 (apart d6.1 v0.1 (by simp)) (apart d6.1 hbl (by simp))) ?_
          obtain ⟨_, mc', es, x1, _⟩ := d6
          refine keep _ _ x1 (apart x1 v0.1 (by simp)) (fun z => ?_)
          rcases hkw with q | q
          · obtain ⟨q1, q2, q3, _⟩ := q
            exact y ⟨q1.symm, v2d.1 c w hc q2 (z.trans q3)⟩
          · obtain ⟨q1, q2, q3, _⟩ := q
            exact v2d.2.2 c w hc q2 (z.trans q3)
      · rw [tl 0 c _ (by omega) (by omega), if_neg (by omega)]; exact d8
      · rw [tl 0 c _ (by omega) (by omega)] at hT
        by_cases y : j = nT
        · rw [if_pos y] at hT; omega
        · rw [if_neg y] at hT; exact d9 j (by omega) hT
    · rw [tl 0 c _ (by omega) h2, tl 3 c _ (by omega) h2]
      by_cases y : j = nT
      · rw [if_pos y, if_pos y]; exact ⟨by omega, fun z => by omega⟩
      · rw [if_neg y, if_neg y]; exact c6 j c h1 h2 (by omega)
  · obtain ⟨⟨mc, c1⟩, c2, c3, c4, c6⟩ := v2r
    refine ⟨⟨mc, hh _ _ (by omega) b113.symm c1⟩, by rw [T1 39 (by omega)]; exact c2, c3, fun c hc => ?_, fun j c h1 h2 h3 => ?_⟩
    · obtain ⟨d1, d2, d3, d4, d5, d6, d7, d8, d9⟩ := c4 c hc
      refine ⟨?_, d2, d3, d4, by rw [T3 36 (by omega)]; exact d5, ?_, by omega, ?_, fun j hj hT => ?_⟩
      · unfold rigC at *
        rw [T3 32 (by omega), T3 33 (by omega), T3 34 (by omega), T3 35 (by omega), T3 36 (by omega)]
        exact hh _ _ (apart d1 v0.1 (by simp)) (apart d1 hbl (by simp)) d1
      · by_cases y : 2 = k ∧ c = w
        · rcases hkw with z | z
          · omega
          · obtain ⟨_, _, z1, z2⟩ := z
            rw [← y.1, ← y.2] at z2 ⊢
            rw [z1, ← y.2] at z2
            exact z2
        · refine Snc_tell (by omega) (by omega) (by omega) (by omega) y d6 (keep _ _ d6.1 (apart d6.1 v0.1 (by simp)) (apart d6.1 hbl (by simp))) ?_
          obtain ⟨_, mc', es, x1, _⟩ := d6
          refine keep _ _ x1 (apart x1 v0.1 (by simp)) (fun z => ?_)
          rcases hkw with q | q
          · obtain ⟨q1, q2, q3, _⟩ := q
            exact v2d.2.2 w c q2 hc (z.trans q3).symm
          · obtain ⟨q1, q2, q3, _⟩ := q
            exact y ⟨q1.symm, v2d.2.1 c w hc q2 (z.trans q3)⟩
      · rw [tl 1 c _ (by omega) (by omega), if_neg (by omega)]; exact d8
      · rw [tl 1 c _ (by omega) (by omega)] at hT
        by_cases y : j = nT
        · rw [if_pos y] at hT; omega
        · rw [if_neg y] at hT; exact d9 j (by omega) hT
    · rw [tl 1 c _ (by omega) h2, tl 2 c _ (by omega) h2]
      by_cases y : j = nT
      · rw [if_pos y, if_pos y]; exact ⟨by omega, fun z => by omega⟩
      · rw [if_neg y, if_neg y]; exact c6 j c h1 h2 (by omega)
  · have := V3_cg (T := tllT t nT k w m) v3 (hH _ (fun c h1 h2 => by omega) (fun c h1 h2 => by omega)) (T1 9 (by omega)) (T1 10 (by omega)) (T1 24 (by omega)) (eq _ (by decide))
    obtain ⟨x1, x2, x3, x4, x5⟩ := this
    refine ⟨x1, x2, x3, fun p hp => ⟨(x4 p hp).1, (x4 p hp).2.1, ?_⟩, x5⟩
    obtain ⟨a1, a2, a3, a4, a5, a6, a7, a8, a9⟩ := (x4 p hp).2.2
    refine ⟨a1, a2, a3, a4, a5, a6, a7, ?_, a9⟩
    rcases a8 with z | ⟨v, z1, z2⟩
    · exact Or.inl z
    · exact Or.inr ⟨v, by omega, z2⟩
section
variable {own : Nat → Nat} {s : CS} {t : TS} {K : Nat}
theorem minu (v : Int32) (s : CS) : c_1028 v s = some (if inB v (Int32.ofNat 1000001) = true then 1 else 0) := by
  unfold c_1028
  exact rngB v 1000000 1000000 (by omega) rfl
theorem minT (v : Int32) (t : TS) : t_595 v t = some (if inB v (Int32.ofNat 1000001) = true then 1 else 0) := by
  unfold t_595
  exact rngB v 1000000 1000000 (by omega) rfl
theorem rt_tll {t : TS} {nT k w m Z : Nat} (h4 : Z ≠ 4) (h9 : Z ≠ 99) : rt (tllT (ptI t 0 0) nT k w m) Z = rt t Z := by
  unfold tllT
  rw [rt_ptI (by show (4 : Nat) ≠ Z; omega), rt_wrI (by show (4 : Nat) ≠ Z; omega), rt_wrI (by show (4 : Nat) ≠ Z; omega), rt_wrI (by show (4 : Nat) ≠ Z; omega), ptI_rt h9]
/-- the common end of both -/
theorem ga_tl {zn nr nS nT nC nR nP nL a : Nat} {rel : Int32} {S C CS' CM CT E RS RM' RT P G D L F : Nat → Nat} {RW : Nat → Nat → Nat} {k w b x m : Nat} (hw : wfS s) (hK : K < 1000) (r : R4x (rs s.1 own 4) t K zn nr nS nT nC nR nP nL a rel S C CS' CM CT E RS RM' RT P G D L F RW) (hbu : ¬ t.1 1 = 0) (hm : m < 1000001) (hkw : (k = 3 ∧ w < nC ∧ b = CM w ∧ x = CS' w) ∨ (k = 2 ∧ w < nR ∧ b = RM' w ∧ x = RS w)) {c : Option (Sum (Int32 × CS) (Nat × CS))} {d : Option (Int32 × TS)}
    (hc : c = Option.bind (xP s [(89, 9)] 108 (.int (Int32.ofNat (nT + 1)))) (fun s8 => (if isK s8 [83] x = true then Option.bind (c_1000 x (Int32.ofNat nT) (Int32.ofNat m) s8) (fun x10 => some (.inl (x10.1, x10.2))) else none)))
    (hd : d = some (ltd t k w nT, tllT (ptI t 0 0) nT k w m)) : Rg thr0 (fun X => X = 4) 4 (fun H t => R4 (H 4) t (K + 1)) own s t 4 9 c d := by
  have q := R4_raw r
  have r' := r
  obtain ⟨⟨g0, _⟩, _, _, g2c, g2r, _⟩ := r'
  have g := (rs_in g0).1
  have o108 := (rs_in g0).2
  have l108 := wf_lt hw g
  have hnT : nT ≤ K := r.2.2.2.2.2.2.2.2.1.1
  have h45 : t.1 45 = Int32.ofNat nT := r.2.2.1.1
  have hS0 : Snc (rs s.1 own 4) t nT k w x b := by
    rcases hkw with ⟨rfl, h1, rfl, rfl⟩ | ⟨rfl, h1, rfl, rfl⟩
    · exact (g2c.2.2.2.1 w h1).2.2.2.2.2.1
    · exact (g2r.2.2.2.1 w h1).2.2.2.2.2.1
  have hw100 : w < 100 ∧ k < 4 := by
    have := g2c.2.2.1
    have := g2r.2.2.1
    rcases hkw with z | z <;> omega
  obtain ⟨s1, mc0, es0, s2, s3, s4⟩ := hS0
  have os1 := rs_in s1
  have os2 := rs_in s2
  have nx : x ≠ 108 := apart os1.1 g (by simp)
  have nb : b ≠ 108 := apart os2.1 g (by simp)
  have nxb : x ≠ b := apart os1.1 os2.1 (by simp)
  have e8 : xP s [(89, 9)] 108 (.int (Int32.ofNat (nT + 1))) = some (cup s 108 (true, false, 89, [.ref 101, .int (if t.1 1 = 0 then -1 else t.1 9), .ref zn, .ref 110, .ref 111, .ref 112, .ref 113, .ref 114, .int (t.1 49), .int (Int32.ofNat (nT + 1)), .int rel])) := xP_c g rfl (by simp) rfl
  have hSn : Snc (cup s 108 (true, false, 89, [.ref 101, .int (if t.1 1 = 0 then -1 else t.1 9), .ref zn, .ref 110, .ref 111, .ref 112, .ref 113, .ref 114, .int (t.1 49), .int (Int32.ofNat (nT + 1)), .int rel])).1 t nT k w x b := ⟨(cup_ne nx).trans os1.1, mc0, es0, (cup_ne nb).trans os2.1, s3, s4⟩
  obtain ⟨y1, y2, es, mc, z1, z2, z3, z4⟩ := sin_tell (m := m) (by omega) (by omega) (by omega) hSn
  rw [e8, Option.bind_some, if_pos (isK_t hSn.1 rfl), z1, Option.bind_some] at hc
  generalize hs' : cput (chg (cup s 108 (true, false, 89, [.ref 101, .int (if t.1 1 = 0 then -1 else t.1 9), .ref zn, .ref 110, .ref 111, .ref 112, .ref 113, .ref 114, .int (t.1 49), .int (Int32.ofNat (nT + 1)), .int rel])) 3 3) 1042 b y1 y2 (.int mc :: fl es) = s' at hc
  have n1 : ∀ q, q ≠ 108 → q ≠ b → s'.1 q = s.1 q := fun q h1 h2 => by rw [← hs', cput_ne h2]; exact cup_ne h1
  have n2 : s'.1 108 = some (true, false, 89, [.ref 101, .int (if t.1 1 = 0 then -1 else t.1 9), .ref zn, .ref 110, .ref 111, .ref 112, .ref 113, .ref 114, .int (t.1 49), .int (Int32.ofNat (nT + 1)), .int rel]) := by
    rw [← hs', cput_ne nb.symm]
    show (cup s 108 _).1 108 = _
    exact cup_eq ..
  have n3 : s'.1 b = some (true, false, 1042, .int mc :: fl es) := by rw [← hs', cput_eq]
  have n4 : s'.2.1 = s.2.1 := by rw [← hs']; rfl
  have n5 : s'.2.2.1 = s.2.2.1 + 3 + y1 := by rw [← hs']; rfl
  have n6 : s'.2.2.2 = s.2.2.2 + 3 + y2 := by rw [← hs']; rfl
  have n7 : wfS s' := by
    rw [← hs']
    intro q hq
    have hq : s.2.1 ≤ q := hq
    have := wf_lt hw os2.1
    rw [cput_ne (by omega)]
    show (cup s 108 _).1 q = none
    rw [cup_ne (by omega)]; exact hw q hq
  have hK' : ∀ q c, q ≠ 108 → q ≠ b → rs s.1 own 4 q = some c → rs s'.1 own 4 q = some c := fun q c h1 h2 h3 => rs_keep hw (fun _ _ => rfl) h3 (n1 q h1 h2)
  have hSf := z4 (rs s'.1 own 4) (by rw [cup_ne nx, os1.1]; exact rs_some.mpr ⟨os1.2, by rw [n1 x nx nxb]; exact os1.1⟩) (rs_some.mpr ⟨os2.2, n3⟩)
  have hSp : Snc (rs s'.1 own 4) (tllT (ptI t 0 0) nT k w m) (nT + 1) k w x b := hSf
  refine Or.inl ⟨_, s', _, own, hc, hd, rfl, fun Z h4 h9 => rt_tll h4 h9, ⟨by omega, fun _ _ => rfl, fun q hq hx => n1 q (fun z => hx (by rw [z]; exact o108)) (fun z => hx (by rw [z]; exact os2.2)), fun q h1 h2 => absurd h2 (by omega), n7⟩, ⟨zn, nr, nS, nT + 1, nC, nR, nP, nL, a, rel, S, C, CS', CM, CT, E, RS, RM', RT, P, G, D, L, F, RW, R4_tl (b := b) (ga_pt r 0) hK hbu hm ?_ nb ⟨_, s2⟩ hK' (rs_some.mpr ⟨o108, n2⟩)⟩, by omega, by omega⟩
  rcases hkw with ⟨z5, z6, z7, z8⟩ | ⟨z5, z6, z7, z8⟩
  · exact Or.inl ⟨z5, z6, z7, by rw [← z8]; exact hSp⟩
  · exact Or.inr ⟨z5, z6, z7, by rw [← z8]; exact hSp⟩
theorem ga_lost (hw : wfS s) (hK : K < 1000) (r : R4 (rs s.1 own 4) t K) (v1 v2 : Int32) : Rg thr0 (fun X => X = 4) 4 (fun H t => R4 (H 4) t (K + 1)) own s t 4 9 (c_1032 108 v1 v2 s) (t_600 v1 v2 t) := by
  obtain ⟨zn, nr, nS, nT, nC, nR, nP, nL, a, rel, S, C, CS', CM, CT, E, RS, RM', RT, P, G, D, L, F, RW, r⟩ := r
  have q := R4_raw r
  have hR := ga_ex r
  have q' := q
  obtain ⟨⟨g, _⟩, _, ⟨q45, _⟩, ⟨_, q36, qc3, qc4, _⟩, _, _, _, _, ⟨qk, _⟩, z0⟩ := q'
  have k89 : isK s [89] 108 = true := isK_t g rfl
  unfold c_1032 t_600
  rw [if_pos k89, ga_car q, q36, isInB, Option.bind_some, minT]
  cases hb : inB v1 (Int32.ofNat nC) with
  | true =>
    obtain ⟨k, hk, rfl⟩ := inB_nat nC (by omega) hb
    have hbu : ¬ t.1 1 = 0 := fun z => by have := (z0 z).2.2.1; omega
    rw [if_pos rfl, if_pos rfl, Option.bind_some, Sum.elim_inl, minu, bN_of (by omega), if_neg (show ¬ (1 : Int32) = 0 by decide)]; repeat (first | rw [Option.bind_some] | rw [Sum.elim_inl] | rw [Sum.elim_inr])
    rw [need_eq]
    cases hb2 : inB v2 (Int32.ofNat 1000001) with
    | true =>
      obtain ⟨m, hm, rfl⟩ := inB_nat 1000001 (by omega) hb2
      rw [if_pos rfl, if_neg (show ¬ (1 : Int32) = 0 by decide), if_neg (show ¬ (1 : Int32) = 0 by decide)]; repeat (first | rw [Option.bind_some] | rw [Sum.elim_inl] | rw [Sum.elim_inr])
      rw [goes_1 t hbu]; repeat (first | rw [Option.bind_some] | rw [Sum.elim_inl] | rw [Sum.elim_inr])
      try dsimp only
      have hc4 := qc4 k hk
      rw [xR_o (b := CS' k) hc4.1 rfl rfl, xI_o (x := t.1 45) g rfl rfl]; repeat (first | rw [Option.bind_some] | rw [Sum.elim_inl] | rw [Sum.elim_inr])
      rw [q45, i_suc, if_neg (show ¬ (1 : Int32) = 0 by decide)]
      have h45 : (ptI t 0 0).1 45 = Int32.ofNat nT := q45
      have e1 : t_599 3 (Int32.ofNat k) 1000000 (ptI t 0 0) = some (ltd t 3 k nT) := by
        have := t_lastT h45 (by omega) 3 k (b := 1000000) (by omega)
        rw [Nat.min_eq_right (by omega)] at this
        rw [show t_599 3 (Int32.ofNat k) 1000000 (ptI t 0 0) = _ from this]
        exact congrArg some (ltd_cg (t := t) (T := ptI t 0 0) (fun _ _ => rfl) 3 k nT)
      have e2 : t_596 3 (Int32.ofNat k) (Int32.ofNat m) (ptI t 0 0) = some (tllT (ptI t 0 0) nT 3 k m) := t_tll h45 (by omega) 3 k m
      rw [e1, e2]; repeat (first | rw [Option.bind_some] | rw [Sum.elim_inl] | rw [Sum.elim_inr])
      exact ga_tl hw hK r hbu hm (Or.inl ⟨rfl, hk, rfl, rfl⟩) rfl rfl
    | false =>
      exact Rg.arg (x := 0) (a := 0) (b := 0) hw hR rfl (by simp [goes_0]) (by omega) (by omega)
  | false =>
    exact Rg.arg (x := 0) (a := 0) (b := 0) hw hR rfl (by simp [goes_0]) (by omega) (by omega)
theorem ga_end (hw : wfS s) (hK : K < 1000) (r : R4 (rs s.1 own 4) t K) (v1 v2 : Int32) : Rg thr0 (fun X => X = 4) 4 (fun H t => R4 (H 4) t (K + 1)) own s t 4 9 (c_1031 108 v1 v2 s) (t_598 v1 v2 t) := by
  obtain ⟨zn, nr, nS, nT, nC, nR, nP, nL, a, rel, S, C, CS', CM, CT, E, RS, RM', RT, P, G, D, L, F, RW, r⟩ := r
  have q := R4_raw r
  have hR := ga_ex r
  have q' := q
  obtain ⟨⟨g, _⟩, _, ⟨q45, _⟩, _, ⟨⟨mc, qr1⟩, q36, qc3, qc4, _⟩, _, _, _, ⟨qk, _⟩, z0⟩ := q'
  unfold c_1031 t_598
  rw [xN_o (b := 113) g rfl rfl, Option.bind_some, if_pos (isK_t qr1 rfl), alSize_r qr1, Option.bind_some, minu, Option.bind_some, q36, isInB, Option.bind_some, minT]
  have e0 : (if v1 < 0 then some (0 : Int32) else if v1 < Int32.ofNat nR then (if (if inB v2 (Int32.ofNat 1000001) = true then (1 : Int32) else 0) = 0 then some 0 else some 1) else some 0) = some (if inB v1 (Int32.ofNat nR) = true ∧ inB v2 (Int32.ofNat 1000001) = true then 1 else 0) := by
    unfold inB
    by_cases x1 : v1 < 0 <;> by_cases x2 : v1 < Int32.ofNat nR <;> by_cases x3 : (decide (¬ v2 < 0 ∧ v2 < Int32.ofNat 1000001)) = true <;> simp only [x1, x2, x3] <;> simp
  rw [e0]; repeat (first | rw [Option.bind_some] | rw [Sum.elim_inl] | rw [Sum.elim_inr])
  by_cases hb : inB v1 (Int32.ofNat nR) = true
  · obtain ⟨k, hk, rfl⟩ := inB_nat nR (by omega) hb
    have hbu : ¬ t.1 1 = 0 := fun z => by have := (z0 z).2.2.2.1; omega
    by_cases hb2 : inB v2 (Int32.ofNat 1000001) = true
    · obtain ⟨m, hm, rfl⟩ := inB_nat 1000001 (by omega) hb2
      rw [if_pos ⟨hb, hb2⟩, if_pos hb, if_pos hb2, need_eq, if_neg (show ¬ (1 : Int32) = 0 by decide)]; repeat (first | rw [Option.bind_some] | rw [Sum.elim_inl] | rw [Sum.elim_inr] | rw [if_neg (show ¬ (1 : Int32) = 0 by decide)] | rw [if_pos (show (0 : Int32) = 0 from rfl)] | rw [if_pos (show true = true from rfl)] | rw [if_neg (show ¬ false = true by decide)] | dsimp only)
      rw [goes_1 t hbu]; repeat (first | rw [Option.bind_some] | rw [Sum.elim_inl] | rw [Sum.elim_inr] | rw [if_neg (show ¬ (1 : Int32) = 0 by decide)] | rw [if_pos (show (0 : Int32) = 0 from rfl)] | rw [if_pos (show true = true from rfl)] | rw [if_neg (show ¬ false = true by decide)] | dsimp only)
      try dsimp only
      have hc4 := qc4 k hk
      rw [xN_o (b := 113) g rfl rfl]; repeat (first | rw [Option.bind_some] | rw [Sum.elim_inl] | rw [Sum.elim_inr])
      rw [if_pos (isK_t qr1 rfl), alGet_r qr1 hk (by omega)]; repeat (first | rw [Option.bind_some] | rw [Sum.elim_inl] | rw [Sum.elim_inr])
      rw [toN_o hc4.1 rfl]; repeat (first | rw [Option.bind_some] | rw [Sum.elim_inl] | rw [Sum.elim_inr])
      rw [xR_o (b := RS k) hc4.1 rfl rfl, xI_o (x := t.1 45) g rfl rfl]; repeat (first | rw [Option.bind_some] | rw [Sum.elim_inl] | rw [Sum.elim_inr])
      rw [q45, i_suc]
      have h45 : (ptI t 0 0).1 45 = Int32.ofNat nT := q45
      have e1 : t_599 2 (Int32.ofNat k) 1000000 (ptI t 0 0) = some (ltd t 2 k nT) := by
        have := t_lastT h45 (by omega) 2 k (b := 1000000) (by omega)
        rw [Nat.min_eq_right (by omega)] at this
        rw [show t_599 2 (Int32.ofNat k) 1000000 (ptI t 0 0) = _ from this]
        exact congrArg some (ltd_cg (t := t) (T := ptI t 0 0) (fun _ _ => rfl) 2 k nT)
      have e2 : t_596 2 (Int32.ofNat k) (Int32.ofNat m) (ptI t 0 0) = some (tllT (ptI t 0 0) nT 2 k m) := t_tll h45 (by omega) 2 k m
      rw [e1, e2]; repeat (first | rw [Option.bind_some] | rw [Sum.elim_inl] | rw [Sum.elim_inr])
      exact ga_tl hw hK r hbu hm (Or.inr ⟨rfl, hk, rfl, rfl⟩) rfl rfl
    · rw [if_neg (show ¬ (inB (Int32.ofNat k) (Int32.ofNat nR) = true ∧ inB v2 (Int32.ofNat 1000001) = true) from fun z => hb2 z.2), if_pos hb, if_neg hb2, need_eq, if_pos rfl]
      exact Rg.arg (x := 0) (a := 0) (b := 0) hw hR rfl (by simp [goes_0]) (by omega) (by omega)
  · rw [if_neg (show ¬ (inB v1 (Int32.ofNat nR) = true ∧ inB v2 (Int32.ofNat 1000001) = true) from fun z => hb z.1), if_neg hb, need_eq, if_pos rfl]
    exact Rg.arg (x := 0) (a := 0) (b := 0) hw hR rfl (by simp [goes_0]) (by omega) (by omega)
end
