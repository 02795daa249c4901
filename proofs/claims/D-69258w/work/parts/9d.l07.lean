/-! the lifts: a call's car lets go; a call is done -/
theorem c_leave {s : CS} {own : Nat → Nat} {t : TS} {nc nk c : Nat} {C D M : Nat → Nat} {b : Nat → Option Nat} (hw : wfS s) (r : R8x (rs s.1 own 8) t nc nk C D M b) (hc : c < nk) (hO : isO t c) :
    ∃ S, c_528 (D c) s = some S ∧ S.2 = s.2 ∧ (∀ k, k < nc → S.1 (C k) = some (carC t C D (if b k = some c then none else b k) k)) ∧ S.1 (D c) = some (calC (wrI t 167 c (-1)) C c) ∧ (∀ q, (∀ k, k < nc → q ≠ C k) → q ≠ D c → S.1 q = s.1 q) ∧ Frm (fun X => X = 8) own own s S := by
  obtain ⟨_, _, _, _, _, _, _, p8, _, p10, _, _, _, p14, p15, p16, p17, p18, _, _⟩ := r
  obtain ⟨y1, ⟨u1, u2, u3, u4⟩, y3⟩ := p16 c hc
  have hD := rs_in (y3 hO).1
  have e4 : calC (wrI t 167 c (-1)) C c = (true, false, 96, [.int (Int32.ofNat c), .int (t.2.2.1 163 c), .int (t.2.2.1 164 c), .int (t.2.2.1 165 c), .null]) := by
    simp [calC, wr_at]
  unfold c_528
  rcases u4 with z | ⟨k0, hk0, z⟩
  · have hcell : s.1 (D c) = some (true, false, 96, [.int (Int32.ofNat c), .int (t.2.2.1 163 c), .int (t.2.2.1 164 c), .int (t.2.2.1 165 c), .null]) := by
      rw [hD.1]; unfold calC; rw [if_pos z]
    refine ⟨s, by rw [xR_z hcell rfl rfl, Option.bind_some, if_pos rfl], rfl, fun k hk => ?_, by rw [e4]; exact hcell, fun _ _ _ => rfl, Frm.refl hw⟩
    rw [if_neg, (rs_in (p14 k hk).1).1]
    intro w
    have := ((p18 k c hk).mp w).2.2
    rw [z] at this
    exact absurd this.symm (i_ne1 (by omega))
  · have hcell : s.1 (D c) = some (true, false, 96, [.int (Int32.ofNat c), .int (t.2.2.1 163 c), .int (t.2.2.1 164 c), .int (t.2.2.1 165 c), .ref (C k0)]) := by
      rw [hD.1]; unfold calC; rw [z, if_neg (i_ne1 (by omega)), bN, i_clamp (by omega)]
    have hK := rs_in (p14 k0 hk0).1
    have hne : D c ≠ C k0 := apart hD.1 hK.1 (by show (96 : Nat) ≠ 95; omega)
    have hK2 : s.1 (C k0) = some (true, false, 95, [.int (Int32.ofNat k0), .int (t.2.2.1 158 k0), .int (t.2.2.1 159 k0), .int (t.2.2.1 160 k0), .int (t.2.2.1 161 k0), .int (t.2.2.1 162 k0), vR ((b k0).map D)]) := hK.1
    have g1 : (cup s (C k0) (true, false, 95, [.int (Int32.ofNat k0), .int (t.2.2.1 158 k0), .int (t.2.2.1 159 k0), .int (t.2.2.1 160 k0), .int (t.2.2.1 161 k0), .int (t.2.2.1 162 k0), .null])).1 (D c) = some (true, false, 96, [.int (Int32.ofNat c), .int (t.2.2.1 163 c), .int (t.2.2.1 164 c), .int (t.2.2.1 165 c), .ref (C k0)]) := by rw [cup_ne hne]; exact hcell
    refine ⟨cup (cup s (C k0) (carC t C D none k0)) (D c) (calC (wrI t 167 c (-1)) C c), ?_, rfl, fun k hk => ?_, cup_eq .., fun q z1 z2 => by rw [cup_ne z2, cup_ne (z1 k0 hk0)], ?_⟩
    · rw [xR_o hcell rfl rfl, Option.bind_some, if_neg (by simp), xN_o hcell rfl rfl, Option.bind_some, xP_c (fs' := [.int (Int32.ofNat k0), .int (t.2.2.1 158 k0), .int (t.2.2.1 159 k0), .int (t.2.2.1 160 k0), .int (t.2.2.1 161 k0), .int (t.2.2.1 162 k0), .null]) hK2 rfl (by simp) rfl, Option.bind_some, xP_c (fs' := [.int (Int32.ofNat c), .int (t.2.2.1 163 c), .int (t.2.2.1 164 c), .int (t.2.2.1 165 c), .null]) g1 rfl (by simp) rfl, Option.bind_some, e4]
      rfl
    · have hkD : C k ≠ D c := fun w => apart hD.1 (rs_in (p14 k hk).1).1 (by show (96 : Nat) ≠ 95; omega) w.symm
      rw [cup_ne hkD]
      by_cases w : k = k0
      · subst w
        rw [cup_eq, if_pos ((p18 k c hk).mpr ⟨hc, hO, z⟩)]
      · rw [cup_ne (fun y => w (p15 k k0 hk hk0 y)), if_neg, (rs_in (p14 k hk).1).1]
        intro y
        have := ((p18 k c hk).mp y).2.2
        rw [z] at this
        exact w ((i_inj (by omega) (by omega)).mp this).symm
    · have f1 := frm_cup (X := fun X => X = 8) (c := carC t C D none k0) hw (wf_lt hw hK.1) hK.2
      exact f1.trans (frm_cup f1.2.2.2.2 (show D c < s.2.1 from wf_lt hw hD.1) hD.2)
/-- which call is open -/
theorem t_opens {t : TS} {nk : Nat} (h : t.1 606 = Int32.ofNat nk) (hn : nk ≤ 400) (hv : ∀ c, c < nk → v01 (t.2.2.1 166 c)) (v : Int32) : (∃ c, c < nk ∧ v = Int32.ofNat c ∧ isO t c ∧ t_848 v t = some 1) ∨ (¬ (0 ≤ v.toInt ∧ v.toInt < (nk : Int) ∧ t.2.2.1 166 v.toNatClampNeg = 1) ∧ t_848 v t = some 0) := by
  unfold t_848
  rw [h]
  by_cases h1 : v < 0
  · refine Or.inr ⟨fun z => (i_0le.mp z.1) h1, by rw [if_pos h1]⟩
  · by_cases h2 : v < Int32.ofNat nk
    · obtain ⟨c, hc, rfl⟩ := i_nat (n := nk) (by omega) h1 h2
      rw [if_neg h1, if_pos h2, rdI_n (by omega) (by omega), Option.bind_some]
      rcases hv c hc with z | z
      · refine Or.inr ⟨?_, by rw [z, if_pos rfl]⟩
        rintro ⟨_, _, w⟩
        rw [i_clamp (by omega), z] at w
        exact absurd w (by decide)
      · exact Or.inl ⟨c, hc, rfl, z, by rw [z, if_neg (by decide)]⟩
    · refine Or.inr ⟨fun z => h2 ?_, by rw [if_neg h1, if_neg h2]⟩
      rw [Int32.lt_iff_toInt_lt, i_toInt (by omega)]
      exact z.2.1
theorem opOf {s : CS} {own : Nat → Nat} {t : TS} {nc nk : Nat} {C D M : Nat → Nat} {b : Nat → Option Nat} (r : R8x (rs s.1 own 8) t nc nk C D M b) (v : Int32) : (∃ c, c < nk ∧ v = Int32.ofNat c ∧ isO t c ∧ t_848 v t = some 1 ∧ c_527 162 v s = some (.inl (some (D c), chg s 1 1))) ∨ (t_848 v t = some 0 ∧ c_527 162 v s = some (.inr (s.2.1, exs (chg s 1 1) 11))) := by
  obtain ⟨mo, eo, o1, o2, o3, o4, o5⟩ := li_len r
  obtain ⟨⟨nw, hm, lst, p1⟩, _, _, _, _, _, _, _, p9, p10, _, _, _, _, _, p16, _⟩ := r
  have h1 := (rs_in p1).1
  have h2 : (chg s 1 1).1 164 = some (true, false, 1042, .int mo :: fl eo) := (rs_in o1).1
  unfold c_527
  rw [xN_o h1 rfl rfl, Option.bind_some, Option.bind_some, if_pos (isK_t h2 rfl), mp_get (P := fun c => t.2.2.1 166 c = 1) (f := fun c => .ref (D c)) h2 o2 o3 v, Option.bind_some]
  rcases t_opens p9 p10 (fun c hc => (p16 c hc).1) v with ⟨c, hc, rfl, hO, ht⟩ | ⟨hno, ht⟩
  · refine Or.inl ⟨c, hc, rfl, hO, ht, ?_⟩
    have h3 : (chg s 1 1).1 (D c) = some (calC t C c) := (rs_in ((p16 c hc).2.2 hO).1).1
    rw [if_pos ⟨by rw [i_toInt (by omega)]; omega, by rw [i_toInt (by omega)]; omega, by rw [i_clamp (by omega)]; exact hO⟩, i_clamp (by omega)]
    have et : toR (chg s 1 1) [96] (.ref (D c)) = some (some (D c)) := by
      unfold toR; simp only [isK_t (tab := [96]) h3 rfl, if_true]
    rw [et, Option.bind_some, if_neg (by simp), Option.bind_some, need_eq, if_neg (by decide)]; rfl
  · refine Or.inr ⟨ht, ?_⟩
    rw [if_neg hno]
    rw [show toR (chg s 1 1) [96] .null = some none from rfl, Option.bind_some, if_pos rfl, Option.bind_some, need_eq, if_pos rfl]; rfl
theorem li_done {own : Nat → Nat} {s : CS} {t : TS} (hw : wfS s) (r : R8 (rs s.1 own 8) t) (v1 : Int32) : Rg thr0 (fun X => X = 8) 8 (fun H t => R8 (H 8) t) own s t 3 2 (uC (c_529 162 v1 s)) (uT (t_657 v1 t)) := by
  have r0 := r
  obtain ⟨nc, nk, C, D, M, b, r⟩ := r
  have r2 := r
  obtain ⟨⟨nw, hm, lst, p1⟩, _, _, _, _, _, _, _, p9, p10, _, p12, _, p14, _, p16, _, p18, _⟩ := r2
  obtain ⟨mo, eo, o1, o2, o3, o4, o5⟩ := li_len r
  have h1 := rs_in p1
  have h2 := rs_in o1
  have k49 : isK s [49] 162 = true := isK_t h1.1 rfl
  unfold c_529 t_657
  rw [if_pos k49]
  rcases opOf r v1 with ⟨c, hc, rfl, hO, ht, hcc⟩ | ⟨ht, hcc⟩
  · rw [hcc, ht, Option.bind_some, Option.bind_some, Sum.elim_inl]
    dsimp only
    have hb : ¬ t.1 1 = 0 := p12 (Or.inr (by omega))
    obtain ⟨S, e1, e2, e3, e4, e5, e6⟩ := c_leave (s := chg s 1 1) hw r hc hO
    have lC : ∀ k, k < nc → 179 ≤ C k := fun k hk => (p14 k hk).2.2
    have lD := ((p16 c hc).2.2 hO).2
    have g1 : S.1 162 = some (true, false, 49, [.ref 163, .ref 164, .int (t.1 606), .int nw, .int hm, .int (t.1 1), .ref 165, .ref 166, .ref 167, .ref 168, .long lst, .ref 169]) := (e5 162 (fun k hk => by have := lC k hk; omega) (by omega)).trans h1.1
    have g2 : (chg S 1 1).1 164 = some (true, false, 1042, .int mo :: fl eo) := (e5 164 (fun k hk => by have := lC k hk; omega) (by omega)).trans h2.1
    have rk0 : rkI (.int (Int32.ofNat c)) = (c : Int) := i_toInt (by omega)
    obtain ⟨es', mc', t1, t2, t3, t4⟩ := tm_rem (k := .int (Int32.ofNat c)) (v := .ref (D c)) g2 (KOk_int (fun x hx => by
      rcases List.mem_cons.mp hx with rfl | hx
      · exact ⟨_, rfl⟩
      · exact o3 x hx)) o2 (by rw [rk0]; simp only [Int.toNat_natCast]; exact if_pos ⟨by omega, by omega, hO⟩)
    rw [rk0] at t2
    have h3 : (cput (chg S 1 1) 1042 164 1 0 (.int mc' :: fl es')).1 (D c) = some (calC (wrI t 167 c (-1)) C c) := (cput_ne (by omega)).trans e4
    have et : toR (cput (chg S 1 1) 1042 164 1 0 (.int mc' :: fl es')) [96] (.ref (D c)) = some (some (D c)) := by
      unfold toR; simp only [isK_t (tab := [96]) h3 rfl, if_true]
    have hS2 : S.2 = (s.2.1, s.2.2.1 + 1, s.2.2.2 + 1) := e2
    refine Or.inl ⟨(), cput (chg S 1 1) 1042 164 1 0 (.int mc' :: fl es'), wrI (ptI t 0 0) 166 c 0, own, ?_, ?_, rfl, fun Z h8 h9 => by rw [rt_8 rfl h8, ptI_rt h9], ?_, ?_, ?_, ?_⟩
    · rw [Option.bind_some, e1, Option.bind_some, xN_o g1 rfl rfl, Option.bind_some, Option.bind_some, if_pos (isK_t g2 rfl), t1, Option.bind_some, et]
      rfl
    · simp only [goes_eq, hb, show ¬ (1 : Int32) = 0 by decide, or_self, if_false, Option.bind_some]
      rw [stI_n (by omega) (by omega)]; rfl
    · exact ((frm_chg hw).trans (e6.trans (frm_cput (X := fun X => X = 8) (k := 1042) (n := 1) (m := 0) (xs := .int mc' :: fl es') (s := chg S 1 1) e6.2.2.2.2 (show 164 < S.2.1 by rw [hS2]; exact wf_lt hw h2.1) h2.2)))
    · refine ⟨nc, nk, C, D, M, _, R8_pt (R8_don (b' := fun k => if b k = some c then none else b k) (m1' := mc') (es' := es') r hc hO (fun k _ => rfl) (fun k hk => ?_) ?_ t2 (fun x hx => o3 x (t3 x hx)) (by omega) (fun q z1 z2 z3 => ?_))⟩
      · exact rs_some.mpr ⟨(rs_in (p14 k hk).1).2, (cput_ne (by have := lC k hk; omega)).trans (e3 k hk)⟩
      · exact rs_some.mpr ⟨h2.2, cput_eq ..⟩
      · unfold rs
        rw [cput_ne z3]
        show (if own q = 8 then S.1 q else none) = _
        rw [e5 q z1 z2]; rfl
    · show S.2.2.1 + 1 + 1 ≤ _; rw [hS2]; show s.2.2.1 + 1 + 1 + 1 ≤ _; omega
    · show S.2.2.2 + 1 + 0 ≤ _; rw [hS2]; show s.2.2.2 + 1 + 1 + 0 ≤ _; omega
  · rw [hcc, ht]
    refine Rg.arg (x := ()) (a := 1) (b := 1) hw r0 (by simp [uC]) (by simp [uT, goes_eq, ptI]) (by omega) (by omega)
