/-! the gate: one who passed -/
section
variable {own : Nat → Nat} {s : CS} {t : TS} {K zn nr nS nT nC nR nP nL a : Nat} {rel : Int32} {S C CS' CM CT E RS RM' RT P G D L F : Nat → Nat} {RW : Nat → Nat → Nat}
theorem ga_join {n k p : Nat} (hw : wfS s) (hs : 179 ≤ s.2.1) (hK : K < 1000) (r : R4x (lUpd (rs s.1 own 4) (D p) (true, false, 1004, rowC (fun i => .ref (RW p i)) n)) t K zn nr nS nT nC nR nP nL a rel S C CS' CM CT E RS RM' RT P G D L F RW) (hbu : ¬ t.1 1 = 0) {nw' : Nat} (hnw : nw' ≤ 6000) (h101 : s.1 101 = some (true, false, 56, [.int (t.1 2)])) (h2 : t.1 2 = Int32.ofNat nw') (hp : p < nP) (h15 : ¬ t.2.2.1 15 p = 1000000) (h16 : t.2.2.1 16 p = Int32.ofNat n) (hk : k < n) (hn : n ≤ 20) (ha : a + 1 ≤ 20 * K) (hD : s.1 (D p) = some (true, false, 1004, rowC (fun j => .ref (RW p (j + (k + 1)))) (n - (k + 1)))) (oD : own (D p) = 4) : ∃ s' T own' a' F', c_1038 108 (P p) (RW p k) s = some s' ∧ joT p (t, Int32.ofNat k) = some (.inl (T, Int32.ofNat (k + 1))) ∧ R4x (lUpd (rs s'.1 own' 4) (D p) (true, false, 1004, rowC (fun i => .ref (RW p i)) n)) T K zn nr nS nT nC nR nP nL a' rel S C CS' CM CT E RS RM' RT P G D L F' RW ∧ a' ≤ a + 1 ∧ Frm (fun X => X = 4) own own' s s' ∧ s'.1 (D p) = s.1 (D p) ∧ s'.1 101 = s.1 101 ∧ (∀ Z, Z ≠ 4 → Z ≠ 99 → rt T Z = rt t Z) ∧ (∀ c, c ≠ 49 → T.1 c = t.1 c) ∧ (∀ c, ¬ (24 ≤ c ∧ c ≤ 29) → ¬ (40 ≤ c ∧ c ≤ 43) → T.2.2.1 c = t.2.2.1 c) ∧ s'.2.2.1 ≤ s.2.2.1 + 19 ∧ s'.2.2.2 ≤ s.2.2.2 + 40 := by
  have hnT : nT ≤ K := r.2.2.2.2.2.2.2.2.1.1
  have haK : a ≤ 20 * K := r.2.2.2.2.2.2.2.2.1.2.2
  have rq := R4_vir (h' := s.1) (k := k + 1) r hp h15 h16 hk hn (fun q c hq hqc => (lU_in hqc hq).1) hD
  have lD := wf_lt hw hD
  -- the row
  have hP3 := r.2.2.2.2.2.2.1
  have hnP := hP3.2.2.1
  obtain ⟨dP, _, dp3⟩ := hP3.2.2.2.1 p hp
  obtain ⟨_, _, ⟨_, d179, _⟩, _, _, _, _, _, ⟨n', n1, n2, n3, n4⟩, _⟩ := dp3
  have en : n' = n := by rw [h16] at n2; exact ((i_inj (by omega) (by omega)).mp n2).symm
  subst en
  obtain ⟨b1, b2, ⟨c, hc, e17⟩, b4, ⟨m, hm, e19⟩⟩ := n4 k hk
  obtain ⟨q, hqn, e18, hq⟩ := room_n (s := (lUpd (rs s.1 own 4) (D p) (true, false, 1004, rowC (fun i => .ref (RW p i)) n'), s.2)) r hp (b4.imp Eq.symm Eq.symm)
  have hC60 := r.2.2.2.1.2.2.1
  have hb1 : s.1 (RW p k) = some (true, false, 86, [.ref (C c), .int (Int32.ofNat q), .int (Int32.ofNat m)]) := by
    rw [(lU_in b1 (lU_ne b1 (by show (86 : Nat) ≠ 1004; decide))).1]
    unfold rowG
    rw [e17, e18, e19, bN_of (by omega)]
  obtain ⟨d1, _, _, _, ⟨pn, hpn, e30⟩, _⟩ := rq.2.2.2.1.2.2.2.1 c hc
  have e30 : t.2.2.1 30 c = Int32.ofNat pn := by rw [← e30]; exact (congrFun (vir_o (by omega)) c).symm
  have hS40 := r.2.1.2.2.1
  have d1 : s.1 (C c) = some (true, false, 82, [.int (Int32.ofNat c), .ref (S pn), .int (t.2.2.1 31 c), .int (Int32.ofNat (CT c)), .ref (CS' c)]) := by
    rw [d1]
    unfold carD
    rw [vir_o (by omega), vir_o (by omega), e30, bN_of (by omega)]
  have dS : s.1 (S pn) = some (perC t pn) := by
    have x := (r.2.1.2.2.2.1 pn hpn).1
    exact (lU_in x (lU_ne x (by show (81 : Nat) ≠ 1004; decide))).1
  have g := rq.1.1
  -- coming in
  have c20 : (20 : Int32) * Int32.ofNat p + Int32.ofNat k = Int32.ofNat (20 * p + k) := by rw [show (20 : Int32) * Int32.ofNat p = Int32.ofNat (20 * p) from i_mul 20 p, i_add]
  have rd : ∀ (T : TS) (d : Nat), rdI T d 28000 (20 * Int32.ofNat p + Int32.ofNat k) = some (T.2.2.1 d (20 * p + k)) := fun T d => by rw [c20, rdI_n (by omega) (by omega)]
  have e30' : rdI t 30 60 (Int32.ofNat c) = some (Int32.ofNat pn) := by rw [rdI_n (by omega) (by omega), e30]
  obtain ⟨s1, T1, f1, f2, f3, f4, f5, f6, f7, f8, f9, f10, f11⟩ := jo_ent (x4 := Int32.ofNat c) (x5 := 20 * Int32.ofNat p + Int32.ofNat k) hw r rq hbu hnw h101 h2 hp hpn hqn hq d1 hb1 e30' (by rw [rd, e18])
  have lS := wf_lt hw dS
  have s21 : s1.2.1 = s.2.1 := by rw [f8]
  have s22 : s1.2.2.1 = s.2.2.1 := by rw [f8]
  have s23 : s1.2.2.2 = s.2.2.2 := by rw [f8]
  have nS : ∀ {q : Nat} {c : lCell}, s.1 q = some c → c.2.2.1 ≠ 81 → q ≠ S pn := fun h1 h2 z => by
    rw [z, dS] at h1
    exact h2 (by rw [← Option.some.inj h1]; rfl)
  have F1 : Frm (fun X => X = 4) own own s s1 := ⟨by omega, fun _ _ => rfl, fun q hq hx => f7 q (fun z => hx (by rw [z]; exact f5)), fun q h1 h2 => by omega, f4⟩
  have hD1 : s1.1 (D p) = _ := (f7 (D p) (nS hD (by show (1004 : Nat) ≠ 81; decide))).trans hD
  have t16 : T1.2.2.1 16 p = Int32.ofNat n' := by rw [f10 16 (by omega)]; exact h16
  have t15 : ¬ T1.2.2.1 15 p = 1000000 := by rw [f10 15 (by omega)]; exact h15
  have rq1 := R4_vir (h' := s1.1) (k := k + 1) f3 hp t15 t16 hk hn (fun q c hq hqc => (lU_in hqc hq).1) hD1
  have hbu1 : ¬ T1.1 1 = 0 := by rw [f9]; exact hbu
  have d1' : s1.1 (C c) = _ := (f7 (C c) (nS d1 (by show (82 : Nat) ≠ 81; decide))).trans d1
  have hb1' : s1.1 (RW p k) = _ := (f7 (RW p k) (nS hb1 (by show (86 : Nat) ≠ 81; decide))).trans hb1
  have dP' := (lU_in dP (lU_ne dP (by show (80 : Nat) ≠ 1004; decide))).1
  have dP1 : s1.1 (P p) = _ := (f7 (P p) (nS dP' (by show (80 : Nat) ≠ 81; decide))).trans dP'
  have h101' : s1.1 101 = _ := (f7 101 (nS h101 (by show (56 : Nat) ≠ 81; decide))).trans h101
  obtain ⟨w, m1, hm1, hw0, y1, y2⟩ := jo_why (t := T1) hK f3 rq1 hbu1 hc hqn hm hpn (by rw [f10 30 (by omega)]; exact e30) d1' hb1'
  have hT : ∀ T : TS, joT p (t, Int32.ofNat k) = some (.inl (T, Int32.ofNat (k + 1))) ↔ Option.bind ((if (0 : Int32) < w then (if (T1.1 49) < 100 then Option.bind (stI T1 40 100 (T1.1 49) (Int32.ofNat p)) (fun s13 => Option.bind (stI s13 41 100 (s13.1 49) (Int32.ofNat c)) (fun s14 => Option.bind (rdI s14 19 28000 ((20 * (Int32.ofNat p)) + Int32.ofNat k)) (fun x15 => Option.bind (stI s14 42 100 (s14.1 49) x15) (fun s16 => Option.bind (stI s16 43 100 (s16.1 49) w) (fun s17 => some s17))))) else some T1) else some T1)) (fun v117 => Option.bind ((if (0 : Int32) < w then some (1 : Int32) else some 0)) (fun v125 => Option.bind (some (ptI v117 49 ((v117.1 49) + v125))) (fun s18 => some (Sum.inl (β := TS) (s18, Int32.ofNat (k + 1)))))) = some (.inl (T, Int32.ofNat (k + 1))) := fun T => by
    unfold joT
    dsimp only
    rw [rdI_n (by omega) (by omega)]; repeat (first | rw [Option.bind_some] | rw [Sum.elim_inl] | rw [Sum.elim_inr])
    rw [h16, if_pos ((i_lt (by omega) (by omega)).mpr hk), rd, e17]; repeat (first | rw [Option.bind_some] | rw [Sum.elim_inl] | rw [Sum.elim_inr])
    rw [e30']; repeat (first | rw [Option.bind_some] | rw [Sum.elim_inl] | rw [Sum.elim_inr])
    rw [rdI_n (by omega) (by omega)]; repeat (first | rw [Option.bind_some] | rw [Sum.elim_inl] | rw [Sum.elim_inr])
    rw [e30', Option.bind_some] at f2
    rw [f2]; repeat (first | rw [Option.bind_some] | rw [Sum.elim_inl] | rw [Sum.elim_inr])
    rw [rd, rd, f10 18 (by omega), f10 19 (by omega), e18, e19]; repeat (first | rw [Option.bind_some] | rw [Sum.elim_inl] | rw [Sum.elim_inr])
    rw [y1]; repeat (first | rw [Option.bind_some] | rw [Sum.elim_inl] | rw [Sum.elim_inr])
    rw [i_suc]
  unfold c_1038
  rw [xR_o (b := C c) hb1 rfl rfl]; repeat (first | rw [Option.bind_some] | rw [Sum.elim_inl] | rw [Sum.elim_inr])
  rw [xN_o (b := S pn) d1 rfl rfl]; repeat (first | rw [Option.bind_some] | rw [Sum.elim_inl] | rw [Sum.elim_inr])
  rw [xI_o (x := t.2.2.1 27 pn) dS rfl rfl]; repeat (first | rw [Option.bind_some] | rw [Sum.elim_inl] | rw [Sum.elim_inr])
  rw [xN_o (b := S pn) d1 rfl rfl, Option.bind_some] at f1
  rw [f1]; repeat (first | rw [Option.bind_some] | rw [Sum.elim_inl] | rw [Sum.elim_inr])
  rw [xI_o (x := Int32.ofNat m) hb1' rfl rfl]; repeat (first | rw [Option.bind_some] | rw [Sum.elim_inl] | rw [Sum.elim_inr])
  rw [if_pos (isK_t rq1.1.1 rfl), y2]; repeat (first | rw [Option.bind_some] | rw [Sum.elim_inl] | rw [Sum.elim_inr])
  dsimp only
  have F2 : Frm (fun X => X = 4) own own s (chg s1 m1 m1) := F1.trans (frm_chg f4)
  by_cases hw1 : w = 0
  · rw [if_pos hw1]
    refine ⟨chg s1 m1 m1, T1, own, a, F, rfl, (hT T1).mpr ?_, f3, by omega, F2, (f7 (D p) (nS hD (by show (1004 : Nat) ≠ 81; decide))), f7 101 (nS h101 (by show (56 : Nat) ≠ 81; decide)), f11, fun c _ => by rw [f9], fun c h1 _ => f10 c h1, ?_, ?_⟩
    · rw [hw1, if_neg (by decide), if_neg (by decide), Option.bind_some, Option.bind_some, Option.bind_some, pt_id (by simp)]
    · show s1.2.2.1 + m1 ≤ _; omega
    · show s1.2.2.2 + m1 ≤ _; omega
  · have hw2 : (0 : Int32) < w := by rcases hw0 with z | z; exact absurd z hw1; exact z
    rw [if_neg hw1]
    have hT49 : T1.1 49 = Int32.ofNat a := f3.2.2.2.2.2.2.2.1.2.1
    have g0 : s1.1 108 = some (true, false, 89, [.ref 101, .int (if T1.1 1 = 0 then -1 else T1.1 9), .ref zn, .ref 110, .ref 111, .ref 112, .ref 113, .ref 114, .int (Int32.ofNat a), .int (T1.1 45), .int rel]) := by rw [← hT49]; exact (lU_in f3.1.1 (by omega)).1
    have g1 : (chg s1 m1 m1).1 108 = _ := g0
    obtain ⟨⟨mc, x114⟩, _, _⟩ := rq1.2.2.2.2.2.2.2.1
    rw [xI_o (x := Int32.ofNat a) g1 rfl rfl, Option.bind_some, i_suc]
    rw [xP_c (fs' := [.ref 101, .int (if T1.1 1 = 0 then -1 else T1.1 9), .ref zn, .ref 110, .ref 111, .ref 112, .ref 113, .ref 114, .int (Int32.ofNat (a + 1)), .int (T1.1 45), .int rel]) g1 rfl (by simp) rfl]; repeat (first | rw [Option.bind_some] | rw [Sum.elim_inl] | rw [Sum.elim_inr])
    rw [xN_o (b := 114) (cup_eq ..) rfl rfl]; repeat (first | rw [Option.bind_some] | rw [Sum.elim_inl] | rw [Sum.elim_inr])
    generalize hS2 : cup (chg s1 m1 m1) 108 (true, false, 89, [.ref 101, .int (if T1.1 1 = 0 then -1 else T1.1 9), .ref zn, .ref 110, .ref 111, .ref 112, .ref 113, .ref 114, .int (Int32.ofNat (a + 1)), .int (T1.1 45), .int rel]) = s2
    have z108 : s2.1 108 = some (true, false, 89, [.ref 101, .int (if T1.1 1 = 0 then -1 else T1.1 9), .ref zn, .ref 110, .ref 111, .ref 112, .ref 113, .ref 114, .int (Int32.ofNat (a + 1)), .int (T1.1 45), .int rel]) := by rw [← hS2]; exact cup_eq ..
    have zne : ∀ q, q ≠ 108 → s2.1 q = s1.1 q := fun q hq => by rw [← hS2]; exact cup_ne hq
    have z2 : s2.2.1 = s1.2.1 := by rw [← hS2]; rfl
    have z3 : s2.2.2.1 = s1.2.2.1 + m1 := by rw [← hS2]; rfl
    have z4 : s2.2.2.2 = s1.2.2.2 + m1 := by rw [← hS2]; rfl
    have z5 : wfS s2 := by rw [← hS2]; exact wf_cup (wf_chg f4) (wf_lt f4 g1)
    have o108 := (lU_in f3.1.1 (by omega)).2
    have o114 := (lU_in f3.2.2.2.2.2.2.2.1.1.choose_spec (by omega)).2
    have z114 : s2.1 114 = _ := (zne 114 (by omega)).trans x114
    rw [if_pos (isK_t z114 rfl), alSize_r z114]; repeat (first | rw [Option.bind_some] | rw [Sum.elim_inl] | rw [Sum.elim_inr])
    have r22 := fun (s' : CS) (own' : Nat → Nat) (x : Nat) (h1 : ∀ q, q < s.2.1 → own' q = own q) (h2 : ∀ q, q < s.2.1 → q ≠ 108 → q ≠ 114 → s'.1 q = s2.1 q) (h3 : s'.1 108 = s2.1 108) (h4 : ∃ mc : Int32, s'.1 114 = some (true, false, 1013, .int mc :: rowC (fun j => .ref (if j = a then x else F j)) (min (a + 1) 100))) (h5 : a < 100 → 179 ≤ x ∧ own' x = 4 ∧ x ≠ D p ∧ s'.1 x = some (true, false, 85, [.int (Int32.ofNat p), .int (Int32.ofNat c), .int (Int32.ofNat m), .int w])) => R4_ag (h' := lUpd (rs s'.1 own' 4) (D p) (true, false, 1004, rowC (fun i => .ref (RW p i)) n')) (p := p) (c := c) (m := m) (x := x) (w := w) f3 hbu1 ha (fun q c' hq hq' hc' => by
        refine lU_keep f4 (fun q hq => h1 q (by omega)) hc' (fun h6 h7 => ?_)
        rw [h2 q (by omega) hq hq']; exact zne q hq) (by
        rw [lU_ne0 _ _ (by omega)]
        exact rs_some.mpr ⟨by rw [h1 108 (by omega)]; exact o108, h3.trans z108⟩) (by
        obtain ⟨mc', h6⟩ := h4
        exact ⟨mc', by rw [lU_ne0 _ _ (by omega)]; exact rs_some.mpr ⟨by rw [h1 114 (by omega)]; exact o114, h6⟩⟩) (fun hx => ⟨(h5 hx).1, by rw [lU_ne0 _ _ (h5 hx).2.2.1]; exact rs_some.mpr ⟨(h5 hx).2.1, (h5 hx).2.2.2⟩⟩)
    have frm2 : ∀ (s' : CS) (own' : Nat → Nat), s2.2.1 ≤ s'.2.1 → (∀ q, q < s.2.1 → own' q = own q) → (∀ q, q < s.2.1 → q ≠ 108 → q ≠ 114 → s'.1 q = s2.1 q) → (∀ q, s.2.1 ≤ q → q < s'.2.1 → own' q = 4) → wfS s' → Frm (fun X => X = 4) own own' s s' := fun s' own' h1 h2 h3 h4 h5 => ⟨by omega, h2, fun q hq hx => by
      have q1 : q ≠ 108 := fun z => hx (by rw [z]; exact o108)
      have q2 : q ≠ 114 := fun z => hx (by rw [z]; exact o114)
      rw [h3 q hq q1 q2, zne q q1]
      exact f7 q (fun z => hx (by rw [z]; exact f5)), h4, h5⟩
    have tA : joT p (t, Int32.ofNat k) = some (.inl (agT T1 a p c m w, Int32.ofNat (k + 1))) := by
      refine (hT _).mpr ?_
      rw [if_pos hw2, if_pos hw2]
      unfold agT
      by_cases y : a < 100
      · rw [hT49, if_pos ((i_ltL (by omega) (by omega)).mpr y), if_pos y, stI_n (by omega) (by omega)]; repeat (first | rw [Option.bind_some] | rw [Sum.elim_inl] | rw [Sum.elim_inr])
        rw [show (wrI T1 40 a (Int32.ofNat p)).1 49 = Int32.ofNat a from hT49, stI_n (by omega) (by omega)]; repeat (first | rw [Option.bind_some] | rw [Sum.elim_inl] | rw [Sum.elim_inr])
        rw [rd, show (wrI (wrI T1 40 a (Int32.ofNat p)) 41 a (Int32.ofNat c)).2.2.1 19 (20 * p + k) = Int32.ofNat m from (congrFun (f10 19 (by omega)) _).trans e19]; repeat (first | rw [Option.bind_some] | rw [Sum.elim_inl] | rw [Sum.elim_inr])
        rw [show (wrI (wrI T1 40 a (Int32.ofNat p)) 41 a (Int32.ofNat c)).1 49 = Int32.ofNat a from hT49, stI_n (by omega) (by omega)]; repeat (first | rw [Option.bind_some] | rw [Sum.elim_inl] | rw [Sum.elim_inr])
        rw [show (wrI (wrI (wrI T1 40 a (Int32.ofNat p)) 41 a (Int32.ofNat c)) 42 a (Int32.ofNat m)).1 49 = Int32.ofNat a from hT49, stI_n (by omega) (by omega)]; repeat (first | rw [Option.bind_some] | rw [Sum.elim_inl] | rw [Sum.elim_inr])
        rw [show (wrI (wrI (wrI (wrI T1 40 a (Int32.ofNat p)) 41 a (Int32.ofNat c)) 42 a (Int32.ofNat m)) 43 a w).1 49 = Int32.ofNat a from hT49, i_suc]
      · rw [hT49, if_neg (fun z => y ((i_ltL (by omega) (by omega)).mp z)), if_neg y]; repeat (first | rw [Option.bind_some] | rw [Sum.elim_inl] | rw [Sum.elim_inr])
        rw [hT49, i_suc]
    have rA : ∀ Z, Z ≠ 4 → Z ≠ 99 → rt (agT T1 a p c m w) Z = rt t Z := fun Z h4 h9 => by
      rw [← f11 Z h4 h9]
      unfold agT
      rw [rt_ptI (by show (4 : Nat) ≠ Z; omega)]
      split
      · rw [rt_wrI (by show (4 : Nat) ≠ Z; omega), rt_wrI (by show (4 : Nat) ≠ Z; omega), rt_wrI (by show (4 : Nat) ≠ Z; omega), rt_wrI (by show (4 : Nat) ≠ Z; omega)]
      · rfl
    have rB : ∀ c', c' ≠ 49 → (agT T1 a p c m w).1 c' = t.1 c' := fun c' h => by rw [agT_1 h, f9]
    have rC : ∀ c', ¬ (24 ≤ c' ∧ c' ≤ 29) → ¬ (40 ≤ c' ∧ c' ≤ 43) → (agT T1 a p c m w).2.2.1 c' = t.2.2.1 c' := fun c' h1 h2 => by
      rw [← f10 c' h1]
      refine funext (fun j => ?_)
      rw [agT_3]
      split
      · rw [if_neg (by omega), if_neg (by omega), if_neg (by omega), if_neg (by omega)]
      · rfl
    by_cases y : a < 100
    · rw [if_pos (show Int32.ofNat (min a 100) < (100 : Int32) from (i_ltL (by omega) (by omega)).mpr (by omega))]; repeat (first | rw [Option.bind_some] | rw [Sum.elim_inl] | rw [Sum.elim_inr])
      obtain ⟨S3, e3, a1, a2, a3, a4, a5, a6⟩ := nw_o (s := s2) 85 [.int 0, .int 0, .int 0, .int 0] z5
      have a6' : S3.2.2.2 = s2.2.2.2 + 4 := a6
      have l108 := wf_lt z5 z108
      have l114 := wf_lt z5 z114
      have dP2 : S3.1 (P p) = _ := (a2 (P p) (by have := wf_lt f4 dP1; omega)).trans ((zne (P p) (fun z => by rw [z, g0] at dP1; cases dP1)).trans dP1)
      have dC2 : S3.1 (C c) = _ := (a2 (C c) (by have := wf_lt f4 d1'; omega)).trans ((zne (C c) (fun z => by rw [z, g0] at d1'; cases d1')).trans d1')
      have dR2 : S3.1 (RW p k) = _ := (a2 (RW p k) (by have := wf_lt f4 hb1'; omega)).trans ((zne (RW p k) (fun z => by rw [z, g0] at hb1'; cases hb1')).trans hb1')
      rw [e3]; repeat (first | rw [Option.bind_some] | rw [Sum.elim_inl] | rw [Sum.elim_inr] | rw [if_neg (show ¬ (1 : Int32) = 0 by decide)] | rw [if_pos (show (0 : Int32) = 0 from rfl)] | rw [if_pos (show true = true from rfl)] | rw [if_neg (show ¬ false = true by decide)] | dsimp only)
      rw [xI_o (x := Int32.ofNat p) dP2 rfl rfl]; repeat (first | rw [Option.bind_some] | rw [Sum.elim_inl] | rw [Sum.elim_inr])
      rw [xI_o (x := Int32.ofNat c) dC2 rfl rfl]; repeat (first | rw [Option.bind_some] | rw [Sum.elim_inl] | rw [Sum.elim_inr])
      rw [xI_o (x := Int32.ofNat m) dR2 rfl rfl]; repeat (first | rw [Option.bind_some] | rw [Sum.elim_inl] | rw [Sum.elim_inr])
      rw [if_pos (isK_t a1 rfl)]
      unfold c_1006
      rw [if_pos (isK_t a1 rfl), xP_c a1 rfl (by simp) rfl]; repeat (first | rw [Option.bind_some] | rw [Sum.elim_inl] | rw [Sum.elim_inr])
      rw [xP_c (cup_eq ..) rfl (by simp) rfl, cupU]; repeat (first | rw [Option.bind_some] | rw [Sum.elim_inl] | rw [Sum.elim_inr])
      rw [xP_c (cup_eq ..) rfl (by simp) rfl, cupU]; repeat (first | rw [Option.bind_some] | rw [Sum.elim_inl] | rw [Sum.elim_inr])
      rw [xP_c (fs' := [.int (Int32.ofNat p), .int (Int32.ofNat c), .int (Int32.ofNat m), .int w]) (cup_eq ..) rfl (by simp) rfl, cupU]; repeat (first | rw [Option.bind_some] | rw [Sum.elim_inl] | rw [Sum.elim_inr])
      have y114 : (cup S3 s2.2.1 (true, false, 85, [.int (Int32.ofNat p), .int (Int32.ofNat c), .int (Int32.ofNat m), .int w])).1 114 = _ := (cup_ne (by omega)).trans ((a2 114 (by omega)).trans z114)
      rw [if_pos (isK_t y114 rfl), alAdd_r (v := .ref s2.2.1) y114 (by omega) (elO_o (cup_eq ..))]; repeat (first | rw [Option.bind_some] | rw [Sum.elim_inl] | rw [Sum.elim_inr])
      generalize hSS : cput (cup S3 s2.2.1 (true, false, 85, [.int (Int32.ofNat p), .int (Int32.ofNat c), .int (Int32.ofNat m), .int w])) 1013 114 1 16 (.int (mc + 1) :: rowC (fun j => if j = min a 100 then .ref s2.2.1 else .ref (F j)) (min a 100 + 1)) = S'
      have k1 : ∀ q, q < s.2.1 → q ≠ 108 → q ≠ 114 → S'.1 q = s2.1 q := fun q h1 h2 h3 => by rw [← hSS, cput_ne h3, cup_ne (by omega), a2 q (by omega)]
      have k2 : S'.1 s2.2.1 = some (true, false, 85, [.int (Int32.ofNat p), .int (Int32.ofNat c), .int (Int32.ofNat m), .int w]) := by rw [← hSS, cput_ne (by omega), cup_eq]
      have k3 : S'.1 108 = s2.1 108 := by rw [← hSS, cput_ne (by omega), cup_ne (by omega), a2 108 (by omega)]
      have k4 : ∃ mc : Int32, S'.1 114 = some (true, false, 1013, .int mc :: rowC (fun j => .ref (if j = a then s2.2.1 else F j)) (min (a + 1) 100)) := by
        refine ⟨mc + 1, ?_⟩
        rw [← hSS, cput_eq, show min a 100 = a by omega, show min (a + 1) 100 = a + 1 by omega]
        refine congrArg (fun l => some (true, false, 1013, Value.int (mc + 1) :: l)) (rowC_congr (fun j hj => ?_))
        split <;> rfl
      have k5 : wfS S' := by rw [← hSS]; exact wf_cup (wf_cup a4 (by omega)) (by show 114 < S3.2.1; omega)
      have k6 : S'.2.1 = s2.2.1 + 1 := by rw [← hSS]; exact a3
      have k7 : S'.2.2.1 = s2.2.2.1 + 2 := by rw [← hSS]; show S3.2.2.1 + 1 = _; omega
      have k8 : S'.2.2.2 = s2.2.2.2 + 20 := by rw [← hSS]; show S3.2.2.2 + 16 = _; omega
      have ho : ∀ q, q < s.2.1 → givs own s2.2.1 1 4 q = own q := fun q hq => if_neg (by omega)
      refine ⟨S', agT T1 a p c m w, givs own s2.2.1 1 4, a + 1, _, rfl, tA, r22 S' (givs own s2.2.1 1 4) s2.2.1 ho k1 k3 k4 (fun _ => ⟨by omega, if_pos (by omega), by omega, k2⟩), by omega, frm2 S' _ (by omega) ho k1 (fun q h1 h2 => if_pos (by omega)) k5, ?_, ?_, rA, rB, rC, by omega, by omega⟩
      · rw [k1 (D p) (by omega) (by omega) (by omega), zne (D p) (by omega)]; exact hD1.trans hD.symm
      · rw [k1 101 (wf_lt hw h101) (by omega) (by omega), zne 101 (by omega)]; exact h101'.trans h101.symm
    · rw [if_neg (show ¬ Int32.ofNat (min a 100) < (100 : Int32) from fun z => by have := (i_ltL (by omega) (by omega)).mp z; omega)]
      refine ⟨s2, agT T1 a p c m w, own, a + 1, _, rfl, tA, r22 s2 own 0 (fun _ _ => rfl) (fun _ _ _ _ => rfl) rfl ⟨mc, ?_⟩ (fun z => absurd z y), by omega, frm2 s2 own (Nat.le_refl _) (fun _ _ => rfl) (fun _ _ _ _ => rfl) (fun q h1 h2 => by omega) z5, ?_, ?_, rA, rB, rC, by omega, by omega⟩
      · rw [z114, show min a 100 = 100 by omega, show min (a + 1) 100 = 100 by omega]
        refine congrArg (fun l => some (true, false, 1013, Value.int mc :: l)) (rowC_congr (fun j hj => ?_))
        rw [if_neg (by omega)]
      · rw [zne (D p) (by omega)]; exact hD1.trans hD.symm
      · rw [zne 101 (by omega)]; exact h101'.trans h101.symm
end
