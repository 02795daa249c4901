/-! the gate: a person -/
theorem hS_mk {h h' : lHeap} {a : Nat} {c0 : lCell} (h0 : h a = some c0) (k : ∀ q c, q ≠ a → h q = some c → h' q = some c) {X : Nat → lCell → Prop} (hx : ∀ c, X a c → c.2.2.1 = c0.2.2.1 → False) : hS h h' X := fun q c hX hq => k q c (fun z => by
  subst z
  rw [h0] at hq
  exact hx c hX (by rw [← Option.some.inj hq])) hq
theorem hS_mk2 {h h' : lHeap} {a b : Nat} {c0 c1 : lCell} (h0 : h a = some c0) (h1 : h b = some c1) (k : ∀ q c, q ≠ a → q ≠ b → h q = some c → h' q = some c) {X : Nat → lCell → Prop} (hx : ∀ c, X a c → c.2.2.1 = c0.2.2.1 → False) (hy : ∀ c, X b c → c.2.2.1 = c1.2.2.1 → False) : hS h h' X := fun q c hX hq => k q c (fun z => by
  subst z
  rw [h0] at hq
  exact hx c hX (by rw [← Option.some.inj hq])) (fun z => by
  subst z
  rw [h1] at hq
  exact hy c hX (by rw [← Option.some.inj hq])) hq
/-- cells of a part in a later store -/
theorem rs_keep {s s' : CS} {own own' : Nat → Nat} {X q : Nat} {c : lCell} (hw : wfS s) (ho : ∀ q, q < s.2.1 → own' q = own q) (h : rs s.1 own X q = some c) (e : s'.1 q = s.1 q) : rs s'.1 own' X q = some c := by
  obtain ⟨h1, h2⟩ := rs_in h
  exact rs_some.mpr ⟨by rw [ho q (wf_lt hw h1)]; exact h2, by rw [e]; exact h1⟩
theorem mapL (f g : Nat → Nat) (n : Nat) : rowC (fun j => if j = n then Value.ref (g n) else .ref (f j)) (n + 1) = rowC (fun j => .ref (if j = n then g n else f j)) (n + 1) := rowC_congr (fun j _ => by
  by_cases y : j = n
  · rw [if_pos y, if_pos y]
  · rw [if_neg y, if_neg y])
def perT (t : TS) (k : Nat) (g p : Int32) : TS := ptI (wrI (wrI (wrI (wrI (wrI (wrI (ptI t 0 0) 22 k g) 23 k p) 24 k (t.1 9)) 25 k (-1)) 26 k (-1)) 27 k (-1)) 27 (Int32.ofNat (k + 1))
section
variable {own : Nat → Nat} {s : CS} {t : TS} {K : Nat}
theorem ga_person (hw : wfS s) (hs : 179 ≤ s.2.1) (r : R4 (rs s.1 own 4) t K) (v1 v2 : Int32) : Rg thr0 (fun X => X = 4) 4 (fun H t => R4 (H 4) t (K + 1)) own s t 2 25 (c_1024 108 v1 v2 s) (t_593 v1 v2 t) := by
  obtain ⟨zn, nr, nS, nT, nC, nR, nP, nL, a, rel, S, C, CS', CM, CT, E, RS, RM', RT, P, G, D, L, F, RW, r⟩ := r
  have q := R4_raw r
  have hR := ga_ex r
  have q' := q
  obtain ⟨⟨g, g2, g3, g4, g5, g6⟩, ⟨⟨mc, r1⟩, r2, r3, r4, r5, r6⟩, _, _, _, _, _, _, _, z0⟩ := q'
  have k89 : isK s [89] 108 = true := isK_t g rfl
  have l108 := wf_lt hw g
  have l111 := wf_lt hw r1
  have e14 : (if v1 < 0 then some (0 : Int32) else if v1 < 10 then (if v2 < 1 then some 0 else if 5 < v2 then some 0 else some 1) else some 0) = some (if inB v1 10 = true ∧ ¬ v2 < 1 ∧ ¬ 5 < v2 then 1 else 0) := by
    unfold inB
    by_cases x1 : v1 < 0 <;> by_cases x2 : v1 < 10 <;> by_cases x3 : v2 < 1 <;> by_cases x4 : (5 : Int32) < v2 <;> simp [x1, x2, x3, x4]
  have t14 : (if (if inB v1 10 = true then (1 : Int32) else 0) = 0 then some (0 : Int32) else if v2 < 1 then some 0 else if 5 < v2 then some 0 else some 1) = some (if inB v1 10 = true ∧ ¬ v2 < 1 ∧ ¬ 5 < v2 then 1 else 0) := by
    by_cases x1 : inB v1 10 = true <;> by_cases x3 : v2 < 1 <;> by_cases x4 : (5 : Int32) < v2 <;> simp [x1, x3, x4]
  unfold c_1024 t_593
  rw [e14, isInB]; repeat (first | rw [Option.bind_some] | rw [Sum.elim_inl] | rw [Sum.elim_inr])
  rw [t14]; repeat (first | rw [Option.bind_some] | rw [Sum.elim_inl] | rw [Sum.elim_inr])
  rw [need_eq]
  by_cases hok : inB v1 10 = true ∧ ¬ v2 < 1 ∧ ¬ 5 < v2
  · rw [if_pos hok, if_neg (show ¬ (1 : Int32) = 0 by decide)]; repeat (first | rw [Option.bind_some] | rw [Sum.elim_inl] | rw [Sum.elim_inr])
    rw [if_pos k89, c_isB q]; repeat (first | rw [Option.bind_some] | rw [Sum.elim_inl] | rw [Sum.elim_inr])
    have eS : (if t.1 1 = 0 then some (0 : Int32) else if t.1 27 < 40 then some 1 else some 0) = some (if ¬ t.1 1 = 0 ∧ nS < 40 then 1 else 0) := by
      rw [r2]
      by_cases x1 : t.1 1 = 0
      · simp [x1]
      · rw [if_neg x1]
        by_cases x2 : nS < 40
        · rw [if_pos ((i_ltL (by omega) (by omega)).mpr x2), if_pos ⟨x1, x2⟩]
        · rw [if_neg (fun z => x2 ((i_ltL (by omega) (by omega)).mp z)), if_neg (fun z => x2 z.2)]
    rw [eS, xN_o (b := 111) g rfl rfl]; repeat (first | rw [Option.bind_some] | rw [Sum.elim_inl] | rw [Sum.elim_inr])
    rw [if_pos (isK_t r1 rfl), alSize_r r1]; repeat (first | rw [Option.bind_some] | rw [Sum.elim_inl] | rw [Sum.elim_inr])
    have eC : (if (if t.1 1 = 0 then (0 : Int32) else 1) = 0 then some (0 : Int32) else if Int32.ofNat nS < 40 then some 1 else some 0) = some (if ¬ t.1 1 = 0 ∧ nS < 40 then 1 else 0) := by
      rw [← eS, r2]
      by_cases x1 : t.1 1 = 0
      · rw [if_pos x1, if_pos x1, if_pos rfl]
      · rw [if_neg x1, if_neg x1, if_neg (show ¬ (1 : Int32) = 0 by decide)]
    rw [eC]; repeat (first | rw [Option.bind_some] | rw [Sum.elim_inl] | rw [Sum.elim_inr])
    rw [may_eq]
    by_cases hst : ¬ t.1 1 = 0 ∧ nS < 40
    · rw [if_pos hst, if_neg (show ¬ (1 : Int32) = 0 by decide), goes_1 t (by decide)]; repeat (first | rw [Option.bind_some] | rw [Sum.elim_inl] | rw [Sum.elim_inr])
      try dsimp only
      obtain ⟨S1, e1, a1, a2, a3, a4, a5, a6⟩ := nw_o (s := s) 81 [.int 0, .int 0, .int 0, .int 0, .int 0, .int 0, .int 0, .int 0, .int 0] hw
      have x108 : S1.1 108 = _ := (a2 108 (by omega)).trans g
      have x111 : S1.1 111 = _ := (a2 111 (by omega)).trans r1
      rw [xN_o (b := 111) g rfl rfl]; repeat (first | rw [Option.bind_some] | rw [Sum.elim_inl] | rw [Sum.elim_inr])
      rw [e1]; repeat (first | rw [Option.bind_some] | rw [Sum.elim_inl] | rw [Sum.elim_inr])
      try dsimp only
      rw [xN_o (b := 111) x108 rfl rfl]; repeat (first | rw [Option.bind_some] | rw [Sum.elim_inl] | rw [Sum.elim_inr])
      rw [if_pos (isK_t x111 rfl), alSize_r x111]; repeat (first | rw [Option.bind_some] | rw [Sum.elim_inl] | rw [Sum.elim_inr])
      rw [xI_o (x := if t.1 1 = 0 then -1 else t.1 9) x108 rfl rfl]; repeat (first | rw [Option.bind_some] | rw [Sum.elim_inl] | rw [Sum.elim_inr])
      rw [if_pos (isK_t a1 rfl), if_neg hst.1]
      unfold c_995
      rw [xP_c a1 rfl (by simp) rfl]; repeat (first | rw [Option.bind_some] | rw [Sum.elim_inl] | rw [Sum.elim_inr])
      rw [xP_c (cup_eq ..) rfl (by simp) rfl, cupU]; repeat (first | rw [Option.bind_some] | rw [Sum.elim_inl] | rw [Sum.elim_inr])
      rw [xP_c (cup_eq ..) rfl (by simp) rfl, cupU]; repeat (first | rw [Option.bind_some] | rw [Sum.elim_inl] | rw [Sum.elim_inr])
      rw [xP_c (cup_eq ..) rfl (by simp) rfl, cupU]; repeat (first | rw [Option.bind_some] | rw [Sum.elim_inl] | rw [Sum.elim_inr])
      rw [xP_c (cup_eq ..) rfl (by simp) rfl, cupU]; repeat (first | rw [Option.bind_some] | rw [Sum.elim_inl] | rw [Sum.elim_inr])
      rw [xP_c (cup_eq ..) rfl (by simp) rfl, cupU]; repeat (first | rw [Option.bind_some] | rw [Sum.elim_inl] | rw [Sum.elim_inr])
      rw [xP_c (fs' := [.int (Int32.ofNat nS), .int v1, .int v2, .int (t.1 9), .int (-1), .int (-1), .int (-1), .int 0, .int 0]) (cup_eq ..) rfl (by simp) rfl, cupU]; repeat (first | rw [Option.bind_some] | rw [Sum.elim_inl] | rw [Sum.elim_inr])
      have y111 : (cup S1 s.2.1 (true, false, 81, [.int (Int32.ofNat nS), .int v1, .int v2, .int (t.1 9), .int (-1), .int (-1), .int (-1), .int 0, .int 0])).1 111 = _ := (cup_ne (by omega)).trans x111
      rw [if_pos (isK_t y111 rfl), alAdd_r y111 (by omega) (elO_o (cup_eq ..))]; repeat (first | rw [Option.bind_some] | rw [Sum.elim_inl] | rw [Sum.elim_inr])
      have z108 : (cput (cup S1 s.2.1 (true, false, 81, [.int (Int32.ofNat nS), .int v1, .int v2, .int (t.1 9), .int (-1), .int (-1), .int (-1), .int 0, .int 0])) 1013 111 1 16 (.int (mc + 1) :: rowC (fun j => if j = nS then .ref s.2.1 else .ref (S j)) (nS + 1))).1 108 = _ := (cput_ne (by omega)).trans ((cup_ne (by omega)).trans x108)
      have z111 := cput_eq (cup S1 s.2.1 (true, false, 81, [.int (Int32.ofNat nS), .int v1, .int v2, .int (t.1 9), .int (-1), .int (-1), .int (-1), .int 0, .int 0])) 1013 111 1 16 (.int (mc + 1) :: rowC (fun j => if j = nS then .ref s.2.1 else .ref (S j)) (nS + 1))
      rw [xN_o (b := 111) z108 rfl rfl]; repeat (first | rw [Option.bind_some] | rw [Sum.elim_inl] | rw [Sum.elim_inr])
      rw [if_pos (isK_t z111 rfl), alSize_r z111]; repeat (first | rw [Option.bind_some] | rw [Sum.elim_inl] | rw [Sum.elim_inr])
      have hT : (if (1 : Int32) = 0 then some ((0 : Int32), ptI t 0 0) else Option.bind (stI (ptI t 0 0) 22 40 ((ptI t 0 0).1 27) v1) (fun s3 => Option.bind (stI s3 23 40 (s3.1 27) v2) (fun s4 => Option.bind (stI s4 24 40 (s4.1 27) (s4.1 9)) (fun s5 => Option.bind (stI s5 25 40 (s5.1 27) (-1)) (fun s6 => Option.bind (stI s6 26 40 (s6.1 27) (-1)) (fun s7 => Option.bind (stI s7 27 40 (s7.1 27) (-1)) (fun s8 => Option.bind (some (ptI s8 27 ((s8.1 27) + 1))) (fun s9 => some ((s9.1 27) - 1, s9))))))))) = some (Int32.ofNat nS, perT t nS v1 v2) := by
        have q27 : (ptI t 0 0).1 27 = Int32.ofNat nS := r2
        have q9 : (ptI t 0 0).1 9 = t.1 9 := rfl
        rw [if_neg (show ¬ (1 : Int32) = 0 by decide)]
        unfold perT
        simp only [q27, q9, wr_1, stI_n hst.2 (show 40 < 2147483648 by omega), Option.bind_some, i_suc]
        rw [pt_1, if_pos rfl, i_subL (by omega)]; rfl
      rw [hT, i_subL (show 1 ≤ nS + 1 by omega)]
      generalize hSS : cput (cup S1 s.2.1 (true, false, 81, [.int (Int32.ofNat nS), .int v1, .int v2, .int (t.1 9), .int (-1), .int (-1), .int (-1), .int 0, .int 0])) 1013 111 1 16 (.int (mc + 1) :: rowC (fun j => if j = nS then .ref s.2.1 else .ref (S j)) (nS + 1)) = S' at z108 z111 ⊢
      have n1 : ∀ q, q < s.2.1 → q ≠ 111 → S'.1 q = s.1 q := fun q h1 h2 => by rw [← hSS, cput_ne h2, cup_ne (by omega), a2 q (by omega)]
      have n2 : S'.1 s.2.1 = some (true, false, 81, [.int (Int32.ofNat nS), .int v1, .int v2, .int (t.1 9), .int (-1), .int (-1), .int (-1), .int 0, .int 0]) := by rw [← hSS, cput_ne (by omega), cup_eq]
      have n3 : S'.2.1 = s.2.1 + 1 := by rw [← hSS]; exact a3
      have n4 : wfS S' := by rw [← hSS]; exact wf_cup (wf_cup a4 (by omega)) (by show 111 < S1.2.1; omega)
      have n5 : S'.2.2.1 = s.2.2.1 + 2 := by rw [← hSS]; show S1.2.2.1 + 1 = _; omega
      have n6 : S'.2.2.2 = s.2.2.2 + 25 := by rw [← hSS]; show S1.2.2.2 + 16 = _; rw [a6]; rfl
      clear hSS hT
      have ho : ∀ q, q < s.2.1 → givs own s.2.1 1 4 q = own q := fun q hq => if_neg (by omega)
      have o111 := (rs_in r.2.1.1.choose_spec).2
      have hK : ∀ q c, q ≠ 111 → rs s.1 own 4 q = some c → rs S'.1 (givs own s.2.1 1 4) 4 q = some c := fun q c h1 h2 => rs_keep hw ho h2 (n1 q (wf_lt hw (rs_in h2).1) h1)
      have T1 : ∀ c, c ≠ 0 → c ≠ 27 → (perT t nS v1 v2).1 c = t.1 c := fun c h0 h1 => by
        unfold perT; rw [pt_1, if_neg h1]; exact if_neg h0
      have T3 : ∀ c j, ¬ (22 ≤ c ∧ c ≤ 27 ∧ j = nS) → (perT t nS v1 v2).2.2.1 c j = t.2.2.1 c j := fun c j h1 => by
        show (if c = 27 ∧ j = nS then (-1 : Int32) else if c = 26 ∧ j = nS then -1 else if c = 25 ∧ j = nS then -1 else if c = 24 ∧ j = nS then t.1 9 else if c = 23 ∧ j = nS then v2 else if c = 22 ∧ j = nS then v1 else t.2.2.1 c j) = _
        rw [if_neg (by omega), if_neg (by omega), if_neg (by omega), if_neg (by omega), if_neg (by omega), if_neg (by omega)]
      have T3f : ∀ c, ¬ (22 ≤ c ∧ c ≤ 27) → (perT t nS v1 v2).2.2.1 c = t.2.2.1 c := fun c h1 => funext (fun j => T3 c j (by omega))
      have hrm : ∀ q c, rs s.1 own 4 q = some c → ∃ c', s.1 q = some c' := fun q c h => ⟨c, (rs_in h).1⟩
      obtain ⟨v0, v1', v2t, v2c, v2r, v2d, v3, v4, v5, v6⟩ := r
      obtain ⟨⟨mc', w1⟩, w2, w3, w4, w5, w6⟩ := v1'
      have eqr : ∀ l : List Nat, (∀ c ∈ l, ¬ (22 ≤ c ∧ c ≤ 27)) → eqR t (perT t nS v1 v2) l := fun l hl c hc => T3f c (hl c hc)
      have hH : ∀ X : Nat → lCell → Prop, (∀ c, X 111 c → c.2.2.1 = 1013 → False) → hS (rs s.1 own 4) (rs S'.1 (givs own s.2.1 1 4) 4) X := fun X hx => hS_mk w1 hK hx
      have hbz : (perT t nS v1 v2).1 9 = t.1 9 := T1 9 (by omega) (by omega)
      have hg : inB v1 (Int32.ofNat 10) = true := hok.1
      obtain ⟨gk, gk1, gk2⟩ := inB_nat 10 (by omega) hg
      have hp5 : ∃ pk, pk < 6 ∧ v2 = Int32.ofNat pk := by
        have hv0 : ¬ v2 < 0 := fun z => hok.2.1 (by
          rw [Int32.lt_iff_toInt_lt] at z ⊢
          have e0 : (0 : Int32).toInt = 0 := rfl
          have e1 : (1 : Int32).toInt = 1 := rfl
          omega)
        obtain ⟨k, hk, rfl⟩ := i_of hv0
        refine ⟨k, ?_, rfl⟩
        have := hok.2.2
        rw [i_Llt hk (by omega)] at this
        omega
      refine Or.inl ⟨Int32.ofNat nS, S', perT t nS v1 v2, givs own s.2.1 1 4, rfl, rfl, rfl, fun Z h4 h9 => ?_, ⟨by omega, ho, fun q hq hx => n1 q hq (fun z => hx (by rw [z]; exact o111)), fun q h1 h2 => if_pos (by omega), n4⟩, ⟨zn, nr, nS + 1, nT, nC, nR, nP, nL, a, rel, fun j => if j = nS then s.2.1 else S j, C, CS', CM, CT, E, RS, RM', RT, P, G, D, L, F, RW, V0_cg v0 (hH _ (fun c h1 h2 => by rcases h1 with z | z; omega; omega)) (T1 1 (by omega) (by omega)) hbz (T1 49 (by omega) (by omega)) (T1 45 (by omega) (by omega)) (T3f 64 (by omega)), ⟨⟨mc + 1, ?_⟩, ?_, by omega, fun k hk => ?_, fun j k hj hk e => ?_, fun k h1 h2 => ?_⟩, ?_, ?_, V2r_cg v2r (hH _ (fun c h1 h2 => by rcases h1 with z | z | z | z <;> omega)) (T1 39 (by omega) (by omega)) (eqr _ (by decide)), v2d, V3_cg v3 (hH _ (fun c h1 h2 => by rcases h1 with z | z | z | z | z | z <;> omega)) hbz (T1 10 (by omega) (by omega)) (T1 24 (by omega) (by omega)) (eqr _ (by decide)), V4_cg v4 (hH _ (fun c h1 h2 => by rcases h1 with z | z <;> omega)) (T1 49 (by omega) (by omega)) (eqr _ (by decide)), ⟨by omega, by omega, by omega⟩, fun z => absurd ?_ hst.1⟩, by omega, by omega⟩
      · unfold perT
        rw [rt_ptI (by show (4 : Nat) ≠ Z; omega), rt_wrI (by show (4 : Nat) ≠ Z; omega), rt_wrI (by show (4 : Nat) ≠ Z; omega), rt_wrI (by show (4 : Nat) ≠ Z; omega), rt_wrI (by show (4 : Nat) ≠ Z; omega), rt_wrI (by show (4 : Nat) ≠ Z; omega), rt_wrI (by show (4 : Nat) ≠ Z; omega), ptI_rt h9]
      · rw [← mapL S (fun _ => s.2.1)]
        exact rs_some.mpr ⟨by rw [ho 111 l111]; exact o111, z111⟩
      · unfold perT; rw [pt_1, if_pos rfl]
      · by_cases y : k = nS
        · subst y
          try dsimp only
          rw [if_pos rfl]
          refine ⟨rs_some.mpr ⟨if_pos ⟨Nat.le_refl _, by omega⟩, n2.trans ?_⟩, ?_, hs⟩
          · unfold perC
            rw [T3 28 k (by omega), T3 29 k (by omega), (w6 k (by omega) hst.2).1, (w6 k (by omega) hst.2).2]
            simp [perT, wrI, ptI]
          · unfold okPer
            rw [T3 29 k (by omega), (w6 k (by omega) hst.2).2]
            refine ⟨Or.inl ⟨?_, ?_, ?_⟩, Or.inl ?_, ⟨0, by omega, rfl⟩, ⟨gk, gk1, ?_⟩, ?_⟩
            · rw [hbz]; simp [perT, wrI, ptI]
            · simp [perT, wrI, ptI]
            · simp [perT, wrI, ptI]
            · simp [perT, wrI, ptI]
            · rw [← gk2]; simp [perT, wrI, ptI]
            · obtain ⟨pk, h1, h2⟩ := hp5
              exact ⟨pk, h1, by rw [← h2]; simp [perT, wrI, ptI]⟩
        · dsimp only
          rw [if_neg y]
          obtain ⟨b1, b2, b3⟩ := w4 k (by omega)
          have e : ∀ c, (perT t nS v1 v2).2.2.1 c k = t.2.2.1 c k := fun c => T3 c k (by omega)
          unfold perC okPer at *
          simp only [e, hbz]
          exact ⟨hK _ _ (apart b1 w1 (by simp)) b1, b2, b3⟩
      · dsimp only at e
        have nn : ∀ i, i < nS → S i ≠ s.2.1 := fun i hi z => by
          have := wf_lt hw (r4 i hi).1
          omega
        by_cases y1 : j = nS
        · by_cases y2 : k = nS
          · omega
          · rw [if_pos y1, if_neg y2] at e; exact absurd e.symm (nn k (by omega))
        · by_cases y2 : k = nS
          · rw [if_neg y1, if_pos y2] at e; exact absurd e (nn j (by omega))
          · rw [if_neg y1, if_neg y2] at e; exact w5 j k (by omega) (by omega) e
      · rw [T3 28 k (by omega), T3 29 k (by omega)]; exact w6 k (by omega) h2
      · unfold V2t at *
        rw [T1 45 (by omega) (by omega), T3f 39 (by omega)]; exact v2t
      · obtain ⟨⟨m2, c1⟩, c2, c3, c4, c5, c6⟩ := v2c
        refine ⟨⟨m2, hK _ _ (by omega) c1⟩, by rw [T1 36 (by omega) (by omega)]; exact c2, c3, fun k hk => ?_, c5, ?_⟩
        · obtain ⟨d1, d2, d3, d4, ⟨pv, d5, d5'⟩, d6, d7, d8, d9⟩ := c4 k hk
          have hbp : bN (t.2.2.1 30 k) = pv := by rw [d5', bN_of (by omega)]
          refine ⟨?_, d2, d3, d4, by rw [T3f 30 (by omega)]; exact ⟨pv, by omega, d5'⟩, Snc_cg d6 (hH _ (fun c h1 h2 => by rcases h1 with z | z <;> omega)) (eqr _ (by decide)), d7, ?_, ?_⟩
          · have := hK _ _ (apart d1 w1 (by show (82 : Nat) ≠ 1013; decide)) d1
            rw [this]
            unfold carD
            rw [T3f 30 (by omega), T3f 31 (by omega), hbp]
            dsimp only
            rw [if_neg (show ¬ pv = nS by omega)]
          · unfold isTl at *; rw [T3f 37 (by omega), T3f 38 (by omega)]; exact d8
          · unfold isTl at *; rw [T3f 37 (by omega), T3f 38 (by omega)]; exact d9
        · unfold isTl at *; rw [T3f 37 (by omega), T3f 38 (by omega)]; exact c6
      · rw [← T1 1 (by omega) (by omega)]; exact z
    · rw [if_neg hst, if_pos rfl, goes_2]
      exact Rg.sta (x := 0) (a := 0) (b := 0) hw hR rfl rfl (by omega) (by omega)
  · rw [if_neg hok, if_pos rfl]
    refine Rg.arg (x := 0) (a := 0) (b := 0) hw hR rfl ?_ (by omega) (by omega)
    simp only [goes_0, Option.bind_some]
    by_cases z : t.1 1 = 0
    · simp [z, goes_0]
    · by_cases z2 : t.1 27 < 40 <;> simp [z, z2, goes_0]
end
