/-! the gate: a card -/
def car4 (t : TS) (nC p m nT : Nat) : TS := ptI (tllT (wrI (wrI (ptI t 0 0) 30 nC (Int32.ofNat p)) 31 nC (Int32.ofNat m)) nT 0 nC m) 36 (Int32.ofNat (nC + 1))
/-- the gate's cell with another count of tellings -/
def gaC (t : TS) (zn n : Nat) (rel : Int32) : lCell := (true, false, 89, [.ref 101, .int (if t.1 1 = 0 then -1 else t.1 9), .ref zn, .ref 110, .ref 111, .ref 112, .ref 113, .ref 114, .int (t.1 49), .int (Int32.ofNat n), .int rel])
section
variable {own : Nat → Nat} {s : CS} {t : TS} {K : Nat}
theorem ga_card (hw : wfS s) (hs : 179 ≤ s.2.1) (hK : K < 1000) (r : R4 (rs s.1 own 4) t K) (v1 v2 : Int32) : Rg thr0 (fun X => X = 4) 4 (fun H t => R4 (H 4) t (K + 1)) own s t 4 31 (c_1026 108 v1 v2 s) (t_594 v1 v2 t) := by
  obtain ⟨zn, nr, nS, nT, nC, nR, nP, nL, a, rel, S, C, CS', CM, CT, E, RS, RM', RT, P, G, D, L, F, RW, r⟩ := r
  have q := R4_raw r
  have hR := ga_ex r
  have q' := q
  obtain ⟨⟨g, _⟩, ⟨_, q27, nS40, _⟩, ⟨q45, _⟩, ⟨⟨mc, r1⟩, q36, qc3, qc4, _⟩, _, _, _, _, ⟨qk, _⟩, z0⟩ := q'
  have k89 : isK s [89] 108 = true := isK_t g rfl
  have l108 := wf_lt hw g
  have l112 := wf_lt hw r1
  unfold c_1026 t_594
  rw [if_pos k89, ga_per q, q27, isInB, Option.bind_some, minT]
  cases hb : inB v1 (Int32.ofNat nS) with
  | true =>
    obtain ⟨p, hp, rfl⟩ := inB_nat nS (by omega) hb
    have hbu : ¬ t.1 1 = 0 := fun z => by have := (z0 z).1; omega
    rw [if_pos rfl, if_pos rfl, Option.bind_some, Sum.elim_inl, minu, bN_of (by omega), if_neg (show ¬ (1 : Int32) = 0 by decide)]; repeat (first | rw [Option.bind_some] | rw [Sum.elim_inl] | rw [Sum.elim_inr])
    rw [need_eq, q36, if_neg hbu]
    have ht60 : (if Int32.ofNat nC < 60 then some (1 : Int32) else some 0) = some (if nC < 60 then 1 else 0) := by
      by_cases z : nC < 60
      · rw [if_pos ((i_ltL (by omega) (by omega)).mpr z), if_pos z]
      · rw [if_neg (fun y => z ((i_ltL (by omega) (by omega)).mp y)), if_neg z]
    rw [ht60]
    cases hb2 : inB v2 (Int32.ofNat 1000001) with
    | true =>
      obtain ⟨m, hm, rfl⟩ := inB_nat 1000001 (by omega) hb2
      rw [if_pos rfl]; repeat (first | rw [Option.bind_some] | rw [Sum.elim_inl] | rw [Sum.elim_inr] | rw [if_neg (show ¬ (1 : Int32) = 0 by decide)] | rw [if_pos (show (0 : Int32) = 0 from rfl)] | rw [if_pos (show true = true from rfl)] | rw [if_neg (show ¬ false = true by decide)] | dsimp only)
      rw [xN_o (b := 112) g rfl rfl]; repeat (first | rw [Option.bind_some] | rw [Sum.elim_inl] | rw [Sum.elim_inr])
      rw [if_pos (isK_t r1 rfl), alSize_r r1]; repeat (first | rw [Option.bind_some] | rw [Sum.elim_inl] | rw [Sum.elim_inr])
      rw [ht60]; repeat (first | rw [Option.bind_some] | rw [Sum.elim_inl] | rw [Sum.elim_inr])
      rw [may_eq]
      by_cases hc : nC < 60
      · rw [if_pos hc, goes_1 t (by decide)]; repeat (first | rw [Option.bind_some] | rw [Sum.elim_inl] | rw [Sum.elim_inr] | rw [if_neg (show ¬ (1 : Int32) = 0 by decide)] | rw [if_pos (show (0 : Int32) = 0 from rfl)] | rw [if_pos (show true = true from rfl)] | rw [if_neg (show ¬ false = true by decide)] | dsimp only)
        rw [xR_o (b := 112) g rfl rfl]; repeat (first | rw [Option.bind_some] | rw [Sum.elim_inl] | rw [Sum.elim_inr])
        obtain ⟨S1, e1, a1, a2, a3, a4, a5, a6⟩ := nw_o (s := s) 82 [.int 0, .null, .int 0, .int 0, .null] hw
        have x108 : S1.1 108 = some (gaC t zn nT rel) := by rw [a2 108 (by omega), g, q45]; rfl
        have x112 : S1.1 112 = _ := (a2 112 (by omega)).trans r1
        rw [e1]; repeat (first | rw [Option.bind_some] | rw [Sum.elim_inl] | rw [Sum.elim_inr] | rw [if_neg (show ¬ (1 : Int32) = 0 by decide)] | rw [if_pos (show (0 : Int32) = 0 from rfl)] | rw [if_pos (show true = true from rfl)] | rw [if_neg (show ¬ false = true by decide)] | dsimp only)
        rw [xN_o (b := 112) x108 rfl rfl]; repeat (first | rw [Option.bind_some] | rw [Sum.elim_inl] | rw [Sum.elim_inr])
        rw [if_pos (isK_t x112 rfl), alSize_r x112]; repeat (first | rw [Option.bind_some] | rw [Sum.elim_inl] | rw [Sum.elim_inr])
        rw [xI_o (x := Int32.ofNat nT) x108 rfl rfl]; repeat (first | rw [Option.bind_some] | rw [Sum.elim_inl] | rw [Sum.elim_inr])
        rw [i_suc, xP_c (fs' := [.ref 101, .int (if t.1 1 = 0 then -1 else t.1 9), .ref zn, .ref 110, .ref 111, .ref 112, .ref 113, .ref 114, .int (t.1 49), .int (Int32.ofNat (nT + 1)), .int rel]) x108 rfl (by simp) rfl]; repeat (first | rw [Option.bind_some] | rw [Sum.elim_inl] | rw [Sum.elim_inr])
        have hw2 : wfS (cup S1 108 (gaC t zn (nT + 1) rel)) := wf_cup a4 (by omega)
        have y1 : (cup S1 108 (gaC t zn (nT + 1) rel)).1 s.2.1 = _ := (cup_ne (by omega)).trans a1
        have y2 : (cup S1 108 (gaC t zn (nT + 1) rel)).2 = S1.2 := rfl
        have y3 : ∀ q, q < s.2.1 → q ≠ 108 → (cup S1 108 (gaC t zn (nT + 1) rel)).1 q = s.1 q := fun q h1 h2 => by rw [cup_ne h2, a2 q (by omega)]
        have y4 := cup_eq S1 108 (gaC t zn (nT + 1) rel)
        rw [show cup S1 108 (true, false, 89, [.ref 101, .int (if t.1 1 = 0 then -1 else t.1 9), .ref zn, .ref 110, .ref 111, .ref 112, .ref 113, .ref 114, .int (t.1 49), .int (Int32.ofNat (nT + 1)), .int rel]) = cup S1 108 (gaC t zn (nT + 1) rel) from rfl]
        generalize cup S1 108 (gaC t zn (nT + 1) rel) = S2 at hw2 y1 y2 y3 y4 ⊢
        have y5 : S2.2.1 = s.2.1 + 1 := by rw [y2]; exact a3
        have y6 : S2.2.2.1 = s.2.2.1 + 1 := by rw [y2]; exact a5
        have y7 : S2.2.2.2 = s.2.2.2 + 5 := by rw [y2]; exact a6
        rw [if_pos (isK_t y1 rfl)]
        unfold c_998
        obtain ⟨S3, e3, b1, b2, b3, b4, b5, b6⟩ := nw_o (s := S2) 83 [.null] hw2
        have b6' : S3.2.2.2 = S2.2.2.2 + 1 := b6
        rw [e3]; repeat (first | rw [Option.bind_some] | rw [Sum.elim_inl] | rw [Sum.elim_inr] | rw [if_neg (show ¬ (1 : Int32) = 0 by decide)] | rw [if_pos (show (0 : Int32) = 0 from rfl)] | rw [if_pos (show true = true from rfl)] | rw [if_neg (show ¬ false = true by decide)] | dsimp only)
        rw [if_pos (isK_t b1 rfl)]
        obtain ⟨S4, e4, d1, d2, d3, d4, d5, d6, d7⟩ := c_since b4 b1
        rw [e4]; repeat (first | rw [Option.bind_some] | rw [Sum.elim_inl] | rw [Sum.elim_inr])
        have w1 : S4.1 s.2.1 = some (true, false, 82, [.int 0, .null, .int 0, .int 0, .null]) := by rw [d5 _ (by omega) (by omega), b2 _ (by omega)]; exact y1
        rw [xP_c (fs' := [.int 0, .null, .int 0, .int 0, .ref S2.2.1]) w1 rfl (by simp) rfl]; repeat (first | rw [Option.bind_some] | rw [Sum.elim_inl] | rw [Sum.elim_inr])
        rw [xP_c (fs' := [.int (Int32.ofNat nC), .null, .int 0, .int 0, .ref S2.2.1]) (cup_eq ..) rfl (by simp) rfl, cupU]; repeat (first | rw [Option.bind_some] | rw [Sum.elim_inl] | rw [Sum.elim_inr])
        rw [xP_c (fs' := [.int (Int32.ofNat nC), .ref (S p), .int 0, .int 0, .ref S2.2.1]) (cup_eq ..) rfl (by simp) rfl, cupU]; repeat (first | rw [Option.bind_some] | rw [Sum.elim_inl] | rw [Sum.elim_inr])
        rw [xP_c (fs' := [.int (Int32.ofNat nC), .ref (S p), .int (Int32.ofNat m), .int 0, .ref S2.2.1]) (cup_eq ..) rfl (by simp) rfl, cupU]; repeat (first | rw [Option.bind_some] | rw [Sum.elim_inl] | rw [Sum.elim_inr])
        rw [xP_c (fs' := [.int (Int32.ofNat nC), .ref (S p), .int (Int32.ofNat m), .int (Int32.ofNat nT), .ref S2.2.1]) (cup_eq ..) rfl (by simp) rfl, cupU]; repeat (first | rw [Option.bind_some] | rw [Sum.elim_inl] | rw [Sum.elim_inr])
        have w2 : (cup S4 s.2.1 (true, false, 82, [.int (Int32.ofNat nC), .ref (S p), .int (Int32.ofNat m), .int (Int32.ofNat nT), .ref S2.2.1])).1 112 = some (true, false, 1013, .int mc :: rowC (fun k => .ref (C k)) nC) := by rw [cup_ne (by omega), d5 112 (by omega) (by omega), b2 112 (by omega), y3 112 (by omega) (by omega)]; exact r1
        rw [if_pos (isK_t w2 rfl), alAdd_r w2 (by omega) (elO_o (cup_eq ..))]; repeat (first | rw [Option.bind_some] | rw [Sum.elim_inl] | rw [Sum.elim_inr])
        have w3 : (cput (cup S4 s.2.1 (true, false, 82, [.int (Int32.ofNat nC), .ref (S p), .int (Int32.ofNat m), .int (Int32.ofNat nT), .ref S2.2.1])) 1013 112 1 16 (.int (mc + 1) :: rowC (fun j => if j = nC then .ref s.2.1 else .ref (C j)) (nC + 1))).1 108 = some (gaC t zn (nT + 1) rel) := by rw [cput_ne (by omega), cup_ne (by omega), d5 108 (by omega) (by omega), b2 108 (by omega)]; exact y4
        have w4 := cput_eq (cup S4 s.2.1 (true, false, 82, [.int (Int32.ofNat nC), .ref (S p), .int (Int32.ofNat m), .int (Int32.ofNat nT), .ref S2.2.1])) 1013 112 1 16 (.int (mc + 1) :: rowC (fun j => if j = nC then .ref s.2.1 else .ref (C j)) (nC + 1))
        rw [xN_o (b := 112) w3 rfl rfl]; repeat (first | rw [Option.bind_some] | rw [Sum.elim_inl] | rw [Sum.elim_inr])
        rw [if_pos (isK_t w4 rfl), alSize_r w4]; repeat (first | rw [Option.bind_some] | rw [Sum.elim_inl] | rw [Sum.elim_inr])
        have hT : Option.bind (stI (ptI t 0 0) 30 60 ((ptI t 0 0).1 36) (Int32.ofNat p)) (fun s4 => Option.bind (stI s4 31 60 (s4.1 36) (Int32.ofNat m)) (fun s5 => Option.bind (t_596 0 (s5.1 36) (Int32.ofNat m) s5) (fun x6 => Option.bind (some (ptI x6 36 ((x6.1 36) + 1))) (fun s7 => some ((s7.1 36) - 1, s7))))) = some (Int32.ofNat nC, car4 t nC p m nT) := by
          have f36 : (ptI t 0 0).1 36 = Int32.ofNat nC := q36
          rw [f36, stI_n hc (by omega)]; repeat (first | rw [Option.bind_some] | rw [Sum.elim_inl] | rw [Sum.elim_inr])
          rw [show (wrI (ptI t 0 0) 30 nC (Int32.ofNat p)).1 36 = Int32.ofNat nC from q36, stI_n hc (by omega)]; repeat (first | rw [Option.bind_some] | rw [Sum.elim_inl] | rw [Sum.elim_inr])
          rw [show (wrI (wrI (ptI t 0 0) 30 nC (Int32.ofNat p)) 31 nC (Int32.ofNat m)).1 36 = Int32.ofNat nC from q36]
          have e := t_tll (t := wrI (wrI (ptI t 0 0) 30 nC (Int32.ofNat p)) 31 nC (Int32.ofNat m)) (nT := nT) q45 (by omega) 0 nC m
          rw [show t_596 0 (Int32.ofNat nC) (Int32.ofNat m) _ = _ from e]; repeat (first | rw [Option.bind_some] | rw [Sum.elim_inl] | rw [Sum.elim_inr])
          rw [show (tllT (wrI (wrI (ptI t 0 0) 30 nC (Int32.ofNat p)) 31 nC (Int32.ofNat m)) nT 0 nC m).1 36 = Int32.ofNat nC from q36, i_suc, pt_1, if_pos rfl, i_subL (by omega)]; rfl
        rw [hT, i_subL (show 1 ≤ nC + 1 by omega)]
        generalize hSS : cput (cup S4 s.2.1 (true, false, 82, [.int (Int32.ofNat nC), .ref (S p), .int (Int32.ofNat m), .int (Int32.ofNat nT), .ref S2.2.1])) 1013 112 1 16 (.int (mc + 1) :: rowC (fun j => if j = nC then .ref s.2.1 else .ref (C j)) (nC + 1)) = S' at w3 w4 ⊢
        have n1 : ∀ q, q < s.2.1 → q ≠ 108 → q ≠ 112 → S'.1 q = s.1 q := fun q h1 h2 h3 => by rw [← hSS, cput_ne h3, cup_ne (by omega), d5 q (by omega) (by omega), b2 q (by omega), y3 q h1 h2]
        have n2 : S'.1 s.2.1 = some (true, false, 82, [.int (Int32.ofNat nC), .ref (S p), .int (Int32.ofNat m), .int (Int32.ofNat nT), .ref (s.2.1 + 1)]) := by rw [← hSS, cput_ne (by omega), cup_eq, y5]
        have n2a : S'.1 (s.2.1 + 1) = some (true, false, 83, [.ref (s.2.1 + 2)]) := by rw [← hSS, cput_ne (by omega), cup_ne (by omega), ← y5, d3, b3, y5]
        have n2b : S'.1 (s.2.1 + 2) = some (true, false, 1042, [.int 0]) := by rw [← hSS, cput_ne (by omega), cup_ne (by omega), show s.2.1 + 2 = S3.2.1 by omega]; exact d4
        have n3 : S'.2.1 = s.2.1 + 3 := by rw [← hSS]; show S4.2.1 = _; omega
        have n4 : wfS S' := by rw [← hSS]; exact wf_cup (wf_cup d1 (by omega)) (by show 112 < S4.2.1; omega)
        have n5 : S'.2.2.1 = s.2.2.1 + 4 := by rw [← hSS]; show S4.2.2.1 + 1 = _; omega
        have n6 : S'.2.2.2 = s.2.2.2 + 31 := by rw [← hSS]; show S4.2.2.2 + 16 = _; omega
        clear hSS hT
        have ho : ∀ q, q < s.2.1 → givs own s.2.1 3 4 q = own q := fun q hq => if_neg (by omega)
        have hn : ∀ q, s.2.1 ≤ q → q < s.2.1 + 3 → givs own s.2.1 3 4 q = 4 := fun q h1 h2 => if_pos ⟨h1, h2⟩
        obtain ⟨v0, v1', v2t, v2c, v2r, v2d, v3, v4, v5, v6⟩ := r
        have o108 := (rs_in v0.1).2
        obtain ⟨mc', w112⟩ := v2c.1
        have o112 := (rs_in w112).2
        have hKK : ∀ q c, q ≠ 108 → q ≠ 112 → rs s.1 own 4 q = some c → rs S'.1 (givs own s.2.1 3 4) 4 q = some c := fun q c h1 h2 h3 => rs_keep hw ho h3 (n1 q (wf_lt hw (rs_in h3).1) h1 h2)
        have hH : ∀ X : Nat → lCell → Prop, (∀ c, X 108 c → c.2.2.1 = 89 → False) → (∀ c, X 112 c → c.2.2.1 = 1013 → False) → hS (rs s.1 own 4) (rs S'.1 (givs own s.2.1 3 4) 4) X := fun X h1 h2 => hS_mk2 v0.1 w112 hKK h1 h2
        have T1 : ∀ c, c ≠ 0 → c ≠ 36 → c ≠ 45 → (car4 t nC p m nT).1 c = t.1 c := fun c h0 h1 h2 => by
          unfold car4 tllT
          rw [pt_1, if_neg h1, pt_1, if_neg h2]
          exact if_neg h0
        have T3 : ∀ c, c ≠ 30 ∧ c ≠ 31 ∧ c ≠ 37 ∧ c ≠ 38 ∧ c ≠ 39 → (car4 t nC p m nT).2.2.1 c = t.2.2.1 c := fun c h1 => by
          refine (tll_r (t := wrI (wrI (ptI t 0 0) 30 nC (Int32.ofNat p)) 31 nC (Int32.ofNat m)) (nT := nT) (k := 0) (w := nC) (m := m) (c := c) (by omega)).trans ?_
          funext j
          show (if c = 31 ∧ j = nC then Int32.ofNat m else if c = 30 ∧ j = nC then Int32.ofNat p else t.2.2.1 c j) = _
          rw [if_neg (by omega), if_neg (by omega)]
        have hUr : ∀ c j, (wrI (wrI (ptI t 0 0) 30 nC (Int32.ofNat p)) 31 nC (Int32.ofNat m)).2.2.1 c j = if c = 31 ∧ j = nC then Int32.ofNat m else if c = 30 ∧ j = nC then Int32.ofNat p else t.2.2.1 c j := fun _ _ => rfl
        have e4' : ∀ c j, (car4 t nC p m nT).2.2.1 c j = (tllT (wrI (wrI (ptI t 0 0) 30 nC (Int32.ofNat p)) 31 nC (Int32.ofNat m)) nT 0 nC m).2.2.1 c j := fun _ _ => rfl
        have eqr : ∀ l : List Nat, (∀ c ∈ l, c ≠ 30 ∧ c ≠ 31 ∧ c ≠ 37 ∧ c ≠ 38 ∧ c ≠ 39) → eqR t (car4 t nC p m nT) l := fun l h1 c hc => T3 c (h1 c hc)
        have tlU : ∀ k' w' j, k' < 4 → w' < 1000 → (isTl (car4 t nC p m nT) k' w' j ↔ if j = nT then k' = 0 ∧ w' = nC else isTl t k' w' j) := fun k' w' j h1 h2 => by
          have := tll_isTl (t := wrI (wrI (ptI t 0 0) 30 nC (Int32.ofNat p)) 31 nC (Int32.ofNat m)) (nT := nT) (k := 0) (w := nC) (m := m) (k' := k') (w' := w') (j := j) (by omega) (by omega) (by omega) (by omega)
          refine Iff.trans this ?_
          by_cases y : j = nT
          · rw [if_pos y, if_pos y]
          · rw [if_neg y, if_neg y]
            unfold isTl
            rw [hUr, hUr, if_neg (by omega), if_neg (by omega), if_neg (by omega), if_neg (by omega)]
        have T30 : ∀ j, (car4 t nC p m nT).2.2.1 30 j = if j = nC then Int32.ofNat p else t.2.2.1 30 j := fun j => by
          rw [e4', tll_r (by omega), hUr, if_neg (by omega)]
          by_cases y : j = nC
          · rw [if_pos ⟨rfl, y⟩, if_pos y]
          · rw [if_neg (fun z => y z.2), if_neg y]
        have T31 : ∀ j, (car4 t nC p m nT).2.2.1 31 j = if j = nC then Int32.ofNat m else t.2.2.1 31 j := fun j => by
          rw [e4', tll_r (by omega), hUr]
          by_cases y : j = nC
          · rw [if_pos ⟨rfl, y⟩, if_pos y]
          · rw [if_neg (fun z => y z.2), if_neg (fun z => absurd z.1 (by omega)), if_neg y]
        have hU : ∀ c, c ≠ nC → (wrI (wrI (ptI t 0 0) 30 nC (Int32.ofNat p)) 31 nC (Int32.ofNat m)).2.2.1 37 = t.2.2.1 37 ∧ (wrI (wrI (ptI t 0 0) 30 nC (Int32.ofNat p)) 31 nC (Int32.ofNat m)).2.2.1 38 = t.2.2.1 38 ∧ (wrI (wrI (ptI t 0 0) 30 nC (Int32.ofNat p)) 31 nC (Int32.ofNat m)).2.2.1 39 = t.2.2.1 39 ∧ (wrI (wrI (ptI t 0 0) 30 nC (Int32.ofNat p)) 31 nC (Int32.ofNat m)).2.2.1 30 c = t.2.2.1 30 c ∧ (wrI (wrI (ptI t 0 0) 30 nC (Int32.ofNat p)) 31 nC (Int32.ofNat m)).2.2.1 31 c = t.2.2.1 31 c := fun c hc => by
          refine ⟨funext (fun j => ?_), funext (fun j => ?_), funext (fun j => ?_), ?_, ?_⟩ <;> rw [hUr, if_neg (by omega), if_neg (by omega)]
        have hfr : ∀ q c, s.1 q = some c → q < s.2.1 := fun q c h => wf_lt hw h
        refine Or.inl ⟨Int32.ofNat nC, S', car4 t nC p m nT, givs own s.2.1 3 4, rfl, rfl, rfl, fun Z h4 h9 => ?_, ⟨by omega, ho, fun q hq hx => n1 q hq (fun z => hx (by rw [z]; exact o108)) (fun z => hx (by rw [z]; exact o112)), fun q h1 h2 => hn q h1 (by omega), n4⟩, ⟨zn, nr, nS, nT + 1, nC + 1, nR, nP, nL, a, rel, S, fun j => if j = nC then s.2.1 else C j, fun j => if j = nC then s.2.1 + 1 else CS' j, fun j => if j = nC then s.2.1 + 2 else CM j, fun j => if j = nC then nT else CT j, E, RS, RM', RT, P, G, D, L, F, RW, ?_, V1_cg v1' (hH _ (fun c h1 h2 => by omega) (fun c h1 h2 => by omega)) (T1 27 (by omega) (by omega) (by omega)) (T1 9 (by omega) (by omega) (by omega)) (eqr _ (by decide)), ⟨rfl, fun j hj => ?_⟩, ⟨⟨mc + 1, ?_⟩, rfl, by omega, fun c hc2 => ?_, fun j k hj hk e => ?_, fun j c h1 h2 h3 => ?_⟩, ⟨?_, ?_, v2r.2.2.1, fun c hc2 => ?_, fun j c h1 h2 h3 => ?_⟩, ⟨fun j k hj hk e => ?_, v2d.2.1, fun j k hj hk e => ?_⟩, tl_p (V3_cg v3 (hH _ (fun c h1 h2 => by omega) (fun c h1 h2 => by omega)) (T1 9 (by omega) (by omega) (by omega)) (T1 10 (by omega) (by omega) (by omega)) (T1 24 (by omega) (by omega) (by omega)) (eqr _ (by decide))) (Nat.le_succ _) (fun c hc2 => if_neg (by omega)) (by omega), V4_cg v4 (hH _ (fun c h1 h2 => by omega) (fun c h1 h2 => by omega)) (T1 49 (by omega) (by omega) (by omega)) (eqr _ (by decide)), ⟨by omega, by omega, by omega⟩, fun z => absurd ((T1 1 (by omega) (by omega) (by omega)).symm.trans z) hbu⟩, by omega, by omega⟩
        · unfold car4 tllT
          rw [rt_ptI (by show (4 : Nat) ≠ Z; omega), rt_ptI (by show (4 : Nat) ≠ Z; omega), rt_wrI (by show (4 : Nat) ≠ Z; omega), rt_wrI (by show (4 : Nat) ≠ Z; omega), rt_wrI (by show (4 : Nat) ≠ Z; omega), rt_wrI (by show (4 : Nat) ≠ Z; omega), rt_wrI (by show (4 : Nat) ≠ Z; omega), ptI_rt h9]
        · obtain ⟨r1, r2, r3, r4, r5, r6⟩ := v0
          unfold V0
          rw [T1 1 (by omega) (by omega) (by omega), T1 9 (by omega) (by omega) (by omega), T1 49 (by omega) (by omega) (by omega), T3 64 (by omega), show (car4 t nC p m nT).1 45 = Int32.ofNat (nT + 1) from rfl]
          refine ⟨rs_some.mpr ⟨by rw [ho 108 l108]; exact o108, w3⟩, r2, r3, r4, r5, fun z => ⟨(r6 z).1, ?_⟩⟩
          obtain ⟨f, z1, z2⟩ := (r6 z).2
          exact ⟨f, hKK _ _ (fun z => by rw [z, r1] at z1; cases z1) (fun z => by rw [z, w112] at z1; cases z1) z1, z2⟩
        · rw [e4', tll_39]
          by_cases y : j = nT
          · rw [if_pos y]; exact ⟨m, hm, rfl⟩
          · rw [if_neg y, hUr, if_neg (by omega), if_neg (by omega)]; exact v2t.2 j (by omega)
        · rw [← mapL C (fun _ => s.2.1)]
          exact rs_some.mpr ⟨by rw [ho 112 l112]; exact o112, w4⟩
        · by_cases y : c = nC
          · subst y
            dsimp only
            rw [if_pos rfl, if_pos rfl, if_pos rfl, if_pos rfl]
            refine ⟨rs_some.mpr ⟨hn _ (Nat.le_refl _) (by omega), n2.trans ?_⟩, hs, by omega, by omega, by rw [T30, if_pos rfl]; exact ⟨p, hp, rfl⟩, Snc_new (rs_some.mpr ⟨hn _ (by omega) (by omega), n2a⟩) (rs_some.mpr ⟨hn _ (by omega) (by omega), n2b⟩) (fun j hj => ?_), by omega, ?_, fun j hj hT => ?_⟩
            · unfold carD
              rw [T30, T31, if_pos rfl, if_pos rfl, bN_of (by omega)]
              simp
            · rw [tlU 3 c j (by omega) (by omega)]
              by_cases y : j = nT
              · rw [if_pos y]; omega
              · rw [if_neg y]; exact (v2c.2.2.2.2.2 j c (Nat.le_refl _) (by omega) (by omega)).2
            · rw [tlU 0 c _ (by omega) (by omega), if_pos rfl]; exact ⟨rfl, rfl⟩
            · rw [tlU 0 c _ (by omega) (by omega)] at hT
              by_cases y : j = nT
              · exact y
              · rw [if_neg y] at hT
                exact absurd hT (v2c.2.2.2.2.2 j c (Nat.le_refl _) (by omega) (by omega)).1
          · exact tl_c (C2 := fun j => if j = nC then s.2.1 else C j) (S2 := fun j => if j = nC then s.2.1 + 1 else CS' j) (M2 := fun j => if j = nC then s.2.1 + 2 else CM j) (T2 := fun j => if j = nC then nT else CT j) (k := 0) (w := nC) (m := m) (U := wrI (wrI (ptI t 0 0) 30 nC (Int32.ofNat p)) 31 nC (Int32.ofNat m)) v2c (by omega) ⟨fun z => absurd z.1 (by omega), fun z => y z.2.symm⟩ ⟨by omega, by omega⟩ (hH _ (fun c h1 h2 => by omega) (fun c h1 h2 => by omega)) (hU c y) (if_neg y) (if_neg y) (if_neg y) (if_neg y)
        · dsimp only at e
          have nn : ∀ i, i < nC → C i ≠ s.2.1 := fun i hi z => by
            have := hfr _ _ (qc4 i hi).1
            omega
          by_cases y1 : j = nC
          · by_cases y2 : k = nC
            · omega
            · rw [if_pos y1, if_neg y2] at e; exact absurd e.symm (nn k (by omega))
          · by_cases y2 : k = nC
            · rw [if_neg y1, if_pos y2] at e; exact absurd e (nn j (by omega))
            · rw [if_neg y1, if_neg y2] at e; exact v2c.2.2.2.2.1 j k (by omega) (by omega) e
        · rw [tlU 0 c _ (by omega) h2, tlU 3 c _ (by omega) h2]
          by_cases y : j = nT
          · rw [if_pos y, if_pos y]; omega
          · rw [if_neg y, if_neg y]; exact v2c.2.2.2.2.2 j c (by omega) h2 (by omega)
        · obtain ⟨m2, z⟩ := v2r.1
          exact ⟨m2, hKK _ _ (by omega) (by omega) z⟩
        · rw [T1 39 (by omega) (by omega) (by omega)]; exact v2r.2.1
        · exact tl_r (k := 0) (w := nC) (m := m) (U := wrI (wrI (ptI t 0 0) 30 nC (Int32.ofNat p)) 31 nC (Int32.ofNat m)) v2r hc2 ⟨by omega, by omega⟩ ⟨by omega, by omega⟩ (hH _ (fun c h1 h2 => by omega) (fun c h1 h2 => by omega)) (by
            refine ⟨funext (fun j => ?_), funext (fun j => ?_), funext (fun j => ?_), ?_, ?_, ?_, ?_, ?_⟩ <;> rw [hUr, if_neg (by omega), if_neg (by omega)]) rfl rfl rfl rfl
        · rw [tlU 1 c _ (by omega) h2, tlU 2 c _ (by omega) h2]
          by_cases y : j = nT
          · rw [if_pos y, if_pos y]; omega
          · rw [if_neg y, if_neg y]; exact v2r.2.2.2.2 j c (by omega) h2 (by omega)
        · dsimp only at e
          have nn : ∀ i, i < nC → CM i < s.2.1 := fun i hi => by
            obtain ⟨_, _, _, x1, _⟩ := (qc4 i hi).2.2.2.2.2.1
            exact hfr _ _ x1
          by_cases y1 : j = nC
          · by_cases y2 : k = nC
            · omega
            · rw [if_pos y1, if_neg y2] at e; have := nn k (by omega); omega
          · by_cases y2 : k = nC
            · rw [if_neg y1, if_pos y2] at e; have := nn j (by omega); omega
            · rw [if_neg y1, if_neg y2] at e; exact v2d.1 j k (by omega) (by omega) e
        · dsimp only at e
          by_cases y1 : j = nC
          · rw [if_pos y1] at e
            obtain ⟨_, _, _, x1, _⟩ := (v2r.2.2.2.1 k hk).2.2.2.2.2.1
            have := hfr _ _ (rs_in x1).1
            omega
          · rw [if_neg y1] at e; exact v2d.2.2 j k (by omega) hk e
      · rw [if_neg hc, goes_2]; repeat (first | rw [Option.bind_some] | rw [Sum.elim_inl] | rw [Sum.elim_inr] | rw [if_neg (show ¬ (1 : Int32) = 0 by decide)] | rw [if_pos (show (0 : Int32) = 0 from rfl)] | rw [if_pos (show true = true from rfl)] | rw [if_neg (show ¬ false = true by decide)] | dsimp only)
        exact Rg.sta (x := 0) (a := 0) (b := 0) hw hR rfl rfl (by omega) (by omega)
    | false =>
      refine Rg.arg (x := 0) (a := 0) (b := 0) hw hR rfl ?_ (by omega) (by omega)
      by_cases z : nC < 60 <;> simp [goes_0]
  | false =>
    refine Rg.arg (x := 0) (a := 0) (b := 0) hw hR rfl ?_ (by omega) (by omega)
    rw [if_neg (show ¬ false = true by decide), if_pos rfl]; repeat (first | rw [Option.bind_some] | rw [Sum.elim_inl] | rw [Sum.elim_inr])
    by_cases z : t.1 1 = 0
    · simp [z, goes_0]
    · by_cases z2 : t.1 36 < 60 <;> simp [z, z2, goes_0]
end
