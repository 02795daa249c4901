/-! the gate: a right -/
def rigU (t : TS) (nR g z f e m : Nat) : TS := wrI (wrI (wrI (wrI (wrI (ptI t 0 0) 32 nR (Int32.ofNat g)) 33 nR (Int32.ofNat z)) 34 nR (Int32.ofNat f)) 35 nR (Int32.ofNat e)) 36 nR (Int32.ofNat m)
def rig4 (t : TS) (nR g z f e m nT : Nat) : TS := ptI (tllT (rigU t nR g z f e m) nT 1 nR m) 39 (Int32.ofNat (nR + 1))
theorem rigU_at (t : TS) (nR g z f e m c j : Nat) : (rigU t nR g z f e m).2.2.1 c j = if c = 36 ∧ j = nR then Int32.ofNat m else if c = 35 ∧ j = nR then Int32.ofNat e else if c = 34 ∧ j = nR then Int32.ofNat f else if c = 33 ∧ j = nR then Int32.ofNat z else if c = 32 ∧ j = nR then Int32.ofNat g else t.2.2.1 c j := rfl
theorem rigU_o {t : TS} {nR g z f e m c j : Nat} (h : ¬ (32 ≤ c ∧ c ≤ 36 ∧ j = nR)) : (rigU t nR g z f e m).2.2.1 c j = t.2.2.1 c j := by
  rw [rigU_at, if_neg (by omega), if_neg (by omega), if_neg (by omega), if_neg (by omega), if_neg (by omega)]
section
variable {own : Nat → Nat} {s : CS} {t : TS} {K : Nat}
theorem ofD (v : Int32) (s : CS) : c_1030 v s = some (if inB v (Int32.ofNat 1440) = true then 1 else 0) := by
  unfold c_1030
  exact orB v 1440
theorem ga_right (hw : wfS s) (hs : 179 ≤ s.2.1) (hK : K < 1000) (r : R4 (rs s.1 own 4) t K) (v1 v2 v3 v4 v5 : Int32) : Rg thr0 (fun X => X = 4) 4 (fun H t => R4 (H 4) t (K + 1)) own s t 4 33 (c_1029 108 v1 v2 v3 v4 v5 s) (t_597 v1 v2 v3 v4 v5 t) := by
  obtain ⟨zn, nr, nS, nT, nC, nR, nP, nL, a, rel, S, C, CS', CM, CT, E, RS, RM', RT, P, G, D, L, F, RW, r⟩ := r
  have q := R4_raw r
  have hR := ga_ex r
  have q' := q
  obtain ⟨⟨g, _⟩, _, ⟨q45, _⟩, _, ⟨⟨mc, r1⟩, q39, qc3, qc4, _⟩, _, _, _, ⟨qk, _⟩, z0⟩ := q'
  have k89 : isK s [89] 108 = true := isK_t g rfl
  have l108 := wf_lt hw g
  have l113 := wf_lt hw r1
  have e22 : (if v1 < 0 then some (0 : Int32) else if v1 < 10 then (if v2 < 0 then some 0 else if v2 < 10 then Option.bind (c_1030 v3 s) (fun x1 => (if x1 = 0 then some 0 else Option.bind (c_1030 v4 s) (fun x2 => (if x2 = 0 then some 0 else Option.bind (c_1028 v5 s) (fun x3 => (if x3 = 0 then some 0 else some 1)))))) else some 0) else some 0) = some (if inB v1 (Int32.ofNat 10) = true ∧ inB v2 (Int32.ofNat 10) = true ∧ inB v3 (Int32.ofNat 1440) = true ∧ inB v4 (Int32.ofNat 1440) = true ∧ inB v5 (Int32.ofNat 1000001) = true then 1 else 0) := by
    rw [ofD, ofD, minu]
    have h1 : inB v1 (Int32.ofNat 10) = decide (¬ v1 < 0 ∧ v1 < 10) := rfl
    have h2 : inB v2 (Int32.ofNat 10) = decide (¬ v2 < 0 ∧ v2 < 10) := rfl
    rw [h1, h2]
    simp only [Option.bind_some, decide_eq_true_eq]
    by_cases x1 : v1 < 0 <;> by_cases x2 : v1 < 10 <;> by_cases x3 : v2 < 0 <;> by_cases x4 : v2 < 10 <;> by_cases x5 : inB v3 (Int32.ofNat 1440) = true <;> by_cases x6 : inB v4 (Int32.ofNat 1440) = true <;> by_cases x7 : inB v5 (Int32.ofNat 1000001) = true <;> simp only [x1, x2, x3, x4, x5, x6, x7] <;> simp
  have t22 : (if (if inB v1 10 = true then (1 : Int32) else 0) = 0 then some (0 : Int32) else Option.bind (some (if inB v2 10 = true then (1 : Int32) else 0)) (fun x2 => (if x2 = 0 then some 0 else Option.bind (some (if inB v3 1440 = true then (1 : Int32) else 0)) (fun x3 => (if x3 = 0 then some 0 else Option.bind (some (if inB v4 1440 = true then (1 : Int32) else 0)) (fun x4 => (if x4 = 0 then some 0 else Option.bind (some (if inB v5 (Int32.ofNat 1000001) = true then (1 : Int32) else 0)) (fun x5 => (if x5 = 0 then some 0 else some 1))))))))) = some (if inB v1 (Int32.ofNat 10) = true ∧ inB v2 (Int32.ofNat 10) = true ∧ inB v3 (Int32.ofNat 1440) = true ∧ inB v4 (Int32.ofNat 1440) = true ∧ inB v5 (Int32.ofNat 1000001) = true then 1 else 0) := by
    simp only [show inB v1 10 = inB v1 (Int32.ofNat 10) from rfl, show inB v2 10 = inB v2 (Int32.ofNat 10) from rfl, show inB v3 1440 = inB v3 (Int32.ofNat 1440) from rfl, show inB v4 1440 = inB v4 (Int32.ofNat 1440) from rfl, Option.bind_some]
    by_cases x1 : inB v1 (Int32.ofNat 10) = true <;> by_cases x2 : inB v2 (Int32.ofNat 10) = true <;> by_cases x5 : inB v3 (Int32.ofNat 1440) = true <;> by_cases x6 : inB v4 (Int32.ofNat 1440) = true <;> by_cases x7 : inB v5 (Int32.ofNat 1000001) = true <;> simp only [x1, x2, x5, x6, x7] <;> simp
  unfold c_1029 t_597
  rw [e22, isInB, isInB, isInB, isInB, minT]; repeat (first | rw [Option.bind_some] | rw [Sum.elim_inl] | rw [Sum.elim_inr])
  simp only [Option.bind_some] at t22
  rw [t22]; repeat (first | rw [Option.bind_some] | rw [Sum.elim_inl] | rw [Sum.elim_inr])
  have ht16 : (if Int32.ofNat nR < 16 then some (1 : Int32) else some 0) = some (if nR < 16 then 1 else 0) := by
    by_cases z : nR < 16
    · rw [if_pos ((i_ltL (by omega) (by omega)).mpr z), if_pos z]
    · rw [if_neg (fun y => z ((i_ltL (by omega) (by omega)).mp y)), if_neg z]
  rw [q39, ht16]
  by_cases hok : inB v1 (Int32.ofNat 10) = true ∧ inB v2 (Int32.ofNat 10) = true ∧ inB v3 (Int32.ofNat 1440) = true ∧ inB v4 (Int32.ofNat 1440) = true ∧ inB v5 (Int32.ofNat 1000001) = true
  · rw [if_pos hok]
    obtain ⟨k1, k2, k3, k4, k5⟩ := hok
    obtain ⟨gr, hgr, rfl⟩ := inB_nat 10 (by omega) k1
    obtain ⟨z, hz, rfl⟩ := inB_nat 10 (by omega) k2
    obtain ⟨f, hf, rfl⟩ := inB_nat 1440 (by omega) k3
    obtain ⟨e, he, rfl⟩ := inB_nat 1440 (by omega) k4
    obtain ⟨m, hm, rfl⟩ := inB_nat 1000001 (by omega) k5
    rw [need_eq]; repeat (first | rw [Option.bind_some] | rw [Sum.elim_inl] | rw [Sum.elim_inr] | rw [if_neg (show ¬ (1 : Int32) = 0 by decide)] | rw [if_pos (show (0 : Int32) = 0 from rfl)] | rw [if_pos (show true = true from rfl)] | rw [if_neg (show ¬ false = true by decide)] | dsimp only)
    rw [if_pos k89, c_isB q]; repeat (first | rw [Option.bind_some] | rw [Sum.elim_inl] | rw [Sum.elim_inr])
    have eS : (if t.1 1 = 0 then some (0 : Int32) else some (if nR < 16 then 1 else 0)) = some (if ¬ t.1 1 = 0 ∧ nR < 16 then 1 else 0) := by
      by_cases x1 : t.1 1 = 0 <;> by_cases x2 : nR < 16 <;> simp [x1, x2]
    have eC : (if (if t.1 1 = 0 then (0 : Int32) else 1) = 0 then some (0 : Int32) else Option.bind (xN s [(89, 6)] 108) (fun a7 => (if isK s [13] a7 = true then Option.bind (alSize s a7) (fun x8 => (if x8 < 16 then some 1 else some 0)) else none))) = some (if ¬ t.1 1 = 0 ∧ nR < 16 then 1 else 0) := by
      rw [xN_o (b := 113) g rfl rfl, Option.bind_some, if_pos (isK_t r1 rfl), alSize_r r1, Option.bind_some, ht16]
      by_cases x1 : t.1 1 = 0 <;> by_cases x2 : nR < 16 <;> simp [x1, x2]
    rw [eS, eC]; repeat (first | rw [Option.bind_some] | rw [Sum.elim_inl] | rw [Sum.elim_inr])
    rw [may_eq]
    by_cases hst : ¬ t.1 1 = 0 ∧ nR < 16
    · have hbu := hst.1
      rw [if_pos hst, goes_1 t (by decide)]; repeat (first | rw [Option.bind_some] | rw [Sum.elim_inl] | rw [Sum.elim_inr] | rw [if_neg (show ¬ (1 : Int32) = 0 by decide)] | rw [if_pos (show (0 : Int32) = 0 from rfl)] | rw [if_pos (show true = true from rfl)] | rw [if_neg (show ¬ false = true by decide)] | dsimp only)
      rw [xR_o (b := 113) g rfl rfl]; repeat (first | rw [Option.bind_some] | rw [Sum.elim_inl] | rw [Sum.elim_inr])
      obtain ⟨S1, e1, a1, a2, a3, a4, a5, a6⟩ := nw_o (s := s) 84 [.int 0, .int 0, .int 0, .int 0, .int 0, .int 0, .null] hw
      have x108 : S1.1 108 = some (gaC t zn nT rel) := by rw [a2 108 (by omega), g, q45]; rfl
      rw [e1]; repeat (first | rw [Option.bind_some] | rw [Sum.elim_inl] | rw [Sum.elim_inr] | rw [if_neg (show ¬ (1 : Int32) = 0 by decide)] | rw [if_pos (show (0 : Int32) = 0 from rfl)] | rw [if_pos (show true = true from rfl)] | rw [if_neg (show ¬ false = true by decide)] | dsimp only)
      rw [xI_o (x := Int32.ofNat nT) x108 rfl rfl]; repeat (first | rw [Option.bind_some] | rw [Sum.elim_inl] | rw [Sum.elim_inr])
      rw [i_suc, xP_c (fs' := [.ref 101, .int (if t.1 1 = 0 then -1 else t.1 9), .ref zn, .ref 110, .ref 111, .ref 112, .ref 113, .ref 114, .int (t.1 49), .int (Int32.ofNat (nT + 1)), .int rel]) x108 rfl (by simp) rfl]; repeat (first | rw [Option.bind_some] | rw [Sum.elim_inl] | rw [Sum.elim_inr])
      have hw2 : wfS (cup S1 108 (gaC t zn (nT + 1) rel)) := wf_cup a4 (by omega)
      have y1 : (cup S1 108 (gaC t zn (nT + 1) rel)).1 s.2.1 = _ := (cup_ne (by omega)).trans a1
      have y2 : (cup S1 108 (gaC t zn (nT + 1) rel)).2 = S1.2 := rfl
      have y3 : ∀ q, q < s.2.1 → q ≠ 108 → (cup S1 108 (gaC t zn (nT + 1) rel)).1 q = s.1 q := fun q h1 h2 => by rw [cup_ne h2, a2 q (by omega)]
      have y4 := cup_eq S1 108 (gaC t zn (nT + 1) rel)
      rw [show cup S1 108 (true, false, 89, [.ref 101, .int (if t.1 1 = 0 then -1 else t.1 9), .ref zn, .ref 110, .ref 111, .ref 112, .ref 113, .ref 114, .int (t.1 49), .int (Int32.ofNat (nT + 1)), .int rel]) = cup S1 108 (gaC t zn (nT + 1) rel) from rfl]
      generalize cup S1 108 (gaC t zn (nT + 1) rel) = S2 at hw2 y1 y2 y3 y4 ⊢
      have y5 : S2.2.1 = s.2.1 + 1 := by rw [y2]; exact a3
      have y6 : S2.2.2.1 = s.2.2.1 + 1 := by rw [y2]; exact a5
      have y7 : S2.2.2.2 = s.2.2.2 + 7 := by rw [y2]; exact a6
      rw [if_pos (isK_t y1 rfl)]
      unfold c_1003
      obtain ⟨S3, e3, b1, b2, b3, b4, b5, b6⟩ := nw_o (s := S2) 83 [.null] hw2
      have b6' : S3.2.2.2 = S2.2.2.2 + 1 := b6
      rw [e3]; repeat (first | rw [Option.bind_some] | rw [Sum.elim_inl] | rw [Sum.elim_inr] | rw [if_neg (show ¬ (1 : Int32) = 0 by decide)] | rw [if_pos (show (0 : Int32) = 0 from rfl)] | rw [if_pos (show true = true from rfl)] | rw [if_neg (show ¬ false = true by decide)] | dsimp only)
      rw [if_pos (isK_t b1 rfl)]
      obtain ⟨S4, e4, d1, d2, d3, d4, d5, d6, d7⟩ := c_since b4 b1
      rw [e4]; repeat (first | rw [Option.bind_some] | rw [Sum.elim_inl] | rw [Sum.elim_inr])
      have w1 : S4.1 s.2.1 = some (true, false, 84, [.int 0, .int 0, .int 0, .int 0, .int 0, .int 0, .null]) := by rw [d5 _ (by omega) (by omega), b2 _ (by omega)]; exact y1
      rw [xP_c (fs' := [.int 0, .int 0, .int 0, .int 0, .int 0, .int 0, .ref S2.2.1]) w1 rfl (by simp) rfl]; repeat (first | rw [Option.bind_some] | rw [Sum.elim_inl] | rw [Sum.elim_inr])
      rw [xP_c (fs' := [.int (Int32.ofNat gr), .int 0, .int 0, .int 0, .int 0, .int 0, .ref S2.2.1]) (cup_eq ..) rfl (by simp) rfl, cupU]; repeat (first | rw [Option.bind_some] | rw [Sum.elim_inl] | rw [Sum.elim_inr])
      rw [xP_c (fs' := [.int (Int32.ofNat gr), .int (Int32.ofNat z), .int 0, .int 0, .int 0, .int 0, .ref S2.2.1]) (cup_eq ..) rfl (by simp) rfl, cupU]; repeat (first | rw [Option.bind_some] | rw [Sum.elim_inl] | rw [Sum.elim_inr])
      rw [xP_c (fs' := [.int (Int32.ofNat gr), .int (Int32.ofNat z), .int (Int32.ofNat f), .int 0, .int 0, .int 0, .ref S2.2.1]) (cup_eq ..) rfl (by simp) rfl, cupU]; repeat (first | rw [Option.bind_some] | rw [Sum.elim_inl] | rw [Sum.elim_inr])
      rw [xP_c (fs' := [.int (Int32.ofNat gr), .int (Int32.ofNat z), .int (Int32.ofNat f), .int (Int32.ofNat e), .int 0, .int 0, .ref S2.2.1]) (cup_eq ..) rfl (by simp) rfl, cupU]; repeat (first | rw [Option.bind_some] | rw [Sum.elim_inl] | rw [Sum.elim_inr])
      rw [xP_c (fs' := [.int (Int32.ofNat gr), .int (Int32.ofNat z), .int (Int32.ofNat f), .int (Int32.ofNat e), .int (Int32.ofNat m), .int 0, .ref S2.2.1]) (cup_eq ..) rfl (by simp) rfl, cupU]; repeat (first | rw [Option.bind_some] | rw [Sum.elim_inl] | rw [Sum.elim_inr])
      rw [xP_c (fs' := [.int (Int32.ofNat gr), .int (Int32.ofNat z), .int (Int32.ofNat f), .int (Int32.ofNat e), .int (Int32.ofNat m), .int (Int32.ofNat nT), .ref S2.2.1]) (cup_eq ..) rfl (by simp) rfl, cupU]; repeat (first | rw [Option.bind_some] | rw [Sum.elim_inl] | rw [Sum.elim_inr])
      have w2 : (cup S4 s.2.1 (true, false, 84, [.int (Int32.ofNat gr), .int (Int32.ofNat z), .int (Int32.ofNat f), .int (Int32.ofNat e), .int (Int32.ofNat m), .int (Int32.ofNat nT), .ref S2.2.1])).1 113 = some (true, false, 1013, .int mc :: rowC (fun k => .ref (E k)) nR) := by rw [cup_ne (by omega), d5 113 (by omega) (by omega), b2 113 (by omega), y3 113 (by omega) (by omega)]; exact r1
      rw [if_pos (isK_t w2 rfl), alAdd_r w2 (by omega) (elO_o (cup_eq ..))]; repeat (first | rw [Option.bind_some] | rw [Sum.elim_inl] | rw [Sum.elim_inr])
      have w3 : (cput (cup S4 s.2.1 (true, false, 84, [.int (Int32.ofNat gr), .int (Int32.ofNat z), .int (Int32.ofNat f), .int (Int32.ofNat e), .int (Int32.ofNat m), .int (Int32.ofNat nT), .ref S2.2.1])) 1013 113 1 16 (.int (mc + 1) :: rowC (fun j => if j = nR then .ref s.2.1 else .ref (E j)) (nR + 1))).1 108 = some (gaC t zn (nT + 1) rel) := by rw [cput_ne (by omega), cup_ne (by omega), d5 108 (by omega) (by omega), b2 108 (by omega)]; exact y4
      have w4 := cput_eq (cup S4 s.2.1 (true, false, 84, [.int (Int32.ofNat gr), .int (Int32.ofNat z), .int (Int32.ofNat f), .int (Int32.ofNat e), .int (Int32.ofNat m), .int (Int32.ofNat nT), .ref S2.2.1])) 1013 113 1 16 (.int (mc + 1) :: rowC (fun j => if j = nR then .ref s.2.1 else .ref (E j)) (nR + 1))
      rw [xN_o (b := 113) w3 rfl rfl]; repeat (first | rw [Option.bind_some] | rw [Sum.elim_inl] | rw [Sum.elim_inr])
      rw [if_pos (isK_t w4 rfl), alSize_r w4]; repeat (first | rw [Option.bind_some] | rw [Sum.elim_inl] | rw [Sum.elim_inr])
      have hT : Option.bind (stI (ptI t 0 0) 32 16 ((ptI t 0 0).1 39) (Int32.ofNat gr)) (fun s7 => Option.bind (stI s7 33 16 (s7.1 39) (Int32.ofNat z)) (fun s8 => Option.bind (stI s8 34 16 (s8.1 39) (Int32.ofNat f)) (fun s9 => Option.bind (stI s9 35 16 (s9.1 39) (Int32.ofNat e)) (fun s10 => Option.bind (stI s10 36 16 (s10.1 39) (Int32.ofNat m)) (fun s11 => Option.bind (t_596 1 (s11.1 39) (Int32.ofNat m) s11) (fun x12 => Option.bind (some (ptI x12 39 ((x12.1 39) + 1))) (fun s13 => some ((s13.1 39) - 1, s13)))))))) = some (Int32.ofNat nR, rig4 t nR gr z f e m nT) := by
        have f39 : (ptI t 0 0).1 39 = Int32.ofNat nR := q39
        have e := t_tll (t := rigU t nR gr z f e m) (nT := nT) q45 (by omega) 1 nR m
        unfold rigU at e
        simp only [f39, wr_1, stI_n hst.2 (show 16 < 2147483648 by omega), Option.bind_some]
        rw [show t_596 1 (Int32.ofNat nR) (Int32.ofNat m) _ = _ from e]; repeat (first | rw [Option.bind_some] | rw [Sum.elim_inl] | rw [Sum.elim_inr])
        rw [show ∀ V : TS, (tllT V nT 1 nR m).1 39 = V.1 39 from fun _ => rfl]
        simp only [f39, wr_1, i_suc]
        rw [pt_1, if_pos rfl, i_subL (by omega)]; rfl
      rw [hT, i_subL (show 1 ≤ nR + 1 by omega)]
      generalize hSS : cput (cup S4 s.2.1 (true, false, 84, [.int (Int32.ofNat gr), .int (Int32.ofNat z), .int (Int32.ofNat f), .int (Int32.ofNat e), .int (Int32.ofNat m), .int (Int32.ofNat nT), .ref S2.2.1])) 1013 113 1 16 (.int (mc + 1) :: rowC (fun j => if j = nR then .ref s.2.1 else .ref (E j)) (nR + 1)) = S' at w3 w4 ⊢
      have n1 : ∀ q, q < s.2.1 → q ≠ 108 → q ≠ 113 → S'.1 q = s.1 q := fun q h1 h2 h3 => by rw [← hSS, cput_ne h3, cup_ne (by omega), d5 q (by omega) (by omega), b2 q (by omega), y3 q h1 h2]
      have n2 : S'.1 s.2.1 = some (true, false, 84, [.int (Int32.ofNat gr), .int (Int32.ofNat z), .int (Int32.ofNat f), .int (Int32.ofNat e), .int (Int32.ofNat m), .int (Int32.ofNat nT), .ref (s.2.1 + 1)]) := by rw [← hSS, cput_ne (by omega), cup_eq, y5]
      have n2a : S'.1 (s.2.1 + 1) = some (true, false, 83, [.ref (s.2.1 + 2)]) := by rw [← hSS, cput_ne (by omega), cup_ne (by omega), ← y5, d3, b3, y5]
      have n2b : S'.1 (s.2.1 + 2) = some (true, false, 1042, [.int 0]) := by rw [← hSS, cput_ne (by omega), cup_ne (by omega), show s.2.1 + 2 = S3.2.1 by omega]; exact d4
      have n3 : S'.2.1 = s.2.1 + 3 := by rw [← hSS]; show S4.2.1 = _; omega
      have n4 : wfS S' := by rw [← hSS]; exact wf_cup (wf_cup d1 (by omega)) (by show 113 < S4.2.1; omega)
      have n5 : S'.2.2.1 = s.2.2.1 + 4 := by rw [← hSS]; show S4.2.2.1 + 1 = _; omega
      have n6 : S'.2.2.2 = s.2.2.2 + 33 := by rw [← hSS]; show S4.2.2.2 + 16 = _; omega
      clear hSS hT
      have ho : ∀ q, q < s.2.1 → givs own s.2.1 3 4 q = own q := fun q hq => if_neg (by omega)
      have hn : ∀ q, s.2.1 ≤ q → q < s.2.1 + 3 → givs own s.2.1 3 4 q = 4 := fun q h1 h2 => if_pos ⟨h1, h2⟩
      obtain ⟨v0, v1', v2t, v2c, v2r, v2d, v3, v4', v5', v6⟩ := r
      have o108 := (rs_in v0.1).2
      obtain ⟨mc', w113⟩ := v2r.1
      have o113 := (rs_in w113).2
      have hKK : ∀ q c, q ≠ 108 → q ≠ 113 → rs s.1 own 4 q = some c → rs S'.1 (givs own s.2.1 3 4) 4 q = some c := fun q c h1 h2 h3 => rs_keep hw ho h3 (n1 q (wf_lt hw (rs_in h3).1) h1 h2)
      have hH : ∀ X : Nat → lCell → Prop, (∀ c, X 108 c → c.2.2.1 = 89 → False) → (∀ c, X 113 c → c.2.2.1 = 1013 → False) → hS (rs s.1 own 4) (rs S'.1 (givs own s.2.1 3 4) 4) X := fun X h1 h2 => hS_mk2 v0.1 w113 hKK h1 h2
      have T1 : ∀ c, c ≠ 0 → c ≠ 39 → c ≠ 45 → (rig4 t nR gr z f e m nT).1 c = t.1 c := fun c h0 h1 h2 => by
        unfold rig4 tllT
        rw [pt_1, if_neg h1, pt_1, if_neg h2]
        exact if_neg h0
      have e4' : ∀ c j, (rig4 t nR gr z f e m nT).2.2.1 c j = (tllT (rigU t nR gr z f e m) nT 1 nR m).2.2.1 c j := fun _ _ => rfl
      have Tr4 : ∀ c j, c ≠ 37 ∧ c ≠ 38 ∧ c ≠ 39 → (rig4 t nR gr z f e m nT).2.2.1 c j = (rigU t nR gr z f e m).2.2.1 c j := fun c j h1 => by rw [e4', tll_r h1]
      have T3 : ∀ c, ¬ (32 ≤ c ∧ c ≤ 39) → (rig4 t nR gr z f e m nT).2.2.1 c = t.2.2.1 c := fun c h1 => funext (fun j => by rw [Tr4 c j (by omega), rigU_o (by omega)])
      have eqr : ∀ l : List Nat, (∀ c ∈ l, ¬ (32 ≤ c ∧ c ≤ 39)) → eqR t (rig4 t nR gr z f e m nT) l := fun l h1 c hc => T3 c (h1 c hc)
      have tlU : ∀ k' w' j, k' < 4 → w' < 1000 → (isTl (rig4 t nR gr z f e m nT) k' w' j ↔ if j = nT then k' = 1 ∧ w' = nR else isTl t k' w' j) := fun k' w' j h1 h2 => by
        have := tll_isTl (t := rigU t nR gr z f e m) (nT := nT) (k := 1) (w := nR) (m := m) (k' := k') (w' := w') (j := j) (by omega) (by omega) (by omega) (by omega)
        refine Iff.trans this ?_
        by_cases y : j = nT
        · rw [if_pos y, if_pos y]
        · rw [if_neg y, if_neg y]
          unfold isTl
          rw [rigU_o (by omega), rigU_o (by omega)]
      have hfr : ∀ q c, s.1 q = some c → q < s.2.1 := fun q c h => wf_lt hw h
      refine Or.inl ⟨Int32.ofNat nR, S', rig4 t nR gr z f e m nT, givs own s.2.1 3 4, rfl, rfl, rfl, fun Z h4 h9 => ?_, ⟨by omega, ho, fun q hq hx => n1 q hq (fun z => hx (by rw [z]; exact o108)) (fun z => hx (by rw [z]; exact o113)), fun q h1 h2 => hn q h1 (by omega), n4⟩, ⟨zn, nr, nS, nT + 1, nC, nR + 1, nP, nL, a, rel, S, C, CS', CM, CT, fun j => if j = nR then s.2.1 else E j, fun j => if j = nR then s.2.1 + 1 else RS j, fun j => if j = nR then s.2.1 + 2 else RM' j, fun j => if j = nR then nT else RT j, P, G, D, L, F, RW, ?_, V1_cg v1' (hH _ (fun c h1 h2 => by omega) (fun c h1 h2 => by omega)) (T1 27 (by omega) (by omega) (by omega)) (T1 9 (by omega) (by omega) (by omega)) (eqr _ (by decide)), ⟨rfl, fun j hj => ?_⟩, ⟨?_, ?_, v2c.2.2.1, fun c hc2 => ?_, v2c.2.2.2.2.1, fun j c h1 h2 h3 => ?_⟩, ⟨⟨mc + 1, ?_⟩, rfl, by omega, fun c hc2 => ?_, fun j c h1 h2 h3 => ?_⟩, ⟨v2d.1, fun j k hj hk e => ?_, fun j k hj hk e => ?_⟩, tl_p (V3_cg v3 (hH _ (fun c h1 h2 => by omega) (fun c h1 h2 => by omega)) (T1 9 (by omega) (by omega) (by omega)) (T1 10 (by omega) (by omega) (by omega)) (T1 24 (by omega) (by omega) (by omega)) (eqr _ (by decide))) (Nat.le_refl _) (fun _ _ => rfl) v2c.2.2.1, V4_cg v4' (hH _ (fun c h1 h2 => by omega) (fun c h1 h2 => by omega)) (T1 49 (by omega) (by omega) (by omega)) (eqr _ (by decide)), ⟨by omega, by omega, by omega⟩, fun z => absurd ((T1 1 (by omega) (by omega) (by omega)).symm.trans z) hbu⟩, by omega, by omega⟩
      · unfold rig4 tllT rigU
        rw [rt_ptI (by show (4 : Nat) ≠ Z; omega), rt_ptI (by show (4 : Nat) ≠ Z; omega), rt_wrI (by show (4 : Nat) ≠ Z; omega), rt_wrI (by show (4 : Nat) ≠ Z; omega), rt_wrI (by show (4 : Nat) ≠ Z; omega), rt_wrI (by show (4 : Nat) ≠ Z; omega), rt_wrI (by show (4 : Nat) ≠ Z; omega), rt_wrI (by show (4 : Nat) ≠ Z; omega), rt_wrI (by show (4 : Nat) ≠ Z; omega), rt_wrI (by show (4 : Nat) ≠ Z; omega), ptI_rt h9]
      · obtain ⟨r1, r2, r3, r4, r5, r6⟩ := v0
        unfold V0
        rw [T1 1 (by omega) (by omega) (by omega), T1 9 (by omega) (by omega) (by omega), T1 49 (by omega) (by omega) (by omega), T3 64 (by omega), show (rig4 t nR gr z f e m nT).1 45 = Int32.ofNat (nT + 1) from rfl]
        refine ⟨rs_some.mpr ⟨by rw [ho 108 l108]; exact o108, w3⟩, r2, r3, r4, r5, fun z => ⟨(r6 z).1, ?_⟩⟩
        obtain ⟨f, z1, z2⟩ := (r6 z).2
        exact ⟨f, hKK _ _ (fun z => by rw [z, r1] at z1; cases z1) (fun z => by rw [z, w113] at z1; cases z1) z1, z2⟩
      · rw [e4', tll_39]
        by_cases y : j = nT
        · rw [if_pos y]; exact ⟨m, hm, rfl⟩
        · rw [if_neg y, rigU_o (by omega)]; exact v2t.2 j (by omega)
      · obtain ⟨m2, z⟩ := v2c.1
        exact ⟨m2, hKK _ _ (by omega) (by omega) z⟩
      · rw [T1 36 (by omega) (by omega) (by omega)]; exact v2c.2.1
      · exact tl_c (k := 1) (w := nR) (m := m) (U := rigU t nR gr z f e m) v2c hc2 ⟨by omega, by omega⟩ ⟨by omega, by omega⟩ (hH _ (fun c h1 h2 => by omega) (fun c h1 h2 => by omega)) (by
          refine ⟨funext (fun j => rigU_o (by omega)), funext (fun j => rigU_o (by omega)), funext (fun j => rigU_o (by omega)), rigU_o (by omega), rigU_o (by omega)⟩) rfl rfl rfl rfl
      · rw [tlU 0 c _ (by omega) h2, tlU 3 c _ (by omega) h2]
        by_cases y : j = nT
        · rw [if_pos y, if_pos y]; omega
        · rw [if_neg y, if_neg y]; exact v2c.2.2.2.2.2 j c (by omega) h2 (by omega)
      · rw [← mapL E (fun _ => s.2.1)]
        exact rs_some.mpr ⟨by rw [ho 113 l113]; exact o113, w4⟩
      · by_cases y : c = nR
        · subst y
          dsimp only
          rw [if_pos rfl, if_pos rfl, if_pos rfl, if_pos rfl]
          refine ⟨rs_some.mpr ⟨hn _ (Nat.le_refl _) (by omega), n2.trans ?_⟩, hs, by omega, by omega, ?_, Snc_new (rs_some.mpr ⟨hn _ (by omega) (by omega), n2a⟩) (rs_some.mpr ⟨hn _ (by omega) (by omega), n2b⟩) (fun j hj => ?_), by omega, ?_, fun j hj hT => ?_⟩
          · unfold rigC
            rw [Tr4 32 c (by omega), Tr4 33 c (by omega), Tr4 34 c (by omega), Tr4 35 c (by omega), Tr4 36 c (by omega)]
            simp [rigU_at]
          · rw [Tr4 36 c (by omega)]
            exact ⟨m, hm, by simp [rigU_at]⟩
          · rw [tlU 2 c j (by omega) (by omega)]
            by_cases y : j = nT
            · rw [if_pos y]; omega
            · rw [if_neg y]; exact (v2r.2.2.2.2 j c (Nat.le_refl _) (by omega) (by omega)).2
          · rw [tlU 1 c _ (by omega) (by omega), if_pos rfl]; exact ⟨rfl, rfl⟩
          · rw [tlU 1 c _ (by omega) (by omega)] at hT
            by_cases y : j = nT
            · exact y
            · rw [if_neg y] at hT
              exact absurd hT (v2r.2.2.2.2 j c (Nat.le_refl _) (by omega) (by omega)).1
        · exact tl_r (E2 := fun j => if j = nR then s.2.1 else E j) (S2 := fun j => if j = nR then s.2.1 + 1 else RS j) (M2 := fun j => if j = nR then s.2.1 + 2 else RM' j) (T2 := fun j => if j = nR then nT else RT j) (k := 1) (w := nR) (m := m) (U := rigU t nR gr z f e m) v2r (by omega) ⟨fun z => absurd z.1 (by omega), fun z => y z.2.symm⟩ ⟨by omega, by omega⟩ (hH _ (fun c h1 h2 => by omega) (fun c h1 h2 => by omega)) ⟨funext (fun j => rigU_o (by omega)), funext (fun j => rigU_o (by omega)), funext (fun j => rigU_o (by omega)), rigU_o (by omega), rigU_o (by omega), rigU_o (by omega), rigU_o (by omega), rigU_o (by omega)⟩ (if_neg y) (if_neg y) (if_neg y) (if_neg y)
      · rw [tlU 1 c _ (by omega) h2, tlU 2 c _ (by omega) h2]
        by_cases y : j = nT
        · rw [if_pos y, if_pos y]; omega
        · rw [if_neg y, if_neg y]; exact v2r.2.2.2.2 j c (by omega) h2 (by omega)
      · dsimp only at e
        have nn : ∀ i, i < nR → RM' i < s.2.1 := fun i hi => by
          obtain ⟨_, _, _, x1, _⟩ := (qc4 i hi).2.2.2.2.2.1
          exact hfr _ _ x1
        by_cases y1 : j = nR
        · by_cases y2 : k = nR
          · omega
          · rw [if_pos y1, if_neg y2] at e; have := nn k (by omega); omega
        · by_cases y2 : k = nR
          · rw [if_neg y1, if_pos y2] at e; have := nn j (by omega); omega
          · rw [if_neg y1, if_neg y2] at e; exact v2d.2.1 j k (by omega) (by omega) e
      · dsimp only at e
        by_cases y1 : k = nR
        · rw [if_pos y1] at e
          obtain ⟨_, _, _, x1, _⟩ := (v2c.2.2.2.1 j hj).2.2.2.2.2.1
          have := hfr _ _ (rs_in x1).1
          omega
        · rw [if_neg y1] at e; exact v2d.2.2 j k hj (by omega) e
    · rw [if_neg hst, if_pos rfl, goes_2]; repeat (first | rw [Option.bind_some] | rw [Sum.elim_inl] | rw [Sum.elim_inr] | rw [if_neg (show ¬ (1 : Int32) = 0 by decide)] | rw [if_pos (show (0 : Int32) = 0 from rfl)] | rw [if_pos (show true = true from rfl)] | rw [if_neg (show ¬ false = true by decide)] | dsimp only)
      exact Rg.sta (x := 0) (a := 0) (b := 0) hw hR rfl rfl (by omega) (by omega)
  · rw [if_neg hok, need_eq, if_pos rfl]
    refine Rg.arg (x := 0) (a := 0) (b := 0) hw hR rfl ?_ (by omega) (by omega)
    by_cases z : t.1 1 = 0 <;> by_cases z2 : nR < 16 <;> simp [z, z2, goes_0]
end
