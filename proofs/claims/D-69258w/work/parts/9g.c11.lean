/-! cells: one steps -/
/-- what holds once an edge is passed -/
def PsF (own : Nat → Nat) (s s' : CS) (T T' : TS) (nl nr nd sm : Nat) (W : Nat → Nat) (e q g : Nat → Int32) : Prop := ∃ wn' sc', R9x (rs s'.1 own 9) T' nl nr nd sm W e q g wn' sc' ∧ cntR T' wn' sc' ∧ (∀ a, a ≠ 177 → a ≠ 178 → s'.1 a = s.1 a) ∧ s'.2 = s.2 ∧ wfS s' ∧ T'.1 = T.1 ∧ (∀ c, c ≠ 48 → T'.2.2.1 c = T.2.2.1 c) ∧ (∀ Z, Z ≠ 9 → rt T' Z = rt T Z)
def nrB (T : TS) (c b : Nat) : Prop := by classical exact (if ouT T b then T.2.2.1 46 c = 1 else 0 < T.2.2.1 46 b ∧ T.2.2.1 46 b < T.2.2.1 46 c)
def clB (T : TS) (b : Nat) : Prop := b = 576 ∨ T.2.2.1 44 b = 0
section
variable {own : Nat → Nat} {s : CS} {T : TS} {nl nr nd sm : Nat} {W : Nat → Nat} {e q g wn : Nat → Int32} {sc : Nat → Nat}
theorem c_out (r : R9x s.1 T nl nr nd sm W e q g wn sc) (hb : T.1 1 ≠ 0) {b : Nat} (h : b ≤ 576) : by classical exact (c_542 170 (if b = 576 then -1 else Int32.ofNat b) s = some (if ouT T b then 1 else 0)) := by
  classical
  obtain ⟨⟨a1, a2, _⟩, _, _, _, hbb, _⟩ := r
  obtain ⟨b1, b2, b3, b4, _⟩ := hbb hb
  unfold c_542
  by_cases z : b = 576
  · rw [if_pos z, if_pos rfl, if_pos (show ouT T b from Or.inl z)]
  · rw [if_neg z, if_neg (i_ne1 (by omega)), xN_o (b := 171) a1 rfl rfl]; repeat (first | rw [Option.bind_some] | rw [Sum.elim_inl] | rw [Sum.elim_inr])
    rw [aI_r a2 (by omega) rfl (show b < 576 by omega) (by omega) rfl]; repeat (first | rw [Option.bind_some] | rw [Sum.elim_inl] | rw [Sum.elim_inr])
    rcases b4 b (by omega) with w | ⟨v, hv, w⟩
    · rw [if_pos w, if_pos (show ouT T b from Or.inr (by rw [w]; decide))]
    · rw [if_neg (by rw [w]; exact i_ne1 (by omega)), if_neg (show ¬ ouT T b from fun u => by
        rcases u with u | u
        · exact z u
        · rw [w] at u; exact i_nlt0 (by omega) u)]
theorem st_loop {nw' pn c : Nat} (hw : wfS s) (hK : K9 s.1) (r : R9x (rs s.1 own 9) T nl nr nd sm W e q g wn sc) (hb : T.1 1 ≠ 0) (h101 : s.1 101 = some (true, false, 56, [.int (T.1 2)])) (h2 : T.1 2 = Int32.ofNat nw') (hnw : nw' ≤ 6000) (hcn : cntR T wn sc) (hpn : pn < 40) (hc : c < 576) (hx : T.2.2.1 25 pn = cX c) (hy : T.2.2.1 26 pn = cY c) (hn : 0 < T.2.2.1 46 c) : by classical exact (∃ x y, wh (S := CS × Int32) (X := Sum (CS × Int32 × Int32) (Sum CS CS)) (fun p10 => Option.bind (aLen p10.1 61) (fun x3 => (if p10.2 < x3 then Option.bind (c_543 ((24 * (cY c)) + (cX c)) p10.2 p10.1) (fun x4 => (if isK p10.1 [50] 170 = true then Option.bind (c_542 170 x4 p10.1) (fun x5 => Option.bind ((if x5 = 0 then Option.bind (xN p10.1 [(50, 6)] 170) (fun a6 => Option.bind (aI p10.1 [0, 12] a6 x4) (fun x7 => (if x7 = (-1) then some (0 : Int32) else Option.bind (xN p10.1 [(50, 6)] 170) (fun a8 => Option.bind (aI p10.1 [0, 12] a8 x4) (fun x9 => (if x9 < (T.2.2.1 46 c) then some (1 : Int32) else some (0 : Int32))))))) else (if (T.2.2.1 46 c) = 1 then some (1 : Int32) else some (0 : Int32)))) (fun v46 => Option.bind ((if x4 = (-1) then some (1 : Int32) else Option.bind (xN p10.1 [(50, 7)] 170) (fun a10 => (if isK p10.1 [3] a10 = true then Option.bind (bsGet p10.1 a10 x4) (fun x11 => (if x11 = 0 then some (1 : Int32) else some (0 : Int32))) else none)))) (fun v58 => Option.bind (α := Sum (CS) (Sum (CS × Int32) (Sum (CS × Int32 × Int32) (Sum (CS) (CS))))) ((if v46 = 0 then some (.inl p10.1) else (if v58 = 0 then some (.inl p10.1) else Option.bind (xN p10.1 [(50, 3)] 170) (fun a12 => Option.bind (aI p10.1 [0, 12] a12 ((4 * ((24 * (cY c)) + (cX c))) + p10.2)) (fun x13 => (if isK p10.1 [50] 170 = true then Option.bind (c_554 170 x13 p10.1) (fun x14 => (if x14.1 = 0 then some (.inl x14.2) else some (.inr (.inr (.inl (x14.2, x4, x5)))))) else none)))))) (Sum.elim (fun v108 => some (.inl (v108, p10.2 + 1))) (fun z => some z))))) else none)) else some (.inr (.inr (.inl p10.1)))))) (s, 0) = some x ∧ wh (S := TS × Int32) (X := Sum (TS × Int32 × Int32 × Int32) (Sum TS TS)) (fun p17 => (if p17.2 < 4 then (if 0 < (T.2.2.1 46 c) then Option.bind (rdI p17.1 25 40 (Int32.ofNat pn)) (fun x4 => Option.bind (t_589 x4 p17.2 p17.1) (fun x5 => Option.bind (rdI p17.1 26 40 (Int32.ofNat pn)) (fun x6 => Option.bind (t_590 x6 p17.2 p17.1) (fun x7 => Option.bind (t_588 x5 x7 p17.1) (fun x8 => Option.bind ((if x8 = 0 then Option.bind (rdI p17.1 46 576 ((24 * x7) + x5)) (fun x9 => some x9) else some (0 : Int32))) (fun v53 => Option.bind ((if x8 = 0 then (if 0 < v53 then (if v53 < (T.2.2.1 46 c) then some (1 : Int32) else some (0 : Int32)) else some (0 : Int32)) else (if (T.2.2.1 46 c) = 1 then some (1 : Int32) else some (0 : Int32)))) (fun v71 => Option.bind (α := Sum (TS) (Sum (TS × Int32) (Sum (TS × Int32 × Int32 × Int32) (Sum (TS) (TS))))) ((if v71 = 0 then some (.inl p17.1) else Option.bind (t_569 x5 x7 p17.1) (fun x10 => Option.bind (α := Sum (Unit) (Sum (TS) (Sum (TS × Int32) (Sum (TS × Int32 × Int32 × Int32) (Sum (TS) (TS)))))) ((if x10 = 0 then some (.inl ()) else Option.bind (rdI p17.1 44 576 ((24 * x7) + x5)) (fun x11 => (if x11 = 0 then some (.inl ()) else some (.inr (.inl p17.1)))))) (Sum.elim (fun v87 => Option.bind (rdI p17.1 25 40 (Int32.ofNat pn)) (fun x12 => Option.bind (rdI p17.1 26 40 (Int32.ofNat pn)) (fun x13 => Option.bind (t_672 x12 x13 p17.2 p17.1) (fun x14 => (if x14.1 = 0 then some (.inl x14.2) else some (.inr (.inr (.inl (x14.2, x5, x7, x8))))))))) (fun z => some z))))) (Sum.elim (fun v149 => some (.inl (v149, p17.2 + 1))) (fun z => some z))))))))) else some (.inr (.inr (.inl p17.1)))) else some (.inr (.inr (.inl p17.1))))) (T, 0) = some y ∧ ((x = .inr (.inl s) ∧ y = .inr (.inl T)) ∨ ∃ d s1 T1, d < 4 ∧ x = .inl (s1, (if bsd c d = 576 then -1 else Int32.ofNat (bsd c d)), (if ouT T (bsd c d) then 1 else 0)) ∧ y = .inl (T1, Int32.ofNat (c % 24) + dX d, Int32.ofNat (c / 24) + dY d, (if ouT T (bsd c d) then 1 else 0)) ∧ PsF own s s1 T T1 nl nr nd sm W e q g)) := by
  classical
  have rr := R9_raw r
  have rr' := rr
  obtain ⟨⟨a1, a2, a3, a4, a5, a6, a7, a8⟩, ⟨s1, ⟨xs, s2, s3, s4⟩, s5⟩, _, _, hbb, _⟩ := rr'
  obtain ⟨b1, b2, b3, b4, b5, b6, b7⟩ := hbb hb
  have hK0 := hK
  obtain ⟨⟨wk, k61⟩, _⟩ := hK
  refine wh_two 4 (fun k a b => s = a.1 ∧ T = b.1 ∧ a.2 = Int32.ofNat k ∧ b.2 = Int32.ofNat k) ?_ ?_ ⟨rfl, rfl, rfl, rfl⟩
  · rintro d ⟨_, _⟩ ⟨_, _⟩ hd ⟨rfl, rfl, rfl, rfl⟩
    have hbl := bsd_le (d := d) hc
    generalize hB : bsd c d = b at *
    -- the component
    have nm : b ≠ 576 → aI s [0, 12] 175 (Int32.ofNat b) = some (nmC T b) := fun z => aI_r a6 (by omega) rfl (show b < 576 by omega) (by omega) (congrArg _ (b5 b (by omega)).2)
    have hA : (if (if ouT T b then (1 : Int32) else 0) = 0 then Option.bind (xN s [(50, 6)] 170) (fun a6 => Option.bind (aI s [0, 12] a6 (if b = 576 then -1 else Int32.ofNat b)) (fun x7 => (if x7 = (-1) then some (0 : Int32) else Option.bind (xN s [(50, 6)] 170) (fun a8 => Option.bind (aI s [0, 12] a8 (if b = 576 then -1 else Int32.ofNat b)) (fun x9 => (if x9 < T.2.2.1 46 c then some 1 else some 0)))))) else (if T.2.2.1 46 c = 1 then some 1 else some 0)) = some (if nrB T c b then 1 else 0) := by
      have e46 := (b5 c hc).1
      obtain ⟨vc, hvc, ec⟩ := e46
      by_cases o : ouT T b
      · rw [if_pos o, if_neg (show ¬ (1 : Int32) = 0 by decide)]
        by_cases u : T.2.2.1 46 c = 1
        · rw [if_pos u, if_pos (show nrB T c b by unfold nrB; rw [if_pos o]; exact u)]
        · rw [if_neg u, if_neg (show ¬ nrB T c b by unfold nrB; rw [if_pos o]; exact u)]
      · have hz : b ≠ 576 := fun z => o (Or.inl z)
        obtain ⟨vb, hvb, eb⟩ := (b5 b (by omega)).1
        have hnr : nrB T c b ↔ 0 < T.2.2.1 46 b ∧ T.2.2.1 46 b < T.2.2.1 46 c := by unfold nrB; rw [if_neg o]
        rw [if_neg o, if_pos rfl, if_neg hz, xN_o (b := 175) a1 rfl rfl, Option.bind_some, nm hz, Option.bind_some, Option.bind_some, nm hz, Option.bind_some]
        unfold nmC
        by_cases u : T.2.2.1 46 b = 0
        · rw [if_pos u, if_pos rfl, if_neg (show ¬ nrB T c b from fun h => by have := (hnr.mp h).1; rw [u] at this; exact absurd this (by decide))]
        · have up : 0 < T.2.2.1 46 b := by
            rw [eb] at u ⊢
            have hv0 : 0 < vb := by
              apply Nat.pos_of_ne_zero
              intro z
              exact u (by rw [z]; rfl)
            exact (i_lt (j := 0) (by omega) (by omega)).mpr hv0
          have hm1 : ¬ T.2.2.1 46 b = -1 := by rw [eb]; exact i_ne1 (by omega)
          rw [if_neg u, if_neg hm1]
          by_cases v : T.2.2.1 46 b < T.2.2.1 46 c
          · rw [if_pos v, if_pos (hnr.mpr ⟨up, v⟩)]
          · rw [if_neg v, if_neg (fun h => v (hnr.mp h).2)]
    have hC : (if (if b = 576 then (-1 : Int32) else Int32.ofNat b) = (-1) then some (1 : Int32) else Option.bind (xN s [(50, 7)] 170) (fun a10 => (if isK s [3] a10 = true then Option.bind (bsGet s a10 (if b = 576 then -1 else Int32.ofNat b)) (fun x11 => (if x11 = 0 then some 1 else some 0)) else none))) = some (if clB T b then 1 else 0) := by
      by_cases z : b = 576
      · rw [if_pos z, if_pos rfl, if_pos (show clB T b from Or.inl z)]
      · have hbc : bit xs b = true ↔ T.2.2.1 44 b = 1 := by rw [s4]; exact ⟨fun h => h.2, fun h => ⟨by omega, h⟩⟩
        rw [if_neg z, if_neg (i_ne1 (by omega)), xN_o (b := sm) a1 rfl rfl, Option.bind_some, if_pos (isK_t s2 rfl), bsGet_r s2 (by omega), Option.bind_some]
        rcases s5 b (by omega) with w | w
        · have nb : ¬ bit xs b = true := fun h => by have := hbc.mp h; rw [w] at this; exact absurd this (by decide)
          rw [if_neg nb, if_pos rfl, if_pos (show clB T b from Or.inr w)]
        · rw [if_pos (hbc.mpr w), if_neg (by decide), if_neg (show ¬ clB T b from fun h => by
            rcases h with h | h
            · exact z h
            · rw [w] at h; exact absurd h (by decide))]
    have hT1 : (if (if ouT T b then (1 : Int32) else 0) = 0 then Option.bind (rdI T 46 576 (24 * (Int32.ofNat (c / 24) + dY d) + (Int32.ofNat (c % 24) + dX d))) (fun x9 => some x9) else some 0) = some (if ouT T b then 0 else T.2.2.1 46 b) := by
      by_cases o : ouT T b
      · rw [if_pos o, if_neg (show ¬ (1 : Int32) = 0 by decide), if_pos o]
      · have hz : b ≠ 576 := fun z => o (Or.inl z)
        rw [if_neg o, if_pos rfl, if_neg o, nx_at hc hd (by rw [hB]; exact hz), hB, rdI_n (by omega) (by omega)]; rfl
    have hT2 : (if (if ouT T b then (1 : Int32) else 0) = 0 then (if 0 < (if ouT T b then 0 else T.2.2.1 46 b) then (if (if ouT T b then 0 else T.2.2.1 46 b) < T.2.2.1 46 c then some (1 : Int32) else some 0) else some 0) else (if T.2.2.1 46 c = 1 then some 1 else some 0)) = some (if nrB T c b then 1 else 0) := by
      by_cases o : ouT T b
      · have hnr : nrB T c b ↔ T.2.2.1 46 c = 1 := by unfold nrB; rw [if_pos o]
        rw [if_pos o, if_neg (show ¬ (1 : Int32) = 0 by decide)]
        by_cases u : T.2.2.1 46 c = 1
        · rw [if_pos u, if_pos (hnr.mpr u)]
        · rw [if_neg u, if_neg (fun h => u (hnr.mp h))]
      · have hnr : nrB T c b ↔ 0 < T.2.2.1 46 b ∧ T.2.2.1 46 b < T.2.2.1 46 c := by unfold nrB; rw [if_neg o]
        rw [if_neg o, if_pos rfl, if_neg o]
        by_cases u : 0 < T.2.2.1 46 b
        · rw [if_pos u]
          by_cases v : T.2.2.1 46 b < T.2.2.1 46 c
          · rw [if_pos v, if_pos (hnr.mpr ⟨u, v⟩)]
          · rw [if_neg v, if_neg (fun h => v (hnr.mp h).2)]
        · rw [if_neg u, if_neg (fun h => u (hnr.mp h).1)]
    have hK' : K9 s.1 := hK0
    dsimp only
    rw [aLen_r k61 (by omega), Option.bind_some, if_pos ((i_lt (by omega) (by omega)).mpr hd), cXY, c_bes hK' hc hd, hB, Option.bind_some, if_pos (isK_t a1 rfl), c_out rr hb hbl, Option.bind_some, hA, Option.bind_some, hC, Option.bind_some]
    rw [if_pos ((i_ltL (by omega) (by omega)).mpr hd), if_pos hn, rdI_n (by omega) (by omega), Option.bind_some, hx, show cX c = Int32.ofNat (c % 24) from rfl, (t_nx (c := c) hd T).1, Option.bind_some, rdI_n (by omega) (by omega), Option.bind_some, hy, show cY c = Int32.ofNat (c / 24) from rfl, (t_nx (c := c) hd T).2, Option.bind_some, t_out hc hd, hB, Option.bind_some, hT1, Option.bind_some, hT2, Option.bind_some]
    have stay : (∃ x y, (some (Sum.inl (β := Sum (CS × Int32 × Int32) (Sum CS CS)) (s, Int32.ofNat d + 1))) = some (.inr x) ∧ (some (Sum.inl (β := Sum (TS × Int32 × Int32 × Int32) (Sum TS TS)) (T, Int32.ofNat d + 1))) = some (.inr y) ∧ ((x = .inr (.inl s) ∧ y = .inr (.inl T)) ∨ ∃ d s1 T1, d < 4 ∧ x = .inl (s1, (if bsd c d = 576 then -1 else Int32.ofNat (bsd c d)), (if ouT T (bsd c d) then 1 else 0)) ∧ y = .inl (T1, Int32.ofNat (c % 24) + dX d, Int32.ofNat (c / 24) + dY d, (if ouT T (bsd c d) then 1 else 0)) ∧ PsF own s s1 T T1 nl nr nd sm W e q g)) ∨ ∃ a' b', (some (Sum.inl (β := Sum (CS × Int32 × Int32) (Sum CS CS)) (s, Int32.ofNat d + 1))) = some (.inl a') ∧ (some (Sum.inl (β := Sum (TS × Int32 × Int32 × Int32) (Sum TS TS)) (T, Int32.ofNat d + 1))) = some (.inl b') ∧ s = a'.1 ∧ T = b'.1 ∧ a'.2 = Int32.ofNat (d + 1) ∧ b'.2 = Int32.ofNat (d + 1) := Or.inr ⟨_, _, rfl, rfl, rfl, rfl, i_suc d, i_suc d⟩
    by_cases hnr : ¬ nrB T c b
    · rw [if_neg hnr, if_pos rfl, if_pos rfl]
      exact stay
    replace hnr := Classical.not_not.mp hnr
    rw [if_pos hnr, if_neg (show ¬ (1 : Int32) = 0 by decide), if_neg (show ¬ (1 : Int32) = 0 by decide), t_nxC hc hd, hB, Option.bind_some]
    have htw : ∀ {A : Type} (f : Sum Unit (Sum TS (Sum (TS × Int32) (Sum (TS × Int32 × Int32 × Int32) (Sum TS TS)))) → Option A), Option.bind (if (if b = 576 then (0 : Int32) else 1) = 0 then some (.inl ()) else Option.bind (rdI T 44 576 (24 * (Int32.ofNat (c / 24) + dY d) + (Int32.ofNat (c % 24) + dX d))) (fun x11 => if x11 = 0 then some (.inl ()) else some (.inr (.inl T)))) f = f (if clB T b then .inl () else .inr (.inl T)) := fun f => by
      by_cases z : b = 576
      · rw [if_pos z, if_pos rfl, if_pos (show clB T b from Or.inl z)]; rfl
      · rw [if_neg z, if_neg (show ¬ (1 : Int32) = 0 by decide), nx_at hc hd (by rw [hB]; exact z), hB, rdI_n (by omega) (by omega), Option.bind_some]
        by_cases w : T.2.2.1 44 b = 0
        · rw [if_pos w, if_pos (show clB T b from Or.inr w)]; rfl
        · rw [if_neg w, if_neg (show ¬ clB T b from fun h => by rcases h with h | h; exact z h; exact w h)]; rfl
    rw [htw]
    by_cases hcl : ¬ clB T b
    · rw [if_neg hcl, if_neg hcl, if_pos rfl]
      exact stay
    replace hcl := Classical.not_not.mp hcl
    rw [if_pos hcl, if_pos hcl, if_neg (show ¬ (1 : Int32) = 0 by decide), xN_o (b := 172) a1 rfl rfl, Option.bind_some, i_mulL, i_add, aI_r a3 (by omega) rfl (show 4 * c + d < 2304 by omega) (by omega) rfl, Option.bind_some]
    obtain ⟨v, S', T', p1, p2, p3⟩ := ce_pass hw r hb h101 h2 hnw hcn hc hd
    rw [p1, Option.bind_some]
    simp only [Sum.elim_inl]
    rw [if_pos (isK_t a1 rfl), Option.bind_some, Option.bind_some, show t_672 (Int32.ofNat (c % 24)) (Int32.ofNat (c / 24)) (Int32.ofNat d) T = some (v, T') from p2]
    rcases p3 with ⟨rfl, rfl, rfl⟩ | ⟨rfl, p4⟩
    · exact stay
    · left
      refine ⟨_, _, rfl, rfl, Or.inr ⟨d, S', T', hd, ?_, ?_, p4⟩⟩
      · rw [hB]
      · rw [hB]
  · rintro ⟨_, _⟩ ⟨_, _⟩ ⟨rfl, rfl, rfl, rfl⟩
    refine ⟨.inr (.inl s), .inr (.inl T), ?_, ?_, Or.inl ⟨rfl, rfl⟩⟩
    · rw [aLen_r k61 (by omega), Option.bind_some, if_neg (by rw [i_lt (by omega) (by omega)]; omega)]
    · rw [if_neg (show ¬ Int32.ofNat 4 < (4 : Int32) by decide)]
end
