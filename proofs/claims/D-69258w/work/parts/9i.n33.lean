/-! the plan: the component cuts a line -/
section
variable {L : PLn} {nl : Nat} {LC LD : Nat → Nat} {b0 : Nat} {h0 : lHeap} {s : CS} {F fL ou mp SL c : Nat} {V : Nat → Nat → Prop} {ms ml : Int32} {pid nid aid : Nat → Nat → Nat} {si : Nat → Nat}
theorem CT_node (v0 : Nat) (hg : gdL L nl) (r : CT b0 h0 s L nl LC F fL ou mp SL c V ms pid nid aid si) (hc : c ≤ nP L nl) {x y : Nat} (hx : x < 25) (hy : y < 25) :
    ∃ s' pid' nid' aid', c_898 v0 F (Int32.ofNat x) (Int32.ofNat y) s = some (some (nid' x y), s') ∧ CT b0 h0 s' L nl LC F fL ou mp SL c (fun u v => V u v ∨ (u = x ∧ v = y)) ms pid' nid' aid' si ∧ (∀ u v, V u v → nid' u v = nid u v) ∧ (∀ q, q < s.2.1 → q ≠ mp → s'.1 q = s.1 q) ∧ s.2.1 ≤ s'.2.1 ∧ s'.2.2.1 ≤ s.2.2.1 + 4 ∧ s'.2.2.2 ≤ s.2.2.2 + 14 := by
  obtain ⟨hw, hb, hfr, hN, hF, hS, hsd, hij, bF, bS⟩ := r
  have mm : ∃ cm es, s.1 mp = some (true, false, 1042, .int cm :: fl es) := by obtain ⟨⟨mc, es, q, _⟩, _⟩ := hN; exact ⟨mc, es, q⟩
  obtain ⟨mc, es, hm⟩ := mm
  have bm := hN.2.2.2
  obtain ⟨s', pid', nid', aid', e1, e2, e3, e4, e5, e6, e7, e8⟩ := c_node v0 hw hN hF hb hx hy (fun hV e => by
    cases hq : lvC L nl c (x : Int) y e with
    | none => rfl
    | some k =>
      exfalso
      unfold lvC at hq
      obtain ⟨h1, h2⟩ := Option.filter_eq_some_iff.mp hq
      have h2 := of_decide_eq_true h2
      obtain ⟨g1, g2, g3, g4⟩ := lvF_some h1
      have a := sX_i hg g1
      have := (hsd k h2).2.2
      rw [show sX L nl k = x by omega, show sY L nl k = y by omega] at this
      exact hV this)
  have keep : ∀ q d, s.1 q = some d → q ≠ mp → s'.1 q = some d := fun q d h1 h2 => by rw [e5 q (wf_lt hw h1) h2]; exact h1
  refine ⟨s', pid', nid', aid', e1, ⟨e2, by omega, fun q hq => ?_, e3, keep _ _ hF (apart hF hm (by show ¬ (61 : Nat) = 1042; decide)), keep _ _ hS (apart hS hm (by show ¬ (1013 : Nat) = 1042; decide)), fun k hk => ?_, hij, bF, bS⟩, e4, e5, e6, e7, e8⟩
  · rw [e5 q (by omega) (by omega)]; exact hfr q hq
  · obtain ⟨r1, r2, r3⟩ := hsd k hk
    refine ⟨r1, ?_, Or.inl r3⟩
    rw [keep _ _ r2 (apart r2 hm (by show ¬ (65 : Nat) = 1042; decide))]
    have hb' := bkS_lt hk
    have v2 := (hsd (bkS k) hb').2.2
    have ends : sX L nl (bkS k) = eX L nl k ∧ sY L nl (bkS k) = eY L nl k := by
      obtain ⟨r, h1, h2, h3, h4, _⟩ := gS_rev (L := L) (nl := nl) (show k < 2 * nP L nl by omega)
      have : r = bkS k := h2
      rw [this] at h3 h4
      unfold sX sY eX eY
      rw [h3, h4]
      exact ⟨rfl, rfl⟩
    rw [ends.1, ends.2] at v2
    unfold sdC
    rw [e4 _ _ r3, e4 _ _ v2]
theorem CT_V {W : Nat → Nat → Prop} (r : CT b0 h0 s L nl LC F fL ou mp SL c V ms pid nid aid si) (e : ∀ x y, V x y ↔ W x y) : CT b0 h0 s L nl LC F fL ou mp SL c W ms pid nid aid si := by
  have : V = W := funext (fun x => funext (fun y => propext (e x y)))
  rw [← this]; exact r
/-- the bits of a line's cuts -/
theorem c_cuts (hg : gdL L nl) {v0 : Nat} {pf : List Value} (hw : wfS s) (hL : lnH s.1 L nl LC LD ml) (h0' : s.1 v0 = some (true, false, 67, .ref 103 :: pf)) {l : Nat} (hl : l < nl) {A : Type} (g : Nat × CS → Option A) :
    ∃ S xs, Option.bind (some (nw s 3 [.null, .int 0, .int 0])) (fun n1 => (if isK n1.2 [3] n1.1 = true then Option.bind (bsInit n1.2 n1.1) (fun s2 => (if isK s2 [3] n1.1 = true then Option.bind (bsSet s2 n1.1 0) (fun s3 => Option.bind (xI s3 [(59, 2)] (LC l)) (fun x4 => (if isK s3 [3] n1.1 = true then Option.bind (bsSet s3 n1.1 x4) (fun s5 => Option.bind (xN s5 [(67, 0)] v0) (fun a6 => (if isK s5 [13] a6 = true then Option.bind (alMc s5 a6) (fun i7 => Option.bind (wh (S := CS × Int32) (X := CS) (fun p15 => Option.bind (alHas p15.1 a6 p15.2) (fun x8 => (if x8 = 0 then some (.inr p15.1) else Option.bind (alNext p15.1 a6 i7.1 p15.2) (fun e9 => Option.bind (toN p15.1 [59] e9) (fun a10 => Option.bind ((if a10 = LC l then some p15.1 else (if nst p15.1 (.ref a10) = true then (if isK p15.1 [59] (LC l) = true then Option.bind (c_869 (LC l) a10 n1.1 p15.1) (fun x11 => some x11) else none) else none))) (fun v29 => some (.inl (v29, p15.2 + 1)))))))) (i7.2, 0)) (fun v30 => g (n1.1, v30))) else none))) else none))) else none)) else none)) = g (s.2.1, S) ∧ wfS S ∧ S.1 s.2.1 = some (true, false, 1003, xs) ∧ (∀ k, bit xs k = true ↔ k ∈ cts L nl l) ∧ (∀ q, q ≠ s.2.1 → S.1 q = s.1 q) ∧ S.2.1 = s.2.1 + 1 ∧ S.2.2.1 = s.2.2.1 + 3 ∧ S.2.2.2 = s.2.2.2 + 8 := by
  obtain ⟨l1, l2, l3⟩ := hL
  have n20 := hg.1
  obtain ⟨S1, z1, w1⟩ := nw_o (s := s) 3 [.null, .int 0, .int 0] hw
  rw [z1, Option.bind_some]
  dsimp only
  have lt103 := wf_lt hw l1
  have ltv0 := wf_lt hw h0'
  have ltl : ∀ k, k < nl → LC k < s.2.1 := fun k hk => wf_lt hw (l2 k hk)
  rw [if_pos (isK_t w1.1 rfl), bsInit_o w1.1, Option.bind_some]
  have pos0 : ∀ (S : CS) (xs : List Value) (d : Nat), S.1 s.2.1 = some (true, false, 1003, xs) → d < 60 → bsSet S s.2.1 (Int32.ofNat d) = some (cup S s.2.1 (true, false, 1003, setB xs d)) := by
    intro S xs d hB hd
    rw [bsSet_r hB (by omega)]
    have : bsG xs d = 0 := by unfold bsG; rw [if_pos (Or.inl (by omega))]
    rw [this, Nat.zero_mul]
    rfl
  have b1 : (chg (cup S1 s.2.1 (true, false, 1003, [])) 1 1).1 s.2.1 = some (true, false, 1003, []) := cup_eq ..
  have lN : pN L l ≤ 24 := by
    have := pX_le hg hl
    rcases (show pFl L l = true ∨ pFl L l = false by cases pFl L l <;> simp) with hF | hF
    · have := pHX_t hF; omega
    · have := pHX_f hF; omega
  rw [if_pos (isK_t b1 rfl), show bsSet (chg (cup S1 s.2.1 (true, false, 1003, [])) 1 1) s.2.1 0 = _ from pos0 _ _ 0 b1 (by omega), Option.bind_some]
  obtain ⟨S2, hS2⟩ : ∃ S2, S2 = cup (chg (cup S1 s.2.1 (true, false, 1003, [])) 1 1) s.2.1 (true, false, 1003, setB [] 0) := ⟨_, rfl⟩
  rw [← hS2]
  have t2 : ∀ q, q ≠ s.2.1 → S2.1 q = s.1 q := fun q hq => by rw [hS2, cup_ne hq, chg_1, cup_ne hq, w1.2.1 q hq]
  have b2 : S2.1 s.2.1 = some (true, false, 1003, setB [] 0) := by rw [hS2]; exact cup_eq ..
  have wS2 : wfS S2 := by rw [hS2]; exact wf_cup (wf_chg (wf_cup w1.2.2.2.1 (by rw [w1.2.2.1]; omega))) (by show s.2.1 < S1.2.1; rw [w1.2.2.1]; omega)
  have c2 : S2.2.1 = s.2.1 + 1 ∧ S2.2.2.1 = s.2.2.1 + 2 ∧ S2.2.2.2 = s.2.2.2 + 4 := by
    rw [hS2]
    refine ⟨w1.2.2.1, ?_, ?_⟩
    · show S1.2.2.1 + 1 = _; rw [w1.2.2.2.2.1]
    · show S1.2.2.2 + 1 = _; rw [w1.2.2.2.2.2]; rfl
  have hl2 : S2.1 (LC l) = some (lcC L LD l) := by rw [t2 _ (by have := ltl l hl; omega)]; exact l2 l hl
  rw [xI_o (x := Int32.ofNat (pN L l)) hl2 rfl rfl, Option.bind_some, if_pos (isK_t b2 rfl), pos0 _ _ _ b2 (by omega), Option.bind_some]
  obtain ⟨S3, hS3⟩ : ∃ S3, S3 = cup S2 s.2.1 (true, false, 1003, setB (setB [] 0) (pN L l)) := ⟨_, rfl⟩
  rw [← hS3]
  have t3 : ∀ q, q ≠ s.2.1 → S3.1 q = s.1 q := fun q hq => by rw [hS3, cup_ne hq, t2 q hq]
  have b3 : S3.1 s.2.1 = some (true, false, 1003, setB (setB [] 0) (pN L l)) := by rw [hS3]; exact cup_eq ..
  have wS3 : wfS S3 := by rw [hS3]; exact wf_cup wS2 (by omega)
  have hv3 : S3.1 v0 = some (true, false, 67, .ref 103 :: pf) := by rw [t3 _ (by omega)]; exact h0'
  have h103 : S3.1 103 = some (true, false, 1013, .int ml :: rowC (fun l => .ref (LC l)) nl) := by rw [t3 _ (by omega)]; exact l1
  rw [xN_o (b := 103) hv3 rfl rfl, Option.bind_some, if_pos (isK_t h103 rfl), alMc_l h103, Option.bind_some]
  dsimp only
  have key : Tr (wh (S := CS × Int32) (X := CS) (fun p15 => Option.bind (alHas p15.1 103 p15.2) (fun x8 => (if x8 = 0 then some (.inr p15.1) else Option.bind (alNext p15.1 103 ml p15.2) (fun e9 => Option.bind (toN p15.1 [59] e9) (fun a10 => Option.bind ((if a10 = LC l then some p15.1 else (if nst p15.1 (.ref a10) = true then (if isK p15.1 [59] (LC l) = true then Option.bind (c_869 (LC l) a10 s.2.1 p15.1) (fun x11 => some x11) else none) else none))) (fun v29 => some (.inl (v29, p15.2 + 1)))))))) (chg S3 1 4, 0)) (fun S => wfS S ∧ (∃ xs, S.1 s.2.1 = some (true, false, 1003, xs) ∧ ∀ k, bit xs k = true ↔ k ∈ cts L nl l) ∧ (∀ q, q ≠ s.2.1 → S.1 q = s.1 q) ∧ S.2.1 = s.2.1 + 1 ∧ S.2.2.1 = s.2.2.1 + 3 ∧ S.2.2.2 = s.2.2.2 + 8) := by
    refine wh_cnt nl (fun j a => a.2 = Int32.ofNat j ∧ wfS a.1 ∧ (∃ xs, a.1.1 s.2.1 = some (true, false, 1003, xs) ∧ ∀ k, bit xs k = true ↔ k = 0 ∨ k = pN L l ∨ ∃ m, m < j ∧ k ≤ pN L l ∧ pFl L m ≠ pFl L l ∧ onL L m (aX L l k) (aY L l k)) ∧ (∀ q, q ≠ s.2.1 → a.1.1 q = s.1 q) ∧ a.1.2.1 = s.2.1 + 1 ∧ a.1.2.2.1 = s.2.2.1 + 3 ∧ a.1.2.2.2 = s.2.2.2 + 8) ?_ ?_ ⟨rfl, wf_chg (a := 1) (b := 4) wS3, ⟨_, b3, fun k => ?_⟩, t3, ?_, ?_, ?_⟩
    · rintro j ⟨S, _⟩ hj ⟨rfl, q1, ⟨xs, q2, q3⟩, q4, q5, q6, q7⟩
      right
      dsimp only at q1 q2 q4 q5 q6 q7 ⊢
      have h103' : S.1 103 = some (true, false, 1013, .int ml :: rowC (fun l => .ref (LC l)) nl) := by rw [q4 _ (by omega)]; exact l1
      have hj' : S.1 (LC j) = some (lcC L LD j) := by rw [q4 _ (by have := ltl j hj; omega)]; exact l2 j hj
      have hl' : S.1 (LC l) = some (lcC L LD l) := by rw [q4 _ (by have := ltl l hl; omega)]; exact l2 l hl
      rw [alHas_r h103' (by omega) (by omega), if_neg (by omega)]; repeat (first | rw [Option.bind_some] | rw [Sum.elim_inl] | rw [Sum.elim_inr])
      rw [if_neg (by decide), alNext_r h103' hj (by omega)]; repeat (first | rw [Option.bind_some] | rw [Sum.elim_inl] | rw [Sum.elim_inr])
      rw [toN_o hj' rfl]; repeat (first | rw [Option.bind_some] | rw [Sum.elim_inl] | rw [Sum.elim_inr])
      rw [i_suc]
      by_cases e : j = l
      · rw [if_pos (by rw [e])]; repeat (first | rw [Option.bind_some] | rw [Sum.elim_inl] | rw [Sum.elim_inr])
        refine ⟨_, rfl, rfl, q1, ⟨xs, q2, fun k => ?_⟩, q4, q5, q6, q7⟩
        rw [q3 k]
        constructor
        · rintro (h | h | ⟨m, h1, h2⟩)
          · exact Or.inl h
          · exact Or.inr (Or.inl h)
          · exact Or.inr (Or.inr ⟨m, by omega, h2⟩)
        · rintro (h | h | ⟨m, h1, h2, h3, h4⟩)
          · exact Or.inl h
          · exact Or.inr (Or.inl h)
          · exact Or.inr (Or.inr ⟨m, by
              by_cases w : m = j
              · rw [w, e] at h3; exact absurd rfl h3
              · omega, h2, h3, h4⟩)
      · have ne : ¬ LC j = LC l := fun z => e (l3 j l hj hl z)
        rw [if_neg ne, if_pos (show nst S (.ref (LC j)) = true by show (match S.1 (LC j) with | some x => x.2.2.1 != 1000 | none => false) = true; rw [hj']; rfl), if_pos (isK_t hl' rfl)]
        obtain ⟨xs', m1, m2⟩ := c_meeL hg hl hj (fun z => e z.symm) hl' hj' q2 ((q3 0).mpr (Or.inl rfl)) ((q3 _).mpr (Or.inr (Or.inl rfl)))
        rw [m1]; repeat (first | rw [Option.bind_some] | rw [Sum.elim_inl] | rw [Sum.elim_inr])
        refine ⟨_, rfl, rfl, wf_cup q1 (by omega), ⟨xs', cup_eq .., fun k => ?_⟩, fun q hq => (cup_ne hq).trans (q4 q hq), q5, q6, q7⟩
        rw [m2 k, q3 k]
        constructor
        · rintro ((h | h | ⟨m, h1, h2⟩) | h)
          · exact Or.inl h
          · exact Or.inr (Or.inl h)
          · exact Or.inr (Or.inr ⟨m, by omega, h2⟩)
          · exact Or.inr (Or.inr ⟨j, by omega, h⟩)
        · rintro (h | h | ⟨m, h1, h2⟩)
          · exact Or.inl (Or.inl h)
          · exact Or.inl (Or.inr (Or.inl h))
          · by_cases w : m = j
            · rw [w] at h2; exact Or.inr h2
            · exact Or.inl (Or.inr (Or.inr ⟨m, by omega, h2⟩))
    · rintro ⟨S, _⟩ ⟨rfl, q1, ⟨xs, q2, q3⟩, q4, q5, q6, q7⟩
      dsimp only at q1 q2 q4 q5 q6 q7 ⊢
      have h103' : S.1 103 = some (true, false, 1013, .int ml :: rowC (fun l => .ref (LC l)) nl) := by rw [q4 _ (by omega)]; exact l1
      refine ⟨S, by rw [alHas_r h103' (by omega) (by omega), if_pos rfl, Option.bind_some, if_pos rfl], q1, ⟨xs, q2, fun k => ?_⟩, q4, q5, q6, q7⟩
      rw [q3 k, cts_i hg hl]
      constructor
      · rintro (h | h | ⟨m, h1, h2, h3⟩)
        · exact Or.inl h
        · exact Or.inr (Or.inl h)
        · exact Or.inr (Or.inr ⟨h2, m, h1, h3⟩)
      · rintro (h | h | ⟨h2, m, h1, h3⟩)
        · exact Or.inl h
        · exact Or.inr (Or.inl h)
        · exact Or.inr (Or.inr ⟨m, h1, h2, h3⟩)
    · rw [bit_setB, bit_setB]
      have e0 : bit [] k = false := bit_len (Nat.zero_le _)
      by_cases h1 : k = pN L l
      · rw [if_pos h1]; exact ⟨fun _ => Or.inr (Or.inl h1), fun _ => rfl⟩
      · rw [if_neg h1]
        by_cases h2 : k = 0
        · rw [if_pos h2]; exact ⟨fun _ => Or.inl h2, fun _ => rfl⟩
        · rw [if_neg h2, e0]
          refine ⟨fun z => (by cases z), ?_⟩
          rintro (h | h | ⟨m, h3, _⟩)
          · exact absurd h h2
          · exact absurd h h1
          · omega
    · show S3.2.1 = _; rw [hS3]; exact c2.1
    · show S3.2.2.1 + 1 = _; rw [hS3]; show S2.2.2.1 + 1 = _; omega
    · show S3.2.2.2 + 4 = _; rw [hS3]; show S2.2.2.2 + 4 = _; omega
  obtain ⟨S, e, q1, ⟨xs, q2, q3⟩, q4, q5, q6, q7⟩ := key
  rw [e, Option.bind_some]
  exact ⟨S, xs, rfl, q1, q2, q3, q4, q5, q6, q7⟩
end
