/-! cells: through a door, both sides -/
section
variable {own : Nat → Nat} {s S : CS} {t T : TS} {nl nr nd sm : Nat} {W : Nat → Nat} {e q g wn : Nat → Int32} {sc : Nat → Nat}
/-- counters of doors and persons change -/
theorem R9_sw {h h' : lHeap} {sc' : Nat → Nat} {wn' : Nat → Int32} {nw' : Nat} (r : R9x h t nl nr nd sm W e q g wn sc) (hh : ∀ a c, a ≠ 177 → a ≠ 178 → h a = some c → h' a = some c) (h1 : T.1 = t.1) (h3 : ∀ c, ¬ (24 ≤ c ∧ c ≤ 29) → c ≠ 48 → c ≠ 49 → T.2.2.1 c = t.2.2.1 c) (h7 : h' 177 = some (true, true, 0, rowC (fun j => .int (Int32.ofNat (sc' j))) 120)) (h8 : h' 178 = some (true, true, 0, rowC (fun j => .int (wn' j)) 120)) (h2 : t.1 2 = Int32.ofNat nw') (hnw : nw' ≤ 6000) (hsc : ∀ j, j < 120 → sc' j ≤ nw') : R9x h' T nl nr nd sm W e q g wn' sc' := by
  obtain ⟨⟨a1, a2, a3, ⟨mc, a4⟩, a5, a6, a7, a8⟩, ⟨s1, ⟨ys, s2, s3, s4⟩, s5⟩, v, w, b, u⟩ := r
  refine ⟨⟨by rw [h1]; exact hh _ _ (by omega) (by omega) a1, by rw [h3 47 (by omega) (by omega) (by omega)]; exact hh _ _ (by omega) (by omega) a2, hh _ _ (by omega) (by omega) a3, ⟨mc, hh _ _ (by omega) (by omega) a4⟩, hh _ _ (by omega) (by omega) a5, hh _ _ (by omega) (by omega) a6, h7, h8⟩, ⟨s1, ⟨ys, hh _ _ (by omega) (by omega) s2, s3, by rw [h3 44 (by omega) (by omega) (by omega)]; exact s4⟩, by rw [h3 44 (by omega) (by omega) (by omega)]; exact s5⟩, by rw [h1]; exact v, ⟨nw', by rw [h1]; exact h2, hnw, hsc⟩, fun z => ?_, fun z => by rw [h3 46 (by omega) (by omega) (by omega)]; exact u (by rw [← h1]; exact z)⟩
  obtain ⟨b1, b2, b3, b4, b5, b6, b7⟩ := b (by rw [← h1]; exact z)
  unfold C9b lns nmC at *
  rw [h1, h3 54 (by omega) (by omega) (by omega), h3 47 (by omega) (by omega) (by omega), h3 46 (by omega) (by omega) (by omega)]
  refine ⟨b1, b2, b3, b4, b5, b6, fun c d hc hd => edgR_cg (b7 c d hc hd) (fun a c hc ha => hh a c (fun z => ?_) (fun z => ?_) ha) (fun c hc => h3 c (by simp at hc; omega) (by simp at hc; omega) (by simp at hc; omega))⟩
  · rw [z, a7] at ha
    rw [← Option.some.inj ha] at hc
    exact absurd hc (by show ¬ (0 : Nat) = 1013; decide)
  · rw [z, a8] at ha
    rw [← Option.some.inj ha] at hc
    exact absurd hc (by show ¬ (0 : Nat) = 1013; decide)
theorem ce_pass {nw' : Nat} (hw : wfS S) (r : R9x (rs S.1 own 9) T nl nr nd sm W e q g wn sc) (hb : T.1 1 ≠ 0) (h101 : S.1 101 = some (true, false, 56, [.int (T.1 2)])) (h2 : T.1 2 = Int32.ofNat nw') (hnw : nw' ≤ 6000) (hc : cntR T wn sc) {c d : Nat} (hc' : c < 576) (hd : d < 4) : ∃ v S' T', c_554 170 (e (4 * c + d)) S = some (v, S') ∧ t_672 (cX c) (cY c) (Int32.ofNat d) T = some (v, T') ∧ ((v = 0 ∧ S' = S ∧ T' = T) ∨ (v = 1 ∧ ∃ wn' sc', R9x (rs S'.1 own 9) T' nl nr nd sm W e q g wn' sc' ∧ cntR T' wn' sc' ∧ (∀ a, a ≠ 177 → a ≠ 178 → S'.1 a = S.1 a) ∧ S'.2 = S.2 ∧ wfS S' ∧ T'.1 = T.1 ∧ (∀ c, c ≠ 48 → T'.2.2.1 c = T.2.2.1 c) ∧ (∀ Z, Z ≠ 9 → rt T' Z = rt T Z))) := by
  have rr := R9_raw r
  obtain ⟨b1, b2, b3, b4, b5, b6, b7⟩ := rr.2.2.2.2.1 hb
  obtain ⟨c1, c2⟩ := c_pas rr hb h101 hc hc' hd
  obtain ⟨t1, t2⟩ := t_thr b1 hd (cX c) (cY c)
  rcases lnb_o T d (cX c) (cY c) nl with z | ⟨l, hl, z⟩
  · exact ⟨1, S, T, c1 z, t1 z, Or.inr ⟨rfl, wn, sc, r, hc, fun _ _ _ => rfl, rfl, hw, rfl, fun _ _ => rfl, fun _ _ => rfl⟩⟩
  · obtain ⟨c3, c4⟩ := c2 l hl z
    obtain ⟨t3, t4⟩ := t2 l hl z
    cases hf : fdD T l (cX c) (cY c) with
    | none => exact ⟨0, S, T, c4 hf, t4 hf, Or.inl ⟨rfl, rfl, rfl⟩⟩
    | some i =>
      obtain ⟨hi, c5⟩ := c3 i hf
      have o7 := rs_in r.1.2.2.2.2.2.2.1
      have o8 := rs_in r.1.2.2.2.2.2.2.2
      have T3 : ∀ d j, (wrI T 48 i (T.2.2.1 48 i + 1)).2.2.1 d j = if d = 48 ∧ j = i then T.2.2.1 48 i + 1 else T.2.2.1 d j := fun d j => rfl
      have T3' : ∀ d, d ≠ 48 → (wrI T 48 i (T.2.2.1 48 i + 1)).2.2.1 d = T.2.2.1 d := fun d hd => funext (fun j => by rw [T3, if_neg (fun h => hd h.1)])
      have l7 := wf_lt hw o7.1
      have l8 := wf_lt hw o8.1
      have w1 : wfS (cup S 177 (true, true, 0, rowC (fun j => .int (if j = i then T.1 2 else Int32.ofNat (sc j))) 120)) := wf_cup hw l7
      obtain ⟨nw2, g1, g2, g3⟩ := rr.2.2.2.1
      refine ⟨1, _, _, c5, t3 i hf, Or.inr ⟨rfl, fun j => if j = i then T.2.2.1 48 i + 1 else wn j, fun j => if j = i then nw' else sc j, R9_sw (nw' := nw') r (fun a c h5 h6 h7 => rs_keep hw (fun _ _ => rfl) h7 ((cup_ne h6).trans (cup_ne h5))) rfl (fun c _ h6 _ => T3' c h6) ?_ ?_ h2 hnw ?_, ?_, fun a h5 h6 => (cup_ne h6).trans (cup_ne h5), rfl, wf_cup w1 l8, rfl, T3', fun Z hZ => rt_wrI (by show (9 : Nat) ≠ Z; omega)⟩⟩
      · refine rs_some.mpr ⟨o7.2, (cup_ne (by omega)).trans ((cup_eq ..).trans ?_)⟩
        refine congrArg (fun l => some (true, true, 0, l)) (rowC_congr (fun j _ => ?_))
        by_cases w : j = i
        · rw [if_pos w, if_pos w, h2]
        · rw [if_neg w, if_neg w]
      · exact rs_some.mpr ⟨o8.2, cup_eq ..⟩
      · intro j hj
        show (if j = i then nw' else sc j) ≤ nw'
        split
        · exact Nat.le_refl _
        · rw [h2] at g1
          rw [(i_inj (by omega) (by omega)).mp g1]
          exact g3 j hj
      · intro j hj
        show (if Int32.ofNat (if j = i then nw' else sc j) = T.1 2 then (if j = i then T.2.2.1 48 i + 1 else wn j) else 0) = (if (48 : Nat) = 48 ∧ j = i then T.2.2.1 48 i + 1 else T.2.2.1 48 j)
        by_cases w : j = i
        · simp only [w, if_true, and_true]
          rw [if_pos h2.symm]
        · simp only [w, if_false, and_false]
          exact hc j hj
end
