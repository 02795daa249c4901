/-! cells: fire, cell -/
theorem setB_len (xs : List Value) (g : Nat) : (setB xs g).length = max xs.length (g + 1) := by
  unfold setB
  by_cases h : g < xs.length
  · rw [if_pos h, List.length_set]; omega
  · rw [if_neg h]; simp; omega
theorem setB_last {xs : List Value} {g : Nat} (h : xs.length = 0 ∨ bit xs (xs.length - 1) = true) : (setB xs g).length = 0 ∨ bit (setB xs g) ((setB xs g).length - 1) = true := by
  right
  rw [setB_len, bit_setB]
  by_cases z : max xs.length (g + 1) - 1 = g
  · rw [if_pos z]
  · rw [if_neg z]
    rcases h with h | h
    · omega
    · rw [show max xs.length (g + 1) - 1 = xs.length - 1 by omega]; exact h
section
variable {own : Nat → Nat} {s : CS} {t : TS} {nl nr nd sm : Nat} {W : Nat → Nat} {e q g wn : Nat → Int32} {sc : Nat → Nat}
theorem R9_pt {h : lHeap} (r : R9x h t nl nr nd sm W e q g wn sc) (v : Int32) : R9x h (ptI t 0 v) nl nr nd sm W e q g wn sc := R9x_cg r (fun _ _ h => h) rfl rfl rfl (rt_ptI (by decide)) (fun _ => rt_ptI (by decide))
theorem R9x_ex {h : lHeap} (r : R9x h t nl nr nd sm W e q g wn sc) : R9 h t := ⟨nl, nr, nd, sm, W, e, q, g, wn, sc, r⟩
/-- smoke comes to a cell -/
theorem R9_smk {h h' : lHeap} {T : TS} {sm' : Nat} {xs : List Value} (r : R9x h t nl nr nd sm W e q g wn sc) (hh : ∀ a c, a ≠ 170 → a ≠ sm → h a = some c → h' a = some c) (h170 : h' 170 = some (true, false, 50, [.ref 101, .int (t.1 1), .ref 171, .ref 172, .ref 173, .ref 174, .ref 175, .ref sm', .ref 177, .ref 178])) (hs : sm' = 176 ∨ 179 ≤ sm') (hx : h' sm' = some (true, false, 1003, xs)) (hl : xs.length = 0 ∨ bit xs (xs.length - 1) = true) (hb : ∀ c, bit xs c = true ↔ c < 576 ∧ T.2.2.1 44 c = 1) (hv : ∀ c, c < 576 → v01 (T.2.2.1 44 c)) (h1 : ∀ c, c ≠ 0 → T.1 c = t.1 c) (h3 : ∀ c, c ≠ 44 → c ≠ 45 → T.2.2.1 c = t.2.2.1 c) : R9x h' T nl nr nd sm' W e q g wn sc := by
  obtain ⟨⟨a1, a2, a3, ⟨mc, a4⟩, a5, a6, a7, a8⟩, ⟨s1, ⟨ys, s2, s3, s4⟩, s5⟩, v, w, b, u⟩ := r
  have ns : sm = 176 ∨ 179 ≤ sm := s1
  refine ⟨⟨by rw [h1 1 (by omega)]; exact h170, by rw [h3 47 (by omega) (by omega)]; exact hh _ _ (by omega) (by omega) a2, hh _ _ (by omega) (by omega) a3, ⟨mc, hh _ _ (by omega) (by omega) a4⟩, hh _ _ (by omega) (by omega) a5, hh _ _ (by omega) (by omega) a6, hh _ _ (by omega) (by omega) a7, hh _ _ (by omega) (by omega) a8⟩, ⟨hs, ⟨xs, hx, hl, hb⟩, hv⟩, by rw [h1 1 (by omega)]; exact v, by rw [h1 2 (by omega)]; exact w, fun z => ?_, fun z => by rw [h3 46 (by omega) (by omega)]; exact u (by rw [← h1 1 (by omega)]; exact z)⟩
  obtain ⟨b1, b2, b3, b4, b5, b6, b7⟩ := b (by rw [← h1 1 (by omega)]; exact z)
  unfold C9b lns nmC at *
  rw [h1 100 (by omega), h3 54 (by omega) (by omega), h1 9 (by omega), h3 47 (by omega) (by omega), h3 46 (by omega) (by omega)]
  refine ⟨b1, b2, b3, b4, b5, b6, fun c d hc hd => edgR_cg (b7 c d hc hd) (fun a c hc ha => hh a c (fun z => ?_) (fun z => ?_) ha) (fun c hc => h3 c (by simp at hc; omega) (by simp at hc; omega))⟩
  · rw [z, a1] at ha
    rw [← Option.some.inj ha] at hc
    exact absurd hc (by show ¬ (50 : Nat) = 1013; decide)
  · rw [z, s2] at ha
    rw [← Option.some.inj ha] at hc
    exact absurd hc (by show ¬ (1003 : Nat) = 1013; decide)
theorem cel_in {v1 v2 : Int32} (h : inB v1 24 = true ∧ inB v2 24 = true) : ∃ c, c < 576 ∧ v1 = cX c ∧ v2 = cY c ∧ 24 * v2 + v1 = Int32.ofNat c := by
  obtain ⟨x, hx, rfl⟩ := inB_nat (n := 24) (by omega) h.1
  obtain ⟨y, hy, rfl⟩ := inB_nat (n := 24) (by omega) h.2
  refine ⟨24 * y + x, by omega, congrArg _ (by omega), congrArg _ (by omega), ?_⟩
  rw [i_mulL, i_add]
theorem ce_fire (hw : wfS s) (r : R9 (rs s.1 own 9) t) (v1 v2 : Int32) : Rg thr0 (fun X => X = 9) 9 (fun H t => R9 (H 9) t) own s t 1 20 (c_545 170 v1 v2 s) (t_660 v1 v2 t) := by
  obtain ⟨nl, nr, nd, sm, W, e, q, g, wn, sc, r⟩ := r
  have hR := R9x_ex r
  have qq := R9_raw r
  obtain ⟨⟨a1, _⟩, ⟨s1, ⟨xs, s2, s3, s4⟩, s5⟩, vb, _⟩ := qq
  unfold c_545 t_660
  rw [c_isC, t_isC]; repeat (first | rw [Option.bind_some] | rw [Sum.elim_inl] | rw [Sum.elim_inr])
  rw [need_eq]
  by_cases hb : inB v1 24 = true ∧ inB v2 24 = true
  · rw [if_pos hb, if_neg (show ¬ (1 : Int32) = 0 by decide)]; repeat (first | rw [Option.bind_some] | rw [Sum.elim_inl] | rw [Sum.elim_inr])
    rw [xI_o (x := t.1 1) a1 rfl rfl]; repeat (first | rw [Option.bind_some] | rw [Sum.elim_inl] | rw [Sum.elim_inr])
    rw [may_eq]
    rcases vb with z | z
    · rw [z, if_pos rfl, goes_2]; repeat (first | rw [Option.bind_some] | rw [Sum.elim_inl] | rw [Sum.elim_inr] | rw [if_neg (show ¬ (1 : Int32) = 0 by decide)] | rw [if_pos (show (0 : Int32) = 0 from rfl)] | rw [if_pos (show true = true from rfl)] | rw [if_neg (show ¬ false = true by decide)] | dsimp only)
      exact Rg.sta (x := 0) (a := 0) (b := 0) hw hR rfl rfl (by omega) (by omega)
    · rw [goes_1 t (by rw [z]; decide), z, if_neg (show ¬ (1 : Int32) = 0 by decide)]; repeat (first | rw [Option.bind_some] | rw [Sum.elim_inl] | rw [Sum.elim_inr] | rw [if_neg (show ¬ (1 : Int32) = 0 by decide)] | rw [if_pos (show (0 : Int32) = 0 from rfl)] | rw [if_pos (show true = true from rfl)] | rw [if_neg (show ¬ false = true by decide)] | dsimp only)
      obtain ⟨c, hc, rfl, rfl, ec⟩ := cel_in hb
      rw [xN_o (b := sm) a1 rfl rfl, ec]; repeat (first | rw [Option.bind_some] | rw [Sum.elim_inl] | rw [Sum.elim_inr])
      rw [if_pos (isK_t s2 rfl), bsGet_r s2 (by omega)]; repeat (first | rw [Option.bind_some] | rw [Sum.elim_inl] | rw [Sum.elim_inr])
      rw [if_pos (isK_t s2 rfl), bsSet_r s2 (by omega), rdI_n (by omega) (by omega), stI_n (by omega) (by omega)]; repeat (first | rw [Option.bind_some] | rw [Sum.elim_inl] | rw [Sum.elim_inr])
      have hbc : bit xs c = true ↔ t.2.2.1 44 c = 1 := by rw [s4]; exact ⟨fun h => h.2, fun h => ⟨hc, h⟩⟩
      have ob := rs_in (r.2.1.2.1.choose_spec.1)
      have oa := rs_in r.1.1
      have T3 : ∀ d j, (wrI (ptI t 0 0) 44 c ((1 : Int32) &&& 1)).2.2.1 d j = if d = 44 ∧ j = c then 1 else t.2.2.1 d j := fun d j => rfl
      have hz : (if (if bit xs c = true then (1 : Int32) else 0) = 0 then some (Sum.inl (β := Nat × CS) ((1 : Int32), cput s 1003 sm (bsG xs c) (bsG xs c * (2 * (c / 64) + 2)) (setB xs c))) else some (.inl (0, cput s 1003 sm (bsG xs c) (bsG xs c * (2 * (c / 64) + 2)) (setB xs c)))) = some (.inl (if t.2.2.1 44 c = 0 then 1 else 0, cput s 1003 sm (bsG xs c) (bsG xs c * (2 * (c / 64) + 2)) (setB xs c))) := by
        rcases s5 c hc with w | w
        · have nb : ¬ bit xs c = true := fun h => by have := hbc.mp h; rw [w] at this; exact absurd this (by decide)
          rw [w, if_neg nb, if_pos rfl, if_pos rfl]
        · rw [w, if_pos (hbc.mpr w), if_neg (by decide), if_neg (by decide)]
      have hz2 : ∀ {A : Type} (f : Int32 → Option A), Option.bind (if (ptI t 0 0).2.2.1 44 c = 0 then some (1 : Int32) else some 0) f = f (if t.2.2.1 44 c = 0 then 1 else 0) := fun f => by
        show Option.bind (if t.2.2.1 44 c = 0 then some (1 : Int32) else some 0) f = _
        split <;> rfl
      rw [hz, hz2, Option.bind_some, if_pos (show (if t.2.2.1 44 c = 0 then (1 : Int32) else 0) = 0 ∨ (if t.2.2.1 44 c = 0 then (1 : Int32) else 0) = 1 by split <;> simp)]
      refine Or.inl ⟨_, _, wrI (ptI t 0 0) 44 c ((1 : Int32) &&& 1), own, rfl, rfl, rfl, fun Z h4 h9 => by rw [rt_wrI (by show (9 : Nat) ≠ Z; omega), ptI_rt h9], frm_cput hw (wf_lt hw s2) ob.2, R9x_ex (R9_smk (sm' := sm) (xs := setB xs c) r (fun a k h5 h6 h7 => rs_keep hw (fun _ _ => rfl) h7 (cput_ne h6)) ?_ s1 ?_ (setB_last s3) (fun k => ?_) (fun k hk => ?_) (fun k hk => if_neg hk) (fun k h5 h6 => funext (fun j => by rw [T3, if_neg (fun w => h5 w.1)]))), ?_, ?_⟩
      · exact rs_keep hw (fun _ _ => rfl) r.1.1 (cput_ne (by omega))
      · exact rs_some.mpr ⟨ob.2, cput_eq ..⟩
      · rw [bit_setB, T3]
        by_cases w : k = c
        · rw [if_pos w, if_pos ⟨rfl, w⟩]
          exact ⟨fun _ => ⟨by omega, rfl⟩, fun _ => rfl⟩
        · rw [if_neg w, if_neg (fun u => w u.2)]; exact s4 k
      · rw [T3]
        split
        · exact Or.inr rfl
        · exact s5 k hk
      · have := (bsG_le xs c).1
        show s.2.2.1 + bsG xs c ≤ _
        omega
      · have := (bsG_le xs c).2
        show s.2.2.2 + bsG xs c * (2 * (c / 64) + 2) ≤ _
        omega
  · rw [if_neg hb, if_pos rfl, goes_0]; repeat (first | rw [Option.bind_some] | rw [Sum.elim_inl] | rw [Sum.elim_inr] | rw [if_neg (show ¬ (1 : Int32) = 0 by decide)] | rw [if_pos (show (0 : Int32) = 0 from rfl)] | rw [if_pos (show true = true from rfl)] | rw [if_neg (show ¬ false = true by decide)] | dsimp only)
    exact Rg.arg (x := 0) (a := 0) (b := 0) hw hR rfl rfl (by omega) (by omega)
end
