/-! the plan: edges of two findings in the component -/
theorem edX_pt {L : PLn} {nl x : Nat} : x ∈ edX L nl ↔ ∃ y, isPt L nl x y := by
  constructor
  · intro h
    obtain ⟨l, hl, h | h⟩ := edX_mem.mp h
    · have := (cts_mem.mp (cts_0 (L := L) hl)).2
      rw [show aX L l 0 = pX L l by unfold aX; split <;> rfl, ← h] at this
      exact ⟨_, this⟩
    · have := (cts_mem.mp (cts_N (L := L) hl)).2
      rw [show aX L l (pN L l) = pHX L l from rfl, ← h] at this
      exact ⟨_, this⟩
  · rintro ⟨y, h⟩; exact (pt_xy h).1
theorem edY_pt {L : PLn} {nl y : Nat} : y ∈ edY L nl ↔ ∃ x, isPt L nl x y := by
  constructor
  · intro h
    obtain ⟨l, hl, h | h⟩ := edY_mem.mp h
    · have := (cts_mem.mp (cts_0 (L := L) hl)).2
      rw [show aY L l 0 = pY L l by unfold aY; split <;> rfl, ← h] at this
      exact ⟨_, this⟩
    · have := (cts_mem.mp (cts_N (L := L) hl)).2
      rw [show aY L l (pN L l) = pHY L l from rfl, ← h] at this
      exact ⟨_, this⟩
  · rintro ⟨x, h⟩; exact (pt_xy h).2
def coP (v : Int32) (x y : Nat) : Nat := if v = 0 then y else x
section
variable {s : CS} {M B : Nat} {mc : Int32} {es : List (Value × Value)} {xs : List Value} {v : Int32}
theorem c_edg1 (hw : wfS s) (hM : s.1 M = some (true, false, 1042, .int mc :: fl es)) (hB : s.1 B = some (true, false, 1003, xs)) (hk : ∀ w ∈ es.map Prod.fst, ∃ a x y, w = .ref a ∧ x < 25 ∧ y < 25 ∧ s.1 a = some (poC x y)) (hc : s.2.2.1 < 4000000000) :
    Tr (wh (S := CS × Nat) (X := CS) (fun p9 => Option.bind (tmIHas p9.1 M mc p9.2) (fun x6 => (if x6 = 0 then some (.inr p9.1) else Option.bind (tmNx p9.1 M mc p9.2) (fun u7 => Option.bind ((if v = 0 then Option.bind (tmKey p9.1 M mc p9.2) (fun e8 => Option.bind (toN p9.1 [63] e8) (fun a9 => Option.bind (xI p9.1 [(63, 1)] a9) (fun x10 => some x10))) else Option.bind (tmKey p9.1 M mc p9.2) (fun e11 => Option.bind (toN p9.1 [63] e11) (fun a12 => Option.bind (xI p9.1 [(63, 0)] a12) (fun x13 => some x13))))) (fun v28 => (if isK p9.1 [3] B = true then Option.bind (bsSet p9.1 B v28) (fun s14 => some (.inl (s14, p9.2 + 1))) else none)))))) (s, 0)) (fun s' => wfS s' ∧ (∃ xs', s'.1 B = some (true, false, 1003, xs') ∧ ∀ k, bit xs' k = true ↔ bit xs k = true ∨ ∃ a x y, Value.ref a ∈ es.map Prod.fst ∧ x < 25 ∧ y < 25 ∧ s.1 a = some (poC x y) ∧ k = coP v x y) ∧ (∀ q, q ≠ B → s'.1 q = s.1 q) ∧ s'.2 = s.2) := by
  have nMB : M ≠ B := apart hM hB (by show ¬ (1042 : Nat) = 1003; decide)
  have ltB := wf_lt hw hB
  refine wh_cnt es.length (fun i a => a.2 = i ∧ wfS a.1 ∧ (∃ xs', a.1.1 B = some (true, false, 1003, xs') ∧ ∀ k, bit xs' k = true ↔ bit xs k = true ∨ ∃ j, j < i ∧ ∃ a x y, (es.map Prod.fst)[j]? = some (Value.ref a) ∧ x < 25 ∧ y < 25 ∧ s.1 a = some (poC x y) ∧ k = coP v x y) ∧ (∀ q, q ≠ B → a.1.1 q = s.1 q) ∧ a.1.2 = s.2) ?_ ?_ ⟨rfl, hw, ⟨xs, hB, fun k => ⟨Or.inl, fun z => z.elim id (by rintro ⟨j, hj, _⟩; exact absurd hj (Nat.not_lt_zero _))⟩⟩, fun _ _ => rfl, rfl⟩
  · rintro _ ⟨U, i⟩ hi ⟨rfl, u1, ⟨xs', u2, u3⟩, u4, u5⟩
    right
    dsimp only at hi u1 u2 u3 u4 u5 ⊢
    have uM : U.1 M = _ := (u4 M nMB).trans hM
    have uc : U.2.2.1 < 4000000000 := by rw [u5]; exact hc
    obtain ⟨a, x, y, e1, hx, hy, e2⟩ := hk es[i].1 (List.mem_map.mpr ⟨es[i], List.getElem_mem hi, rfl⟩)
    have na : a ≠ B := apart e2 hB (by show ¬ (63 : Nat) = 1003; decide)
    have ua : U.1 a = some (poC x y) := (u4 a na).trans e2
    rw [tmIHas_l uM uc, if_pos hi]; repeat (first | rw [Option.bind_some] | rw [Sum.elim_inl] | rw [Sum.elim_inr])
    rw [if_neg (by decide), tmNx_l uM uc hi]; repeat (first | rw [Option.bind_some] | rw [Sum.elim_inl] | rw [Sum.elim_inr])
    rw [tmKey_l uM uc hi, e1]; repeat (first | rw [Option.bind_some] | rw [Sum.elim_inl] | rw [Sum.elim_inr])
    rw [toN_o ua rfl]; repeat (first | rw [Option.bind_some] | rw [Sum.elim_inl] | rw [Sum.elim_inr])
    rw [xI_o (x := Int32.ofNat y) ua rfl rfl, xI_o (x := Int32.ofNat x) ua rfl rfl]; repeat (first | rw [Option.bind_some] | rw [Sum.elim_inl] | rw [Sum.elim_inr])
    have ev : (if v = 0 then some (Int32.ofNat y) else some (Int32.ofNat x)) = some (Int32.ofNat (coP v x y)) := by
      unfold coP
      by_cases z : v = 0
      · rw [if_pos z, if_pos z]
      · rw [if_neg z, if_neg z]
    have cb : coP v x y < 25 := by unfold coP; split <;> omega
    rw [ev]; repeat (first | rw [Option.bind_some] | rw [Sum.elim_inl] | rw [Sum.elim_inr])
    rw [if_pos (isK_t u2 rfl), bsSet_r u2 (by omega)]; repeat (first | rw [Option.bind_some] | rw [Sum.elim_inl] | rw [Sum.elim_inr])
    have b0 : bsG xs' (coP v x y) = 0 := by unfold bsG; rw [if_pos (Or.inl (by omega))]
    rw [b0, Nat.zero_mul]
    refine ⟨_, rfl, rfl, wf_chg (wf_cup u1 (by rw [u5]; exact ltB)), ⟨_, cput_eq .., fun k => ?_⟩, fun q hq => (cput_ne hq).trans (u4 q hq), u5⟩
    rw [bit_setB]
    have gi : (es.map Prod.fst)[i]? = some (Value.ref a) := by rw [List.getElem?_map, List.getElem?_eq_getElem hi, Option.map_some, e1]
    by_cases z : k = coP v x y
    · rw [if_pos z]
      exact ⟨fun _ => Or.inr ⟨i, by omega, a, x, y, gi, hx, hy, e2, z⟩, fun _ => rfl⟩
    · rw [if_neg z, u3 k]
      constructor
      · rintro (h | ⟨j, hj, h⟩)
        · exact Or.inl h
        · exact Or.inr ⟨j, by omega, h⟩
      · rintro (h | ⟨j, hj, a', x', y', h1, b1, b2, h2, h3⟩)
        · exact Or.inl h
        · by_cases e : j = i
          · exfalso
            rw [e, gi] at h1
            have h1 := Value.ref.inj (Option.some.inj h1)
            rw [← h1, e2] at h2
            have h2 := Option.some.inj h2
            unfold poC at h2
            simp only [Prod.mk.injEq, List.cons.injEq, Value.int.injEq, true_and, and_true] at h2
            have e3 := (i_inj (by omega) (by omega)).mp h2.1
            have e4 := (i_inj (by omega) (by omega)).mp h2.2
            apply z
            rw [h3, e3, e4]
          · exact Or.inr ⟨j, by omega, a', x', y', h1, b1, b2, h2, h3⟩
  · rintro ⟨U, _⟩ ⟨rfl, u1, ⟨xs', u2, u3⟩, u4, u5⟩
    dsimp only at u1 u2 u3 u4 u5 ⊢
    have uM : U.1 M = _ := (u4 M nMB).trans hM
    have uc : U.2.2.1 < 4000000000 := by rw [u5]; exact hc
    refine ⟨U, by rw [tmIHas_l uM uc, if_neg (Nat.lt_irrefl _), Option.bind_some, if_pos rfl], u1, ⟨xs', u2, fun k => ?_⟩, u4, u5⟩
    rw [u3 k]
    constructor
    · rintro (h | ⟨j, hj, a, x, y, h1, h2⟩)
      · exact Or.inl h
      · exact Or.inr ⟨a, x, y, List.mem_of_getElem? h1, h2⟩
    · rintro (h | ⟨a, x, y, h1, h2⟩)
      · exact Or.inl h
      · obtain ⟨j, hj, e⟩ := List.getElem_of_mem h1
        exact Or.inr ⟨j, by simpa using hj, a, x, y, by rw [List.getElem?_eq_getElem hj, e], h2⟩
end
