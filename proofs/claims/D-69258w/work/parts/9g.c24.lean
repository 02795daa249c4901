/-! cells: the component's exits -/
/-- the cells before their numbers are known -/
def C9p (h : lHeap) (t : TS) (nl nr nd sm : Nat) (W : Nat → Nat) (e q g wn : Nat → Int32) (sc : Nat → Nat) : Prop := C9a h t nd sm W e q g wn sc ∧ lns t nl ∧ t.1 9 = Int32.ofNat nr ∧ nr ≤ 40 ∧ (∀ c, c < 576 → t.2.2.1 47 c = -1 ∨ bel (t.2.2.1 47 c) nr) ∧ nd ≤ 2304 ∧ ∀ c d, c < 576 → d < 4 → edgR h t nl nd W q (e (4 * c + d)) c d
section
variable {s s0 : CS} {t : TS} {nl nr nd sm : Nat} {W : Nat → Nat} {e q g wn : Nat → Int32} {sc : Nat → Nat}
theorem p_out (r : C9p s.1 t nl nr nd sm W e q g wn sc) {b : Nat} (h : b ≤ 576) : by classical exact (c_542 170 (if b = 576 then -1 else Int32.ofNat b) s = some (if ouT t b then 1 else 0)) := by
  classical
  obtain ⟨⟨a1, a2, _⟩, b1, b2, b3, b4, _⟩ := r
  unfold c_542
  by_cases z : b = 576
  · rw [if_pos z, if_pos rfl, if_pos (show ouT t b from Or.inl z)]
  · rw [if_neg z, if_neg (i_ne1 (by omega)), xN_o (b := 171) a1 rfl rfl]; repeat (first | rw [Option.bind_some] | rw [Sum.elim_inl] | rw [Sum.elim_inr])
    rw [aI_r a2 (by omega) rfl (show b < 576 by omega) (by omega) rfl]; repeat (first | rw [Option.bind_some] | rw [Sum.elim_inl] | rw [Sum.elim_inr])
    rcases b4 b (by omega) with w | ⟨v, hv, w⟩
    · rw [if_pos w, if_pos (show ouT t b from Or.inr (by rw [w]; decide))]
    · rw [if_neg (by rw [w]; exact i_ne1 (by omega)), if_neg (show ¬ ouT t b from fun u => by
        rcases u with u | u
        · exact z u
        · rw [w] at u; exact i_nlt0 (by omega) u)]
/-- numbers and the queue change, all else stays -/
theorem C9p_put {h h' : lHeap} {A : Nat} {g' : Nat → Int32} (r : C9p h t nl nr nd sm W e q g wn sc) (hA : ∀ c, h A = some c → c.2.2.1 = 1004) (hh : ∀ a c, a ≠ 175 → a ≠ A → h a = some c → h' a = some c) (h5 : h' 175 = some (true, true, 0, rowC (fun c => .int (g' c)) 576)) (hA2 : ¬ (170 ≤ A ∧ A ≤ 178)) : C9p h' t nl nr nd sm W e q g' wn sc := by
  obtain ⟨⟨a1, a2, a3, ⟨mc, a4⟩, a5, a6, a7, a8⟩, b1, b2, b3, b4, b5, b6⟩ := r
  refine ⟨⟨hh _ _ (by omega) (by omega) a1, hh _ _ (by omega) (by omega) a2, hh _ _ (by omega) (by omega) a3, ⟨mc, hh _ _ (by omega) (by omega) a4⟩, hh _ _ (by omega) (by omega) a5, h5, hh _ _ (by omega) (by omega) a7, hh _ _ (by omega) (by omega) a8⟩, b1, b2, b3, b4, b5, fun c d hc hd => edgR_cg (b6 c d hc hd) (fun a c hc ha => hh a c (fun z => ?_) (fun z => ?_) ha) (fun _ _ => rfl)⟩
  · rw [z, a6] at ha
    rw [← Option.some.inj ha] at hc
    exact absurd hc (by show ¬ (0 : Nat) = 1013; decide)
  · have := hA c (by rw [← z]; exact ha)
    omega
end
