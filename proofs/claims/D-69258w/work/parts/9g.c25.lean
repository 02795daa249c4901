/-! cells: the component's exits, one look -/
/-- the numbers and the queue so far -/
def SpQ (s0 s : CS) (g : Nat → Int32) (L : List Nat) (A : Nat) : Prop := s.1 175 = some (true, true, 0, rowC (fun c => .int (g c)) 576) ∧ s.1 A = some (true, false, 1004, rowC (fun j => .int (Int32.ofNat (L.getD j 0))) L.length) ∧ (∀ a, a ≠ 175 → a ≠ A → s.1 a = s0.1 a) ∧ s.2.1 = s0.2.1 ∧ wfS s ∧ s.2.2.1 ≤ s0.2.2.1 + 2 * L.length ∧ s.2.2.2 ≤ s0.2.2.2 + 1200 * L.length
section
variable {s s0 : CS} {t : TS} {nl nr nd sm : Nat} {W : Nat → Nat} {e q g0 wn : Nat → Int32} {sc : Nat → Nat}
theorem SpQ_p {A : Nat} {g : Nat → Int32} {L : List Nat} (r : C9p s0.1 t nl nr nd sm W e q g0 wn sc) (hA : 179 ≤ A) (hA4 : ∀ c, s0.1 A = some c → c.2.2.1 = 1004) (h : SpQ s0 s g L A) : C9p s.1 t nl nr nd sm W e q g wn sc := C9p_put r hA4 (fun a c h1 h2 h3 => (h.2.2.1 a h1 h2).trans h3) h.1 (by omega)
/-- a cell gets a number and goes to the queue's end -/
theorem SpQ_add {A c : Nat} {g : Nat → Int32} {L : List Nat} {v : Int32} (hA : 179 ≤ A) (h : SpQ s0 s g L A) (hc : c < 576) (hl : L.length < 577) : ∃ s', Option.bind (aPut s 0 175 (Int32.ofNat c) (.int v)) (fun s14 => Option.bind (some (chg s14 1 1)) (fun s15 => (if isK s15 [4] A = true then Option.bind (adAdd s15 A (.int (Int32.ofNat c))) (fun s16 => some s16) else none))) = some s' ∧ SpQ s0 s' (fun j => if j = c then v else g j) (L ++ [c]) A := by
  obtain ⟨h1, h2, h3, h4, h5, h6, h7⟩ := h
  have hA5 : ∀ x, (chg (cup s 175 x) 1 1).1 A = some (true, false, 1004, rowC (fun j => .int (Int32.ofNat (L.getD j 0))) L.length) := fun x => (cup_ne (by omega)).trans h2
  have hA6 : ∀ x, (chg (cup s 175 x) 1 1).1 175 = some x := fun x => (chg_1 (cup s 175 x) 1 1).symm ▸ cup_eq s 175 x
  rw [aPut_r h1 hc (by omega), Option.bind_some, Option.bind_some, if_pos (isK_t (hA5 _) rfl), adAdd_r (v := .int (Int32.ofNat c)) (hA5 _) (by omega) (by simp) elO_i, Option.bind_some]
  have l175 := wf_lt h5 h1
  have lA := wf_lt h5 h2
  refine ⟨_, rfl, (cput_ne (by omega)).trans ((hA6 _).trans ?_), (cput_eq ..).trans ?_, fun a g1 g2 => (cput_ne g2).trans ((cup_ne g1).trans (h3 a g1 g2)), h4, wf_cup (wf_chg (wf_cup h5 l175)) lA, ?_, ?_⟩
  · refine congrArg (fun l => some (true, true, 0, l)) (rowC_congr (fun j _ => ?_))
    dsimp only
    by_cases w : j = c
    · rw [if_pos w, if_pos w]
    · rw [if_neg w, if_neg w]
  · rw [List.length_append]
    refine congrArg (fun l => some (true, false, 1004, l)) (rowC_congr (fun j hj => ?_))
    by_cases w : j = L.length
    · rw [if_pos w, w]
      simp [List.getD]
    · have : j < L.length := by omega
      rw [if_neg w]
      simp [List.getD, List.getElem?_append_left this]
  · rw [List.length_append]
    show s.2.2.1 + 1 + adG L.length ≤ _
    have := adG_le L.length
    simp only [List.length_singleton]
    omega
  · rw [List.length_append]
    show s.2.2.2 + 1 + adG L.length * (2 * L.length + 40) ≤ _
    have := adG_le L.length
    simp only [List.length_singleton]
    omega
end
