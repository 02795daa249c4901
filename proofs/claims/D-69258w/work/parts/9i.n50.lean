/-! the plan: a finding in the component, up to the sorting -/
section
variable {L : PLn} {nl nr : Nat} {st ln : Nat → Nat} {lab : Int → Int → Int} {LC LD : Nat → Nat} {s : CS} {ml : Int32} {h0 : lHeap}
theorem c_foundN (hw : wfS s) {A : Type} (g : Nat → CS → Option A) : ∃ S, Option.bind (some (nw s 61 [.null, .null, .null, .int 0])) (fun n7 => (if isK n7.2 [61] n7.1 = true then Option.bind (c_872 n7.1 n7.2) (fun x8 => g n7.1 x8) else none)) = g s.2.1 S ∧ S.1 s.2.1 = some (true, false, 61, [.ref (s.2.1 + 1), .ref (s.2.1 + 2), .ref (s.2.1 + 4), .int 0]) ∧ S.1 (s.2.1 + 1) = some (true, false, 1013, [.int 0]) ∧ S.1 (s.2.1 + 2) = some (true, false, 62, [.int (-1), .null, .ref (s.2.1 + 3), .int 0]) ∧ S.1 (s.2.1 + 3) = some (true, false, 1013, [.int 0]) ∧ S.1 (s.2.1 + 4) = some (true, false, 1042, [.int 0]) ∧ (∀ a, a < s.2.1 → S.1 a = s.1 a) ∧ S.2.1 = s.2.1 + 5 ∧ wfS S ∧ S.2.2.1 = s.2.2.1 + 5 ∧ S.2.2.2 = s.2.2.2 + 23 := by
  obtain ⟨S1, e1, w1⟩ := nw_o (s := s) 61 [.null, .null, .null, .int 0] hw
  rw [e1, Option.bind_some]
  dsimp only
  rw [if_pos (isK_t w1.1 rfl)]
  unfold c_872
  have q1 : S1.2.1 = s.2.1 + 1 := w1.2.2.1
  obtain ⟨S2, e2, w2⟩ := nw_o (s := S1) 13 [.int 0, .null, .int 0] w1.2.2.2.1
  rw [e2, Option.bind_some]
  rw [if_pos (isK_t w2.1 rfl), alInit_o w2.1, Option.bind_some]
  have q2 : S2.2.1 = s.2.1 + 2 := by rw [w2.2.2.1, q1]
  have h1 : (cup S2 S1.2.1 (true, false, 1013, [.int 0])).1 s.2.1 = some (true, false, 61, [.null, .null, .null, .int 0]) := by rw [cup_ne (by omega), w2.2.1 _ (by omega)]; exact w1.1
  rw [xP_c (fs' := [.ref S1.2.1, .null, .null, .int 0]) h1 rfl (by simp) rfl, Option.bind_some]
  obtain ⟨S3, hS3⟩ : ∃ S3, S3 = cup (cup S2 S1.2.1 (true, false, 1013, [.int 0])) s.2.1 (true, false, 61, [.ref S1.2.1, .null, .null, .int 0]) := ⟨_, rfl⟩
  rw [← hS3]
  have t3 : ∀ a, a < s.2.1 → S3.1 a = s.1 a := fun a ha => by rw [hS3, cup_ne (by omega), cup_ne (by omega), w2.2.1 a (by omega), w1.2.1 a (by omega)]
  have f3 : S3.1 s.2.1 = some (true, false, 61, [.ref S1.2.1, .null, .null, .int 0]) := by rw [hS3, cup_eq]
  have g3 : S3.1 S1.2.1 = some (true, false, 1013, [.int 0]) := by rw [hS3, cup_ne (by omega), cup_eq]
  have wS3 : wfS S3 := by rw [hS3]; exact wf_cup (wf_cup w2.2.2.2.1 (by omega)) (by show s.2.1 < S2.2.1; omega)
  have c3 : S3.2.1 = s.2.1 + 2 ∧ S3.2.2.1 = s.2.2.1 + 2 ∧ S3.2.2.2 = s.2.2.2 + 7 := by
    rw [hS3]
    refine ⟨q2, ?_, ?_⟩
    · show S2.2.2.1 = _; rw [w2.2.2.2.2.1, w1.2.2.2.2.1]
    · show S2.2.2.2 = _; rw [w2.2.2.2.2.2, w1.2.2.2.2.2]; rfl
  obtain ⟨S4, e4, w4⟩ := nw_o (s := S3) 62 [.int 0, .null, .null, .int 0] wS3
  rw [e4, Option.bind_some]
  rw [if_pos (isK_t w4.1 rfl)]
  unfold c_874
  have q4 : S4.2.1 = s.2.1 + 3 := by rw [w4.2.2.1, c3.1]
  obtain ⟨S5, e5, w5⟩ := nw_o (s := S4) 13 [.int 0, .null, .int 0] w4.2.2.2.1
  rw [e5, Option.bind_some]
  rw [if_pos (isK_t w5.1 rfl), alInit_o w5.1, Option.bind_some]
  have q5 : S5.2.1 = s.2.1 + 4 := by rw [w5.2.2.1, q4]
  have h5 : (cup S5 S4.2.1 (true, false, 1013, [.int 0])).1 S3.2.1 = some (true, false, 62, [.int 0, .null, .null, .int 0]) := by rw [cup_ne (by omega), w5.2.1 _ (by omega)]; exact w4.1
  rw [xP_c (fs' := [.int 0, .null, .ref S4.2.1, .int 0]) h5 rfl (by simp) rfl, Option.bind_some, xP_c (fs' := [.int (-1), .null, .ref S4.2.1, .int 0]) (cup_eq ..) rfl (by simp) rfl, cupU, Option.bind_some, show vR none = Value.null from rfl, xP_c (fs' := [.int (-1), .null, .ref S4.2.1, .int 0]) (cup_eq ..) rfl (by simp) rfl, cupU, Option.bind_some, Option.bind_some]
  obtain ⟨S6, hS6⟩ : ∃ S6, S6 = cup (cup S5 S4.2.1 (true, false, 1013, [.int 0])) S3.2.1 (true, false, 62, [.int (-1), .null, .ref S4.2.1, .int 0]) := ⟨_, rfl⟩
  rw [← hS6]
  have t6 : ∀ a, a < s.2.1 + 2 → S6.1 a = S3.1 a := fun a ha => by rw [hS6, cup_ne (by omega), cup_ne (by omega), w5.2.1 a (by omega), w4.2.1 a (by omega)]
  have a6 : S6.1 (s.2.1 + 2) = some (true, false, 62, [.int (-1), .null, .ref (s.2.1 + 3), .int 0]) := by rw [hS6, ← c3.1, cup_eq, q4]
  have b6 : S6.1 (s.2.1 + 3) = some (true, false, 1013, [.int 0]) := by rw [hS6, cup_ne (by omega), ← q4, cup_eq]
  have wS6 : wfS S6 := by rw [hS6]; exact wf_cup (wf_cup w5.2.2.2.1 (by omega)) (by show S3.2.1 < S5.2.1; omega)
  have c6 : S6.2.1 = s.2.1 + 4 ∧ S6.2.2.1 = s.2.2.1 + 4 ∧ S6.2.2.2 = s.2.2.2 + 14 := by
    rw [hS6]
    refine ⟨q5, ?_, ?_⟩
    · show S5.2.2.1 = _; rw [w5.2.2.2.2.1, w4.2.2.2.2.1]; omega
    · show S5.2.2.2 = _; rw [w5.2.2.2.2.2, w4.2.2.2.2.2, c3.2.2]; rfl
  have f6 : S6.1 s.2.1 = some (true, false, 61, [.ref S1.2.1, .null, .null, .int 0]) := by rw [t6 _ (by omega)]; exact f3
  rw [xP_c (fs' := [.ref S1.2.1, .ref S3.2.1, .null, .int 0]) f6 rfl (by simp) rfl, Option.bind_some]
  obtain ⟨S7, hS7⟩ : ∃ S7, S7 = cup S6 s.2.1 (true, false, 61, [.ref S1.2.1, .ref S3.2.1, .null, .int 0]) := ⟨_, rfl⟩
  rw [← hS7]
  have wS7 : wfS S7 := by rw [hS7]; exact wf_cup wS6 (by omega)
  have c7 : S7.2 = S6.2 := by rw [hS7]; rfl
  obtain ⟨S8, e8, w8⟩ := nw_o (s := S7) 42 [.null, .null, .null, .null, .int 0, .int 0, .null, .null, .null] wS7
  rw [e8, Option.bind_some]
  rw [if_pos (isK_t w8.1 rfl), tmInit_o w8.1, Option.bind_some]
  have q7 : S7.2.1 = s.2.1 + 4 := by rw [c7]; exact c6.1
  have h9 : (cup S8 S7.2.1 (true, false, 1042, [.int 0])).1 s.2.1 = some (true, false, 61, [.ref S1.2.1, .ref S3.2.1, .null, .int 0]) := by rw [cup_ne (by omega), w8.2.1 _ (by omega), hS7, cup_eq]
  rw [xP_c (fs' := [.ref S1.2.1, .ref S3.2.1, .ref S7.2.1, .int 0]) h9 rfl (by simp) rfl, Option.bind_some, Option.bind_some]
  have t9 : ∀ a, a ≠ s.2.1 → a ≠ S7.2.1 → a < S7.2.1 → (cup (cup S8 S7.2.1 (true, false, 1042, [.int 0])) s.2.1 (true, false, 61, [.ref S1.2.1, .ref S3.2.1, .ref S7.2.1, .int 0])).1 a = S6.1 a := fun a h1 h2 h3 => by rw [cup_ne h1, cup_ne h2, w8.2.1 a (by omega), hS7, cup_ne h1]
  refine ⟨_, rfl, ?_, ?_, ?_, ?_, ?_, fun a ha => ?_, ?_, wf_cup (wf_cup w8.2.2.2.1 (by rw [w8.2.2.1]; omega)) (by show s.2.1 < S8.2.1; rw [w8.2.2.1]; omega), ?_, ?_⟩
  · rw [cup_eq, q1, c3.1, q7]
  · rw [t9 _ (by omega) (by omega) (by omega), t6 _ (by omega), ← q1]; exact g3
  · rw [t9 _ (by omega) (by omega) (by omega)]; exact a6
  · rw [t9 _ (by omega) (by omega) (by omega)]; exact b6
  · rw [cup_ne (by omega), ← q7, cup_eq]
  · rw [t9 _ (by omega) (by omega) (by omega), t6 _ (by omega), t3 a ha]
  · show S8.2.1 = _; rw [w8.2.2.1, q7]
  · show S8.2.2.1 = _; rw [w8.2.2.2.2.1, c7]; omega
  · show S8.2.2.2 = _; rw [w8.2.2.2.2.2, c7, c6.2.2]; rfl
theorem CT_0 (hw : wfS s) {F fL ou mp SL b0 : Nat} {pid nid aid : Nat → Nat → Nat} {si : Nat → Nat} (hF : s.1 F = some (true, false, 61, [.ref fL, .ref ou, .ref mp, .int 0])) (hm : s.1 mp = some (true, false, 1042, [.int 0])) (hS : s.1 SL = some (true, false, 1013, [.int 0])) (hb : b0 ≤ F ∧ b0 ≤ SL ∧ b0 ≤ mp) (hfr : ∀ q, q < b0 → s.1 q = h0 q) : CT b0 h0 s L nl LC F fL ou mp SL (off L nl 0) (VL L nl 0) 0 pid nid aid si := by
  have z : ∀ x y, ¬ VL L nl 0 x y := by rintro x y ⟨m, d, h, _⟩; exact absurd h (Nat.not_lt_zero _)
  refine ⟨hw, by have := wf_lt hw hF; omega, hfr, ⟨⟨0, [], hm, ⟨fun _ => none, ⟨List.Pairwise.nil, fun e he => (by cases he), fun z v hz => (by cases hz)⟩, fun x y _ _ h => absurd h (z x y), fun x y _ _ _ => rfl⟩, fun v hv => (by cases hv)⟩, fun x y h => absurd h (z x y), fun x y u v h => absurd h (z x y), hb.2.2⟩, hF, hS, fun k hk => absurd hk (Nat.not_lt_zero _), fun j k hj => absurd hj (Nat.not_lt_zero _), hb.1, hb.2.1⟩
end
