/-! the plan: the component's sides of a piece -/
theorem c_sid {s : CS} {g line fr to d a p : Nat} {f : Nat → Value} (h0 : s.1 g = some (true, false, 65, [.null, .null, .null, .int 0, .null, .null])) (h1 : s.1 fr = some (true, false, 64, [.ref p, .ref a])) (h2 : s.1 a = some (true, true, 7, rowC f 4)) (hd : d < 4) : c_882 g line fr to (Int32.ofNat d) s = some (cup (cup s g (true, false, 65, [.ref line, .ref fr, .ref to, .int (Int32.ofNat d), .null, .null])) a (true, true, 7, rowC (fun j => if j = d then .ref g else f j) 4)) := by
  unfold c_882
  have n1 : fr ≠ g := apart h1 h0 (by show ¬ (64 : Nat) = 65; decide)
  have n2 : a ≠ g := apart h2 h0 (by show ¬ (7 : Nat) = 65; decide)
  rw [xP_c (fs' := [.ref line, .null, .null, .int 0, .null, .null]) h0 rfl (by simp) rfl]; repeat (first | rw [Option.bind_some] | rw [Sum.elim_inl] | rw [Sum.elim_inr])
  rw [xP_c (fs' := [.ref line, .ref fr, .null, .int 0, .null, .null]) (cup_eq ..) rfl (by simp) rfl, cupU]; repeat (first | rw [Option.bind_some] | rw [Sum.elim_inl] | rw [Sum.elim_inr])
  rw [xP_c (fs' := [.ref line, .ref fr, .ref to, .int 0, .null, .null]) (cup_eq ..) rfl (by simp) rfl, cupU]; repeat (first | rw [Option.bind_some] | rw [Sum.elim_inl] | rw [Sum.elim_inr])
  rw [xP_c (fs' := [.ref line, .ref fr, .ref to, .int (Int32.ofNat d), .null, .null]) (cup_eq ..) rfl (by simp) rfl, cupU]; repeat (first | rw [Option.bind_some] | rw [Sum.elim_inl] | rw [Sum.elim_inr])
  have h1' : (cup s g (true, false, 65, [.ref line, .ref fr, .ref to, .int (Int32.ofNat d), .null, .null])).1 fr = some (true, false, 64, [.ref p, .ref a]) := (cup_ne n1).trans h1
  have h2' : (cup s g (true, false, 65, [.ref line, .ref fr, .ref to, .int (Int32.ofNat d), .null, .null])).1 a = some (true, true, 7, rowC f 4) := (cup_ne n2).trans h2
  rw [xN_o (b := a) h1' rfl rfl]; repeat (first | rw [Option.bind_some] | rw [Sum.elim_inl] | rw [Sum.elim_inr])
  rw [aPutR_r h2' (by omega) hd (by omega) (by
    show (match kdo _ g with | some k => raTab.contains (7, k) | none => false) = true
    unfold kdo
    rw [cup_eq]
    rfl)]; repeat (first | rw [Option.bind_some] | rw [Sum.elim_inl] | rw [Sum.elim_inr])
  rfl
section
variable {L : PLn} {nl : Nat}
theorem sX_i (hg : gdL L nl) {s : Nat} (hs : s < 2 * nP L nl) : gx0 (gS L nl) s = (sX L nl s : Nat) ∧ gy0 (gS L nl) s = (sY L nl s : Nat) ∧ gx1 (gS L nl) s = (eX L nl s : Nat) ∧ gy1 (gS L nl) s = (eY L nl s : Nat) ∧ sX L nl s < 25 ∧ sY L nl s < 25 ∧ eX L nl s < 25 ∧ eY L nl s < 25 := by
  obtain ⟨x, y, u, v, h1, h2, h3, h4, h5, h6⟩ := gS_pts hs
  have a := pt_lt hg h5
  have b := pt_lt hg h6
  unfold sX sY eX eY
  rw [h1, h2, h3, h4]
  exact ⟨rfl, rfl, rfl, rfl, a.1, a.2, b.1, b.2⟩
/-- a side's ends are the ends of its piece -/
theorem gS_even {p : Nat} (hp : p < nP L nl) : sX L nl (2 * p) = aX L (kL L nl p) (kAn L nl p) ∧ sY L nl (2 * p) = aY L (kL L nl p) (kAn L nl p) ∧ eX L nl (2 * p) = aX L (kL L nl p) (kB L nl p) ∧ eY L nl (2 * p) = aY L (kL L nl p) (kB L nl p) ∧ gdr (gS L nl) (2 * p) = (if pFl L (kL L nl p) = true then 0 else 1) ∧ sX L nl (2 * p + 1) = aX L (kL L nl p) (kB L nl p) ∧ sY L nl (2 * p + 1) = aY L (kL L nl p) (kB L nl p) ∧ eX L nl (2 * p + 1) = aX L (kL L nl p) (kAn L nl p) ∧ eY L nl (2 * p + 1) = aY L (kL L nl p) (kAn L nl p) ∧ gdr (gS L nl) (2 * p + 1) = (if pFl L (kL L nl p) = true then 2 else 3) := by
  unfold sX sY eX eY gx0 gy0 gx1 gy1 gdr gS
  rw [if_pos (show 2 * p % 2 = 0 by omega), if_neg (show ¬ (2 * p + 1) % 2 = 0 by omega), show 2 * p / 2 = p by omega, show (2 * p + 1) / 2 = p by omega]
  exact ⟨rfl, rfl, rfl, rfl, rfl, rfl, rfl, rfl, rfl, rfl⟩
theorem lvC_succ (hg : gdL L nl) {c : Nat} (hc : c < nP L nl) (x y e : Nat) : lvC L nl (c + 1) x y e = if x = sX L nl (2 * c) ∧ y = sY L nl (2 * c) ∧ e = gdr (gS L nl) (2 * c) then some (2 * c) else if x = sX L nl (2 * c + 1) ∧ y = sY L nl (2 * c + 1) ∧ e = gdr (gS L nl) (2 * c + 1) then some (2 * c + 1) else lvC L nl c x y e := by
  have a0 := sX_i hg (show 2 * c < 2 * nP L nl by omega)
  have a1 := sX_i hg (show 2 * c + 1 < 2 * nP L nl by omega)
  by_cases h0 : x = sX L nl (2 * c) ∧ y = sY L nl (2 * c) ∧ e = gdr (gS L nl) (2 * c)
  · rw [if_pos h0]
    unfold lvC
    rw [lv_cut hg (show 2 * c < 2 * nP L nl by omega) ⟨by rw [a0.1, h0.1], by rw [a0.2.1, h0.2.1], h0.2.2.symm⟩, Option.filter_some, if_pos (by rw [decide_eq_true_eq]; omega)]
  · rw [if_neg h0]
    by_cases h1 : x = sX L nl (2 * c + 1) ∧ y = sY L nl (2 * c + 1) ∧ e = gdr (gS L nl) (2 * c + 1)
    · rw [if_pos h1]
      unfold lvC
      rw [lv_cut hg (show 2 * c + 1 < 2 * nP L nl by omega) ⟨by rw [a1.1, h1.1], by rw [a1.2.1, h1.2.1], h1.2.2.symm⟩, Option.filter_some, if_pos (by rw [decide_eq_true_eq]; omega)]
    · rw [if_neg h1]
      unfold lvC
      cases hv : lvF L nl x y e with
      | none => rfl
      | some s =>
        obtain ⟨g1, g2, g3, g4⟩ := lvF_some hv
        have n0 : s ≠ 2 * c := fun z => h0 ⟨by rw [z, a0.1] at g2; omega, by rw [z, a0.2.1] at g3; omega, by rw [z] at g4; omega⟩
        have n1 : s ≠ 2 * c + 1 := fun z => h1 ⟨by rw [z, a1.1] at g2; omega, by rw [z, a1.2.1] at g3; omega, by rw [z] at g4; omega⟩
        rw [Option.filter_some, Option.filter_some]
        by_cases z : s < 2 * c
        · rw [if_pos (by rw [decide_eq_true_eq]; omega), if_pos (by rw [decide_eq_true_eq]; omega)]
        · rw [if_neg (by rw [decide_eq_true_eq]; omega), if_neg (by rw [decide_eq_true_eq]; omega)]
end
