/-! the plan in the reference: what an old space and a new one have in common -/
theorem sm_sg (f : Nat → Int) (d : Nat) : gsm f [d] = f d := Int.add_zero _
theorem i_addI (a b : Int) : Int32.ofInt a + Int32.ofInt b = Int32.ofInt (a + b) := (Int32.ofInt_add a b).symm
theorem ofI_eq {z : Int} {s : Nat} (h1 : -1 ≤ z) (h2 : z < 1000) (hs : s < 2147483648) : Int32.ofInt z = Int32.ofNat s ↔ z = s := by
  constructor
  · intro h
    by_cases e : z = -1
    · rw [e] at h
      exact absurd h.symm (i_ne1 hs)
    · obtain ⟨n, rfl⟩ : ∃ n : Nat, z = n := ⟨z.toNat, by omega⟩
      rw [i_ofI] at h
      have := (i_inj (by omega) hs).mp h
      omega
  · intro h; rw [h, i_ofI]
/-- labels are small -/
def lbW (lab : Int → Int → Int) : Prop := ∀ i j, -1 ≤ lab i j ∧ lab i j < 1000
theorem LabN.w {L : PLn} {nl nr : Nat} {st ln : Nat → Nat} {lab : Int → Int → Int} (hg : gdL L nl) (h : RF L nl nr st ln) (hn : nr ≤ nP L nl) (hL : LabN L nl nr st ln lab) : lbW lab := by
  intro i j
  have hN := nP_le hg
  have := spn_le (L := L) (nl := nl) (st := st) (ln := ln) nr
  rcases hL.lt hg h i j with z | ⟨n, z, w⟩ <;> omega
theorem t_shd {a b c d : Nat} (ha : a < 1000) (hb : b < 1000) (hc : c < 1000) (hd : d < 1000) (T : TS) : t_706 (Int32.ofNat a) (Int32.ofNat b) (Int32.ofNat c) (Int32.ofNat d) T = some (Int32.ofNat (shF a b c d)) := by
  unfold t_706 shF
  have e1 : (if Int32.ofNat c < Int32.ofNat a then some (Int32.ofNat a) else some (Int32.ofNat c)) = some (Int32.ofNat (max a c)) := by
    by_cases z : c < a
    · rw [if_pos ((i_lt (by omega) (by omega)).mpr z), Nat.max_eq_left (by omega)]
    · rw [if_neg (fun w => z ((i_lt (by omega) (by omega)).mp w)), Nat.max_eq_right (by omega)]
  have e2 : (if Int32.ofNat b < Int32.ofNat d then some (Int32.ofNat b) else some (Int32.ofNat d)) = some (Int32.ofNat (min b d)) := by
    by_cases z : b < d
    · rw [if_pos ((i_lt (by omega) (by omega)).mpr z), Nat.min_eq_left (by omega)]
    · rw [if_neg (fun w => z ((i_lt (by omega) (by omega)).mp w)), Nat.min_eq_right (by omega)]
  rw [e1]; repeat (first | rw [Option.bind_some] | rw [Sum.elim_inl] | rw [Sum.elim_inr])
  rw [e2]; repeat (first | rw [Option.bind_some] | rw [Sum.elim_inl] | rw [Sum.elim_inr])
  by_cases z : max a c < min b d
  · rw [if_pos ((i_lt (by omega) (by omega)).mpr z), i_sub (by omega)]
  · rw [if_neg (fun w => z ((i_lt (by omega) (by omega)).mp w)), show min b d - max a c = 0 by omega]; rfl
section
variable {L Lo : PLn} {nl no : Nat} {lab labo : Int → Int → Int} {T : TS} {ps : List Nat}
/-- the plan before -/
def TOl (T : TS) (Lo : PLn) (no : Nat) (labo : Int → Int → Int) : Prop := T.1 119 = Int32.ofNat (edX Lo no).length ∧ T.1 120 = Int32.ofNat (edY Lo no).length ∧ rwR T 61 (edX Lo no) ∧ rwR T 62 (edY Lo no) ∧ ∀ i j, T.2.2.1 63 (gOf Lo no i j) = Int32.ofInt (labo i j)
theorem lb_g (hg : gdL L nl) (h : ∀ i j, T.2.2.1 60 (gOf L nl i j) = Int32.ofInt (lab i j)) {c r : Nat} (hc : c + 1 < (edX L nl).length) (hr : r + 1 < (edY L nl).length) : rdI T 60 1764 (42 * Int32.ofNat (r + 1) + Int32.ofNat (c + 1)) = some (Int32.ofInt (lab (rep (edX L nl) (c + 1)) (rep (edY L nl) (r + 1)))) := by
  have n1 := edX_len hg (Nat.le_refl nl)
  have n2 := edY_len hg (Nat.le_refl nl)
  rw [i_mulL, i_add]
  exact lb_at h n1 n2 (colO_rep (edX_pw L nl) (by omega)) (colO_rep (edY_pw L nl) (by omega))
theorem lb_go (hg : gdL Lo no) (h : ∀ i j, T.2.2.1 63 (gOf Lo no i j) = Int32.ofInt (labo i j)) {c r : Nat} (hc : c + 1 < (edX Lo no).length) (hr : r + 1 < (edY Lo no).length) : rdI T 63 1764 (42 * Int32.ofNat (r + 1) + Int32.ofNat (c + 1)) = some (Int32.ofInt (labo (rep (edX Lo no) (c + 1)) (rep (edY Lo no) (r + 1)))) := by
  have n1 := edX_len hg (Nat.le_refl no)
  have n2 := edY_len hg (Nat.le_refl no)
  have := h (rep (edX Lo no) (c + 1)) (rep (edY Lo no) (r + 1))
  unfold gOf at this
  rw [colO_rep (edX_pw Lo no) (by omega), colO_rep (edY_pw Lo no) (by omega)] at this
  rw [i_mulL, i_add, rdI_n (by omega) (by omega), this]
theorem row_k {c : Nat} {xs : List Nat} (h : rwR T c xs) (hl : xs.length ≤ 25) {k : Nat} (hk : k < xs.length) : rdI T c 40 (Int32.ofNat k) = some (Int32.ofNat (xs.getD k 0)) := by rw [rdI_n (by omega) (by omega), h k hk]
theorem t_common (hg : gdL L nl) (G : gLab (gS L nl) (2 * nP L nl) lab) (ho : lab (-1) (-1) = -1) (hw : lbW lab) (hT : edR T L nl) (hL : lbR T L nl lab) (hgo : gdL Lo no) (Go : gLab (gS Lo no) (2 * nP Lo no) labo) (hoo : labo (-1) (-1) = -1) (hwo : lbW labo) (hO : TOl T Lo no labo) {o s : Nat} (hs : s < 1000) (hoN : o < 1000) : t_705 (Int32.ofNat o) (Int32.ofNat s) T = some (Int32.ofInt (cmA labo lab o s)) := by
  have n1 := edX_len hg (Nat.le_refl nl)
  have n2 := edY_len hg (Nat.le_refl nl)
  have m1 := edX_len hgo (Nat.le_refl no)
  have m2 := edY_len hgo (Nat.le_refl no)
  obtain ⟨o1, o2, o3, o4, o5⟩ := hO
  rw [← cmA_sum hg G ho hgo Go hoo o s]
  unfold t_705
  refine tr_eq (Tr.bd (P := fun v => v = _) (wh_cnt ((edY L nl).length - 1) (fun r (a : Int32 × Int32) => a.2 = Int32.ofNat (r + 1) ∧ a.1 = Int32.ofInt (gsm (fun r => gsm (fun c => gsm (fun q => gsm (fun d => if lab (rep (edX L nl) (c + 1)) (rep (edY L nl) (r + 1)) = s ∧ labo (rep (edX Lo no) (d + 1)) (rep (edY Lo no) (q + 1)) = o then (shF ((edY L nl).getD r 0) ((edY L nl).getD (r + 1) 0) ((edY Lo no).getD q 0) ((edY Lo no).getD (q + 1) 0) : Int) * (shF ((edX L nl).getD c 0) ((edX L nl).getD (c + 1) 0) ((edX Lo no).getD d 0) ((edX Lo no).getD (d + 1) 0) : Int) else 0) (List.range ((edX Lo no).length - 1))) (List.range ((edY Lo no).length - 1))) (List.range ((edX L nl).length - 1))) (List.range r))) ?_ ?_ ⟨rfl, rfl⟩) (fun v hv => Tr.ok hv))
  · rintro r ⟨A, _⟩ hr ⟨rfl, hA⟩
    right
    dsimp only at hA ⊢
    rw [hT.2.1, if_pos ((i_lt (by omega) (by omega)).mpr (by omega))]
    have key : Tr (wh (S := Int32 × Int32) (X := Int32) (fun p10 => (if p10.2 < (T.1 112) then Option.bind (wh (S := Int32 × Int32) (X := Int32) (fun p16 => (if p16.2 < (T.1 120) then Option.bind (rdI T 60 1764 ((42 * Int32.ofNat (r + 1)) + p10.2)) (fun x1 => (if x1 = Int32.ofNat s then Option.bind (rdI T 59 40 (Int32.ofNat (r + 1) - 1)) (fun x2 => Option.bind (rdI T 59 40 (Int32.ofNat (r + 1))) (fun x3 => Option.bind (rdI T 62 40 (p16.2 - 1)) (fun x4 => Option.bind (rdI T 62 40 p16.2) (fun x5 => Option.bind (t_706 x2 x3 x4 x5 T) (fun x6 => Option.bind (wh (S := Int32 × Int32) (X := Int32) (fun p54 => (if p54.2 < (T.1 119) then (if 0 < x6 then Option.bind (rdI T 63 1764 ((42 * p16.2) + p54.2)) (fun x7 => Option.bind ((if x7 = Int32.ofNat o then Option.bind (rdI T 58 40 (p10.2 - 1)) (fun x8 => Option.bind (rdI T 58 40 p10.2) (fun x9 => Option.bind (rdI T 61 40 (p54.2 - 1)) (fun x10 => Option.bind (rdI T 61 40 p54.2) (fun x11 => Option.bind (t_706 x8 x9 x10 x11 T) (fun x12 => some (x6 * x12)))))) else some 0)) (fun v96 => some (.inl (p54.1 + v96, p54.2 + 1)))) else some (.inr p54.1)) else some (.inr p54.1))) (p16.1, 1)) (fun v100 => some (.inl (v100, p16.2 + 1)))))))) else some (.inr p16.1))) else some (.inr p16.1))) (p10.1, 1)) (fun v102 => some (.inl (v102, p10.2 + 1))) else some (.inr p10.1))) (A, 1)) (fun v => v = A + Int32.ofInt (gsm (fun c => gsm (fun q => gsm (fun d => if lab (rep (edX L nl) (c + 1)) (rep (edY L nl) (r + 1)) = s ∧ labo (rep (edX Lo no) (d + 1)) (rep (edY Lo no) (q + 1)) = o then (shF ((edY L nl).getD r 0) ((edY L nl).getD (r + 1) 0) ((edY Lo no).getD q 0) ((edY Lo no).getD (q + 1) 0) : Int) * (shF ((edX L nl).getD c 0) ((edX L nl).getD (c + 1) 0) ((edX Lo no).getD d 0) ((edX Lo no).getD (d + 1) 0) : Int) else 0) (List.range ((edX Lo no).length - 1))) (List.range ((edY Lo no).length - 1))) (List.range ((edX L nl).length - 1)))) := by
      refine wh_cnt ((edX L nl).length - 1) (fun c (a : Int32 × Int32) => a.2 = Int32.ofNat (c + 1) ∧ a.1 = A + Int32.ofInt (gsm (fun c => gsm (fun q => gsm (fun d => if lab (rep (edX L nl) (c + 1)) (rep (edY L nl) (r + 1)) = s ∧ labo (rep (edX Lo no) (d + 1)) (rep (edY Lo no) (q + 1)) = o then (shF ((edY L nl).getD r 0) ((edY L nl).getD (r + 1) 0) ((edY Lo no).getD q 0) ((edY Lo no).getD (q + 1) 0) : Int) * (shF ((edX L nl).getD c 0) ((edX L nl).getD (c + 1) 0) ((edX Lo no).getD d 0) ((edX Lo no).getD (d + 1) 0) : Int) else 0) (List.range ((edX Lo no).length - 1))) (List.range ((edY Lo no).length - 1))) (List.range c))) ?_ ?_ ⟨rfl, (Int32.add_zero A).symm⟩
      · rintro c ⟨B, _⟩ hc ⟨rfl, hB⟩
        right
        dsimp only at hB ⊢
        rw [hT.1, if_pos ((i_lt (by omega) (by omega)).mpr (by omega)), lb_g hg hL (show c + 1 < (edX L nl).length by omega) (show r + 1 < (edY L nl).length by omega)]
        have key2 : Tr (wh (S := Int32 × Int32) (X := Int32) (fun p16 => (if p16.2 < (T.1 120) then Option.bind (some (Int32.ofInt (lab (rep (edX L nl) (c + 1)) (rep (edY L nl) (r + 1))))) (fun x1 => (if x1 = Int32.ofNat s then Option.bind (rdI T 59 40 (Int32.ofNat (r + 1) - 1)) (fun x2 => Option.bind (rdI T 59 40 (Int32.ofNat (r + 1))) (fun x3 => Option.bind (rdI T 62 40 (p16.2 - 1)) (fun x4 => Option.bind (rdI T 62 40 p16.2) (fun x5 => Option.bind (t_706 x2 x3 x4 x5 T) (fun x6 => Option.bind (wh (S := Int32 × Int32) (X := Int32) (fun p54 => (if p54.2 < (T.1 119) then (if 0 < x6 then Option.bind (rdI T 63 1764 ((42 * p16.2) + p54.2)) (fun x7 => Option.bind ((if x7 = Int32.ofNat o then Option.bind (rdI T 58 40 (Int32.ofNat (c + 1) - 1)) (fun x8 => Option.bind (rdI T 58 40 (Int32.ofNat (c + 1))) (fun x9 => Option.bind (rdI T 61 40 (p54.2 - 1)) (fun x10 => Option.bind (rdI T 61 40 p54.2) (fun x11 => Option.bind (t_706 x8 x9 x10 x11 T) (fun x12 => some (x6 * x12)))))) else some 0)) (fun v96 => some (.inl (p54.1 + v96, p54.2 + 1)))) else some (.inr p54.1)) else some (.inr p54.1))) (p16.1, 1)) (fun v100 => some (.inl (v100, p16.2 + 1)))))))) else some (.inr p16.1))) else some (.inr p16.1))) (B, 1)) (fun v => v = B + Int32.ofInt (gsm (fun q => gsm (fun d => if lab (rep (edX L nl) (c + 1)) (rep (edY L nl) (r + 1)) = s ∧ labo (rep (edX Lo no) (d + 1)) (rep (edY Lo no) (q + 1)) = o then (shF ((edY L nl).getD r 0) ((edY L nl).getD (r + 1) 0) ((edY Lo no).getD q 0) ((edY Lo no).getD (q + 1) 0) : Int) * (shF ((edX L nl).getD c 0) ((edX L nl).getD (c + 1) 0) ((edX Lo no).getD d 0) ((edX Lo no).getD (d + 1) 0) : Int) else 0) (List.range ((edX Lo no).length - 1))) (List.range ((edY Lo no).length - 1)))) := by
          by_cases zs : lab (rep (edX L nl) (c + 1)) (rep (edY L nl) (r + 1)) = s
          · refine wh_cnt ((edY Lo no).length - 1) (fun q (a : Int32 × Int32) => a.2 = Int32.ofNat (q + 1) ∧ a.1 = B + Int32.ofInt (gsm (fun q => gsm (fun d => if lab (rep (edX L nl) (c + 1)) (rep (edY L nl) (r + 1)) = s ∧ labo (rep (edX Lo no) (d + 1)) (rep (edY Lo no) (q + 1)) = o then (shF ((edY L nl).getD r 0) ((edY L nl).getD (r + 1) 0) ((edY Lo no).getD q 0) ((edY Lo no).getD (q + 1) 0) : Int) * (shF ((edX L nl).getD c 0) ((edX L nl).getD (c + 1) 0) ((edX Lo no).getD d 0) ((edX Lo no).getD (d + 1) 0) : Int) else 0) (List.range ((edX Lo no).length - 1))) (List.range q))) ?_ ?_ ⟨rfl, (Int32.add_zero B).symm⟩
            · rintro q ⟨C, _⟩ hq ⟨rfl, hC⟩
              right
              dsimp only at hC ⊢
              have y1 := edY_at hg (show r < (edY L nl).length by omega)
              have y2 := edY_at hg (show r + 1 < (edY L nl).length by omega)
              have y3 := edY_at hgo (show q < (edY Lo no).length by omega)
              have y4 := edY_at hgo (show q + 1 < (edY Lo no).length by omega)
              have x1 := edX_at hg (show c < (edX L nl).length by omega)
              have x2 := edX_at hg (show c + 1 < (edX L nl).length by omega)
              rw [o2, if_pos ((i_lt (by omega) (by omega)).mpr (by omega))]; repeat (first | rw [Option.bind_some] | rw [Sum.elim_inl] | rw [Sum.elim_inr])
              rw [if_pos ((ofI_eq (hw _ _).1 (hw _ _).2 (by omega)).mpr zs), i_subL (show 1 ≤ r + 1 by omega), Nat.add_sub_cancel, row_k hT.2.2.2 n2 (show r < (edY L nl).length by omega)]; repeat (first | rw [Option.bind_some] | rw [Sum.elim_inl] | rw [Sum.elim_inr])
              rw [row_k hT.2.2.2 n2 (show r + 1 < (edY L nl).length by omega)]; repeat (first | rw [Option.bind_some] | rw [Sum.elim_inl] | rw [Sum.elim_inr])
              rw [i_subL (show 1 ≤ q + 1 by omega), Nat.add_sub_cancel, row_k o4 m2 (show q < (edY Lo no).length by omega)]; repeat (first | rw [Option.bind_some] | rw [Sum.elim_inl] | rw [Sum.elim_inr])
              rw [row_k o4 m2 (show q + 1 < (edY Lo no).length by omega)]; repeat (first | rw [Option.bind_some] | rw [Sum.elim_inl] | rw [Sum.elim_inr])
              rw [t_shd (by omega) (by omega) (by omega) (by omega)]; repeat (first | rw [Option.bind_some] | rw [Sum.elim_inl] | rw [Sum.elim_inr])
              generalize hH : shF ((edY L nl).getD r 0) ((edY L nl).getD (r + 1) 0) ((edY Lo no).getD q 0) ((edY Lo no).getD (q + 1) 0) = H at *
              have H25 : H < 25 := by rw [← hH]; unfold shF; omega
              have key3 : Tr (wh (S := Int32 × Int32) (X := Int32) (fun p54 => (if p54.2 < (T.1 119) then (if 0 < Int32.ofNat H then Option.bind (rdI T 63 1764 ((42 * Int32.ofNat (q + 1)) + p54.2)) (fun x7 => Option.bind ((if x7 = Int32.ofNat o then Option.bind (rdI T 58 40 (Int32.ofNat (c + 1) - 1)) (fun x8 => Option.bind (rdI T 58 40 (Int32.ofNat (c + 1))) (fun x9 => Option.bind (rdI T 61 40 (p54.2 - 1)) (fun x10 => Option.bind (rdI T 61 40 p54.2) (fun x11 => Option.bind (t_706 x8 x9 x10 x11 T) (fun x12 => some (Int32.ofNat H * x12)))))) else some 0)) (fun v96 => some (.inl (p54.1 + v96, p54.2 + 1)))) else some (.inr p54.1)) else some (.inr p54.1))) (C, 1)) (fun v => v = C + Int32.ofInt (gsm (fun d => if lab (rep (edX L nl) (c + 1)) (rep (edY L nl) (r + 1)) = s ∧ labo (rep (edX Lo no) (d + 1)) (rep (edY Lo no) (q + 1)) = o then (H : Int) * (shF ((edX L nl).getD c 0) ((edX L nl).getD (c + 1) 0) ((edX Lo no).getD d 0) ((edX Lo no).getD (d + 1) 0) : Int) else 0) (List.range ((edX Lo no).length - 1)))) := by
                by_cases zH : H = 0
                · refine ⟨C, wh_inr ?_, ?_⟩
                  · dsimp only
                    split
                    · rw [if_neg (fun z => by have := (i_Llt (by omega) (by omega)).mp z; omega)]
                    · rfl
                  · rw [sm_zero]
                    · exact (Int32.add_zero C).symm
                    · intro d _
                      rw [zH]
                      split <;> simp
                · refine wh_cnt ((edX Lo no).length - 1) (fun d (a : Int32 × Int32) => a.2 = Int32.ofNat (d + 1) ∧ a.1 = C + Int32.ofInt (gsm (fun d => if lab (rep (edX L nl) (c + 1)) (rep (edY L nl) (r + 1)) = s ∧ labo (rep (edX Lo no) (d + 1)) (rep (edY Lo no) (q + 1)) = o then (H : Int) * (shF ((edX L nl).getD c 0) ((edX L nl).getD (c + 1) 0) ((edX Lo no).getD d 0) ((edX Lo no).getD (d + 1) 0) : Int) else 0) (List.range d))) ?_ ?_ ⟨rfl, (Int32.add_zero C).symm⟩
                  · rintro d ⟨D, _⟩ hd ⟨rfl, hD⟩
                    right
                    dsimp only at hD ⊢
                    have x3 := edX_at hgo (show d < (edX Lo no).length by omega)
                    have x4 := edX_at hgo (show d + 1 < (edX Lo no).length by omega)
                    rw [o1, if_pos ((i_lt (by omega) (by omega)).mpr (by omega)), if_pos ((i_Llt (by omega) (by omega)).mpr (by omega)), lb_go hgo o5 (show d + 1 < (edX Lo no).length by omega) (show q + 1 < (edY Lo no).length by omega)]; repeat (first | rw [Option.bind_some] | rw [Sum.elim_inl] | rw [Sum.elim_inr])
                    refine ⟨(D + Int32.ofInt (if lab (rep (edX L nl) (c + 1)) (rep (edY L nl) (r + 1)) = s ∧ labo (rep (edX Lo no) (d + 1)) (rep (edY Lo no) (q + 1)) = o then (H : Int) * (shF ((edX L nl).getD c 0) ((edX L nl).getD (c + 1) 0) ((edX Lo no).getD d 0) ((edX Lo no).getD (d + 1) 0) : Int) else 0), Int32.ofNat (d + 1 + 1)), ?_, rfl, ?_⟩
                    · by_cases zo : labo (rep (edX Lo no) (d + 1)) (rep (edY Lo no) (q + 1)) = o
                      · rw [if_pos ((ofI_eq (hwo _ _).1 (hwo _ _).2 (by omega)).mpr zo), i_subL (show 1 ≤ c + 1 by omega), Nat.add_sub_cancel, row_k hT.2.2.1 n1 (show c < (edX L nl).length by omega)]; repeat (first | rw [Option.bind_some] | rw [Sum.elim_inl] | rw [Sum.elim_inr])
                        rw [row_k hT.2.2.1 n1 (show c + 1 < (edX L nl).length by omega)]; repeat (first | rw [Option.bind_some] | rw [Sum.elim_inl] | rw [Sum.elim_inr])
                        rw [i_subL (show 1 ≤ d + 1 by omega), Nat.add_sub_cancel, row_k o3 m1 (show d < (edX Lo no).length by omega)]; repeat (first | rw [Option.bind_some] | rw [Sum.elim_inl] | rw [Sum.elim_inr])
                        rw [row_k o3 m1 (show d + 1 < (edX Lo no).length by omega)]; repeat (first | rw [Option.bind_some] | rw [Sum.elim_inl] | rw [Sum.elim_inr])
                        rw [t_shd (by omega) (by omega) (by omega) (by omega)]; repeat (first | rw [Option.bind_some] | rw [Sum.elim_inl] | rw [Sum.elim_inr])
                        rw [if_pos ⟨zs, zo⟩, i_suc, i_mul, ← i_ofI, Int.natCast_mul]
                      · rw [if_neg (fun z => zo ((ofI_eq (hwo _ _).1 (hwo _ _).2 (by omega)).mp z))]; repeat (first | rw [Option.bind_some] | rw [Sum.elim_inl] | rw [Sum.elim_inr])
                        rw [if_neg (fun z => zo z.2), i_suc]; rfl
                    · dsimp only
                      rw [hD, List.range_succ, sm_app, Int32.add_assoc, i_addI]
                      rw [sm_sg]
                  · rintro ⟨D, _⟩ ⟨rfl, hD⟩
                    dsimp only at hD ⊢
                    exact ⟨D, by rw [o1, if_neg (fun z => by have := (i_lt (by omega) (by omega)).mp z; omega)], hD⟩
              obtain ⟨v, e, hv⟩ := key3
              rw [e, i_suc]; repeat (first | rw [Option.bind_some] | rw [Sum.elim_inl] | rw [Sum.elim_inr])
              refine ⟨_, rfl, rfl, ?_⟩
              dsimp only
              rw [hv, hC, List.range_succ, sm_app, Int32.add_assoc, i_addI]
              rw [sm_sg, hH]
            · rintro ⟨C, _⟩ ⟨rfl, hC⟩
              dsimp only at hC ⊢
              exact ⟨C, by rw [o2, if_neg (fun z => by have := (i_lt (by omega) (by omega)).mp z; omega)], hC⟩
          · refine ⟨B, wh_inr ?_, ?_⟩
            · dsimp only
              split
              · rw [Option.bind_some, if_neg (fun z => zs ((ofI_eq (hw _ _).1 (hw _ _).2 (by omega)).mp z))]
              · rfl
            · rw [sm_zero]
              · exact (Int32.add_zero B).symm
              · exact fun q _ => sm_zero (fun d _ => if_neg (fun z => zs z.1))
        obtain ⟨v, e, hv⟩ := key2
        rw [e, i_suc]; repeat (first | rw [Option.bind_some] | rw [Sum.elim_inl] | rw [Sum.elim_inr])
        refine ⟨_, rfl, rfl, ?_⟩
        dsimp only
        rw [hv, hB, List.range_succ, sm_app, Int32.add_assoc, i_addI]
        rw [sm_sg]
      · rintro ⟨B, _⟩ ⟨rfl, hB⟩
        dsimp only at hB ⊢
        exact ⟨B, by rw [hT.1, if_neg (fun z => by have := (i_lt (by omega) (by omega)).mp z; omega)], hB⟩
    obtain ⟨v, e, hv⟩ := key
    rw [e, i_suc]; repeat (first | rw [Option.bind_some] | rw [Sum.elim_inl] | rw [Sum.elim_inr])
    refine ⟨_, rfl, rfl, ?_⟩
    dsimp only
    rw [hv, hA, List.range_succ, sm_app, i_addI]
    rw [sm_sg]
  · rintro ⟨A, _⟩ ⟨rfl, hA⟩
    dsimp only at hA ⊢
    exact ⟨A, by rw [hT.2.1, if_neg (fun z => by have := (i_lt (by omega) (by omega)).mp z; omega)], hA⟩
end
