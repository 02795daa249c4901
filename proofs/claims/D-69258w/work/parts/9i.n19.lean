/-! the plan in the reference: spaces beside a side -/
def lbR (T : TS) (L : PLn) (nl : Nat) (lab : Int → Int → Int) : Prop := ∀ i j, T.2.2.1 60 (gOf L nl i j) = Int32.ofInt (lab i j)
def TGe (T : TS) (L : PLn) (nl : Nat) (ps : List Nat) (lab : Int → Int → Int) : Prop := TPl T L nl ps ∧ edR T L nl ∧ lbR T L nl lab
section
variable {L : PLn} {nl : Nat} {T : TS} {ps : List Nat} {lab : Int → Int → Int}
theorem TGe_cg {t : TS} {I R : List Nat} (h : TGe t L nl ps lab) (a : agr I R t T) (h0 : 127 ∉ I ∧ 130 ∉ I ∧ 112 ∉ I ∧ 113 ∉ I) (h1 : 52 ∉ R ∧ 66 ∉ R ∧ 67 ∉ R ∧ 68 ∉ R ∧ 69 ∉ R ∧ 70 ∉ R ∧ 58 ∉ R ∧ 59 ∉ R ∧ 60 ∉ R) : TGe T L nl ps lab := ⟨TPl_cg h.1 a ⟨h0.1, h0.2.1⟩ ⟨h1.1, h1.2.1, h1.2.2.1, h1.2.2.2.1, h1.2.2.2.2.1, h1.2.2.2.2.2.1⟩, edR_cg h.2.1 a h0.2.2 ⟨h1.2.2.2.2.2.2.1, h1.2.2.2.2.2.2.2.1⟩, by unfold lbR; rw [a.2.2.1 _ h1.2.2.2.2.2.2.2.2]; exact h.2.2⟩
theorem t_idx {c : Nat} {xs : List Nat} (hp : xs.Pairwise (· < ·)) (h : rwR T c xs) (hl : xs.length ≤ 40) (hb : ∀ x ∈ xs, x < 1000) {k : Nat} (hk : k < xs.length) : t_703 c (Int32.ofNat (xs.getD k 0)) T = some (Int32.ofNat k) := by
  have hb' : ∀ j, j < xs.length → xs.getD j 0 < 1000 := fun j hj => by rw [getD_lt hj]; exact hb _ (List.getElem_mem hj)
  unfold t_703
  refine tr_eq (Tr.bd (P := fun v => v = Int32.ofNat k) (wh_cnt k (fun i (a : Int32) => a = Int32.ofNat i) ?_ ?_ rfl) ?_)
  · rintro i _ hi rfl
    right
    have := hb' i (by omega)
    have := hb' k hk
    rw [rdI_n (by omega) (by omega), h i (by omega)]; repeat (first | rw [Option.bind_some] | rw [Sum.elim_inl] | rw [Sum.elim_inr])
    rw [if_neg (fun z => by have := (i_inj (by omega) (by omega)).mp z; have := pw_lt hp hi hk; omega), i_suc]
    exact ⟨_, rfl, rfl⟩
  · rintro _ rfl
    rw [rdI_n (by omega) (by omega), h k hk]; repeat (first | rw [Option.bind_some] | rw [Sum.elim_inl] | rw [Sum.elim_inr])
    rw [if_pos rfl]
    exact ⟨_, rfl, rfl⟩
  · rintro _ rfl
    exact Tr.ok rfl
theorem pt_xy {x y : Nat} (h : isPt L nl x y) : x ∈ edX L nl ∧ y ∈ edY L nl := by
  obtain ⟨l, h1, h2, h3⟩ := h
  rcases h3 with h3 | ⟨m, h4, h5, h6⟩
  · unfold endL at h3
    rcases h3 with ⟨rfl, rfl⟩ | ⟨rfl, rfl⟩
    · exact ⟨edX_mem.mpr ⟨l, h1, Or.inl rfl⟩, edY_mem.mpr ⟨l, h1, Or.inl rfl⟩⟩
    · exact ⟨edX_mem.mpr ⟨l, h1, Or.inr rfl⟩, edY_mem.mpr ⟨l, h1, Or.inr rfl⟩⟩
  · unfold onL at h2 h6
    cases fl : pFl L l with
    | true =>
      have fm : pFl L m = false := by cases e : pFl L m with
        | false => rfl
        | true => rw [fl, e] at h5; exact absurd rfl h5
      have := pHX_t fl; have := pHX_f fm
      exact ⟨edX_mem.mpr ⟨m, h4, Or.inl (by omega)⟩, edY_mem.mpr ⟨l, h1, Or.inl (by omega)⟩⟩
    | false =>
      have fm : pFl L m = true := by cases e : pFl L m with
        | true => rfl
        | false => rw [fl, e] at h5; exact absurd rfl h5
      have := pHX_f fl; have := pHX_t fm
      exact ⟨edX_mem.mpr ⟨l, h1, Or.inl (by omega)⟩, edY_mem.mpr ⟨m, h4, Or.inl (by omega)⟩⟩
theorem lb_at (h : lbR T L nl lab) (hx : (edX L nl).length ≤ 25) (hy : (edY L nl).length ≤ 25) {c r : Nat} {i j : Int} (hc : colO (edX L nl) i = c) (hr : colO (edY L nl) j = r) : rdI T 60 1764 (Int32.ofNat (42 * r + c)) = some (Int32.ofInt (lab i j)) := by
  have := colO_le (edX L nl) i
  have := colO_le (edY L nl) j
  rw [rdI_n (by omega) (by omega), ← hc, ← hr]
  exact congrArg some (h i j)
theorem t_lft (hg : gdL L nl) (G : gLab (gS L nl) (2 * nP L nl) lab) (h : TGe T L nl ps lab) {s : Nat} (hs : s < 2 * nP L nl) : t_702 (Int32.ofNat s) T = some (Int32.ofInt (gLL (gS L nl) lab s)) := by
  have hn := nP_le hg
  have n1 := edX_len hg (Nat.le_refl nl)
  have n2 := edY_len hg (Nat.le_refl nl)
  obtain ⟨hT, hE, hL⟩ := h
  have geo := gS_geo hg G
  have hp : s / 2 < nP L nl := by omega
  obtain ⟨a, b, h1, h2, h3, h4, h5, h6⟩ := (hT.2.2.2.2.2 (s / 2) hp).2
  obtain ⟨k1, k2, k3, k4, _⟩ := k_in hp
  obtain ⟨m1, m2⟩ := pt_xy k4
  have bl := a_lt hg k1 (show kAn L nl (s / 2) ≤ pN L (kL L nl (s / 2)) by omega)
  have pl := TPl_len hg hT
  obtain ⟨cx, cx1, cx2⟩ := List.getElem_of_mem m1
  obtain ⟨cy, cy1, cy2⟩ := List.getElem_of_mem m2
  rw [← getD_lt cx1] at cx2
  rw [← getD_lt cy1] at cy2
  obtain ⟨c1, c2⟩ := colO_in (edX_pw L nl) cx1
  obtain ⟨r1, r2⟩ := colO_in (edY_pw L nl) cy1
  rw [cx2] at c1 c2
  rw [cy2] at r1 r2
  unfold t_702
  rw [i_half (by omega), rdI_n (by omega) (by omega), h5]; repeat (first | rw [Option.bind_some] | rw [Sum.elim_inl] | rw [Sum.elim_inr])
  rw [rdI_n (by omega) (by omega), (hT.2.2.1.2 a h1).1, h3]; repeat (first | rw [Option.bind_some] | rw [Sum.elim_inl] | rw [Sum.elim_inr])
  have e1 : qA L (kL L nl (s / 2)) (kAn L nl (s / 2)) / 25 = aX L (kL L nl (s / 2)) (kAn L nl (s / 2)) := by unfold qA; omega
  have e2 : qA L (kL L nl (s / 2)) (kAn L nl (s / 2)) % 25 = aY L (kL L nl (s / 2)) (kAn L nl (s / 2)) := by unfold qA; omega
  rw [e1, ← cx2, t_idx (edX_pw L nl) hE.2.2.1 (by omega) (fun x hx => by have := edX_lt hg (Nat.le_refl nl) x hx; omega) cx1]; repeat (first | rw [Option.bind_some] | rw [Sum.elim_inl] | rw [Sum.elim_inr])
  rw [rdI_n (by omega) (by omega), (hT.2.2.1.2 a h1).2, h3]; repeat (first | rw [Option.bind_some] | rw [Sum.elim_inl] | rw [Sum.elim_inr])
  rw [e2, ← cy2, t_idx (edY_pw L nl) hE.2.2.2 (by omega) (fun x hx => by have := edY_lt hg (Nat.le_refl nl) x hx; omega) cy1]; repeat (first | rw [Option.bind_some] | rw [Sum.elim_inl] | rw [Sum.elim_inr])
  rw [t_wyS hg hT hs]; repeat (first | rw [Option.bind_some] | rw [Sum.elim_inl] | rw [Sum.elim_inr])
  have d4 := gS_d4 hs
  rw [i_toInt (by omega)]
  obtain ⟨p, l, a', b', z1, z2, z3, z4, z5, z6, z7, z8, z9⟩ := gS_c hs
  subst z1
  rw [z3, z4] at c1 c2 r1 r2
  simp only [i_suc, i_mulL, i_add]
  rcases z9 with ⟨w0, w1, w2, w3, w4, w5, w6⟩ | ⟨w0, w1, w2, w3, w4, w5, w6⟩ | ⟨w0, w1, w2, w3, w4, w5, w6⟩ | ⟨w0, w1, w2, w3, w4, w5, w6⟩
  · rw [if_pos (by rw [w2]; rfl), show 42 * (cy + 1) + cx + 1 = 42 * (cy + 1) + (cx + 1) by omega, lb_at hL n1 n2 c2 r2]
    unfold gLL gqd
    rw [if_pos w2, w3, w4, (aX_t w1).1, (aX_t w1).2]; rfl
  · rw [if_neg (by rw [w2]; decide), if_pos (by rw [w2]; rfl), lb_at hL n1 n2 c1 r2]
    unfold gLL gqd
    rw [if_neg (by omega), if_pos w2, w3, w4, (aX_f w1).1, (aX_f w1).2]; rfl
  · rw [if_neg (by rw [w2]; decide), if_neg (by rw [w2]; decide), if_pos (by rw [w2]; rfl), show 42 * cy + cx + 1 = 42 * cy + (cx + 1) by omega, lb_at hL n1 n2 c2 r1]
    have := (geo.LLH hs (i := (aX L l a' : Nat)) (j := (aY L l a' : Nat)) ⟨by rw [w4, (aX_t w1).2], Or.inr ⟨w2, by rw [w5, (aX_t w1).1]; omega, by rw [w3, (aX_t w1).1]; omega⟩⟩).2 w2
    rw [this]; rfl
  · rw [if_neg (by rw [w2]; decide), if_neg (by rw [w2]; decide), if_neg (by rw [w2]; decide), show 42 * (cy + 1) + cx + 1 = 42 * (cy + 1) + (cx + 1) by omega, lb_at hL n1 n2 c2 r2]
    have := (geo.LLV hs (i := (aX L l a' : Nat)) (j := (aY L l a' : Nat)) ⟨by rw [w3, (aX_f w1).1], Or.inr ⟨w2, by rw [w6, (aX_f w1).2]; omega, by rw [w4, (aX_f w1).2]; omega⟩⟩).2 w2
    rw [this]; rfl
/-- the side back -/
def bkS (s : Nat) : Nat := if s % 2 = 0 then s + 1 else s - 1
theorem bkS_lt {s N : Nat} (h : s < 2 * N) : bkS s < 2 * N := by unfold bkS; split <;> omega
theorem bkS_bk (s : Nat) : bkS (bkS s) = s := by unfold bkS; split <;> split <;> omega
theorem t_rgt (hg : gdL L nl) (G : gLab (gS L nl) (2 * nP L nl) lab) (h : TGe T L nl ps lab) {s : Nat} (hs : s < 2 * nP L nl) : t_712 (Int32.ofNat s) T = some (Int32.ofInt (gLL (gS L nl) lab (bkS s))) := by
  have hn := nP_le hg
  unfold t_712
  rw [i_odd (by omega)]
  have e : (if Int32.ofNat (s % 2) = 0 then some (Int32.ofNat s + 1) else some (Int32.ofNat s - 1)) = some (Int32.ofNat (bkS s)) := by
    unfold bkS
    by_cases z : s % 2 = 0
    · rw [if_pos (by rw [z]; rfl), if_pos z, i_suc]
    · rw [if_neg (fun w => z ((i_eqL (by omega) (by omega)).mp w)), if_neg z, i_subL (show 1 ≤ s by omega)]
  rw [e]; repeat (first | rw [Option.bind_some] | rw [Sum.elim_inl] | rw [Sum.elim_inr])
  rw [t_lft hg G h (bkS_lt hs)]; repeat (first | rw [Option.bind_some] | rw [Sum.elim_inl] | rw [Sum.elim_inr])
theorem t_len (hg : gdL L nl) (h : TPl T L nl ps) {s : Nat} (hs : s < 2 * nP L nl) : t_714 (Int32.ofNat s) T = some (Int32.ofNat (kB L nl (s / 2) - kAn L nl (s / 2))) := by
  have hn := nP_le hg
  have hp : s / 2 < nP L nl := by omega
  obtain ⟨a, b, h1, h2, h3, h4, h5, h6⟩ := (h.2.2.2.2.2 (s / 2) hp).2
  obtain ⟨k1, k2, k3, k4, k5, _⟩ := k_in hp
  have bl := a_lt hg k1 (show kAn L nl (s / 2) ≤ pN L (kL L nl (s / 2)) by omega)
  have bh := a_lt hg k1 k3
  have pl := TPl_len hg h
  have e1 : qA L (kL L nl (s / 2)) (kAn L nl (s / 2)) / 25 = aX L (kL L nl (s / 2)) (kAn L nl (s / 2)) := by unfold qA; omega
  have e2 : qA L (kL L nl (s / 2)) (kAn L nl (s / 2)) % 25 = aY L (kL L nl (s / 2)) (kAn L nl (s / 2)) := by unfold qA; omega
  have e3 : qA L (kL L nl (s / 2)) (kB L nl (s / 2)) / 25 = aX L (kL L nl (s / 2)) (kB L nl (s / 2)) := by unfold qA; omega
  have e4 : qA L (kL L nl (s / 2)) (kB L nl (s / 2)) % 25 = aY L (kL L nl (s / 2)) (kB L nl (s / 2)) := by unfold qA; omega
  unfold t_714
  rw [i_half (by omega), rdI_n (by omega) (by omega), h5]; repeat (first | rw [Option.bind_some] | rw [Sum.elim_inl] | rw [Sum.elim_inr])
  rw [rdI_n (by omega) (by omega), h6]; repeat (first | rw [Option.bind_some] | rw [Sum.elim_inl] | rw [Sum.elim_inr])
  rw [rdI_n (by omega) (by omega), (h.2.2.1.2 b h2).1, h4]; repeat (first | rw [Option.bind_some] | rw [Sum.elim_inl] | rw [Sum.elim_inr])
  rw [rdI_n (by omega) (by omega), (h.2.2.1.2 a h1).1, h3]; repeat (first | rw [Option.bind_some] | rw [Sum.elim_inl] | rw [Sum.elim_inr])
  rw [rdI_n (by omega) (by omega), (h.2.2.1.2 b h2).2, h4]; repeat (first | rw [Option.bind_some] | rw [Sum.elim_inl] | rw [Sum.elim_inr])
  rw [rdI_n (by omega) (by omega), (h.2.2.1.2 a h1).2, h3]; repeat (first | rw [Option.bind_some] | rw [Sum.elim_inl] | rw [Sum.elim_inr])
  rw [e1, e2, e3, e4]
  have le1 : aX L (kL L nl (s / 2)) (kAn L nl (s / 2)) ≤ aX L (kL L nl (s / 2)) (kB L nl (s / 2)) := by unfold aX; split <;> omega
  rw [i_sub le1, i_add, i_sub (by unfold aX aY; split <;> omega)]
  congr 2
  unfold aX aY
  split <;> omega
end
