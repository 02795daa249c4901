/-! the plan in the reference: sides, what comes next -/
/-- flats, points and pieces in the reference -/
def TPl (T : TS) (L : PLn) (nl : Nat) (ps : List Nat) : Prop := (∀ l, l < nl → T.2.2.1 52 l = if pFl L l = true then 1 else 0) ∧ ptS L nl ps ∧ ptR T ps ∧ pcR T L nl ps (nP L nl)
theorem TPl_cg {t T : TS} {L : PLn} {nl : Nat} {ps : List Nat} {I R : List Nat} (h : TPl t L nl ps) (a : agr I R t T) (h0 : 127 ∉ I ∧ 130 ∉ I) (h1 : 52 ∉ R ∧ 66 ∉ R ∧ 67 ∉ R ∧ 68 ∉ R ∧ 69 ∉ R ∧ 70 ∉ R) : TPl T L nl ps := ⟨by rw [a.2.2.1 _ h1.1]; exact h.1, h.2.1, ptR_cg h.2.2.1 a h0.1 ⟨h1.2.1, h1.2.2.1⟩, pcR_cg h.2.2.2 a h0.2 h1.2.2.2⟩
def lvI (o : Option Nat) : Int32 := match o with
  | some s => Int32.ofNat s
  | none => -1
section
variable {L : PLn} {nl : Nat} {T : TS} {ps : List Nat}
theorem TPl_len (hg : gdL L nl) (h : TPl T L nl ps) : ps.length ≤ 420 := pts_len hg h.2.1.1 (fun q hq => (h.2.1.2 q).mp hq)
theorem i_half {s : Nat} (hs : s < 1000) : Int32.ofNat s / 2 = Int32.ofNat (s / 2) := i_divL (by omega) (by omega)
theorem i_odd {s : Nat} (hs : s < 1000) : Int32.ofNat s - Int32.ofNat s / 2 * 2 = Int32.ofNat (s % 2) := i_modL (by omega) (by omega)
/-- where a side begins and ends, by numbers of points -/
theorem t_from (hg : gdL L nl) (h : TPl T L nl ps) {s : Nat} (hs : s < 2 * nP L nl) : ∃ j, t_697 (Int32.ofNat s) T = some (Int32.ofNat j) ∧ j < ps.length ∧ (ps.getD j 0 : Int) = 25 * gx0 (gS L nl) s + gy0 (gS L nl) s := by
  have hn := nP_le hg
  obtain ⟨a, b, h1, h2, h3, h4, h5, h6⟩ := (h.2.2.2.2.2 (s / 2) (by omega)).2
  unfold t_697
  rw [i_odd (by omega), i_half (by omega)]
  unfold gx0 gy0 gS
  unfold qA at h3 h4
  by_cases e : s % 2 = 0
  · rw [if_pos (by rw [e]; rfl), rdI_n (by omega) (by omega), h5]; repeat (first | rw [Option.bind_some] | rw [Sum.elim_inl] | rw [Sum.elim_inr])
    refine ⟨a, rfl, h1, ?_⟩
    rw [if_pos e, h3]
    dsimp only
    omega
  · rw [if_neg (fun z => e ((i_eqL (by omega) (by omega)).mp z)), rdI_n (by omega) (by omega), h6]; repeat (first | rw [Option.bind_some] | rw [Sum.elim_inl] | rw [Sum.elim_inr])
    refine ⟨b, rfl, h2, ?_⟩
    rw [if_neg e, h4]
    dsimp only
    omega
theorem t_toS (hg : gdL L nl) (h : TPl T L nl ps) {s : Nat} (hs : s < 2 * nP L nl) : ∃ j, t_700 (Int32.ofNat s) T = some (Int32.ofNat j) ∧ j < ps.length ∧ (ps.getD j 0 : Int) = 25 * gx1 (gS L nl) s + gy1 (gS L nl) s := by
  have hn := nP_le hg
  obtain ⟨a, b, h1, h2, h3, h4, h5, h6⟩ := (h.2.2.2.2.2 (s / 2) (by omega)).2
  unfold t_700
  rw [i_odd (by omega), i_half (by omega)]
  unfold gx1 gy1 gS
  unfold qA at h3 h4
  by_cases e : s % 2 = 0
  · rw [if_pos (by rw [e]; rfl), rdI_n (by omega) (by omega), h6]; repeat (first | rw [Option.bind_some] | rw [Sum.elim_inl] | rw [Sum.elim_inr])
    refine ⟨b, rfl, h2, ?_⟩
    rw [if_pos e, h4]
    dsimp only
    omega
  · rw [if_neg (fun z => e ((i_eqL (by omega) (by omega)).mp z)), rdI_n (by omega) (by omega), h5]; repeat (first | rw [Option.bind_some] | rw [Sum.elim_inl] | rw [Sum.elim_inr])
    refine ⟨a, rfl, h1, ?_⟩
    rw [if_neg e, h3]
    dsimp only
    omega
theorem t_wyS (hg : gdL L nl) (h : TPl T L nl ps) {s : Nat} (hs : s < 2 * nP L nl) : t_698 (Int32.ofNat s) T = some (Int32.ofNat (gdr (gS L nl) s)) := by
  have hn := nP_le hg
  have n20 := hg.1
  have hk := (k_in (show s / 2 < nP L nl by omega)).1
  unfold t_698
  rw [i_odd (by omega), i_half (by omega), rdI_n (by omega) (by omega), (h.2.2.2.2.2 (s / 2) (by omega)).1]; repeat (first | rw [Option.bind_some] | rw [Sum.elim_inl] | rw [Sum.elim_inr])
  rw [rdI_n (by omega) (by omega), h.1 _ hk]; repeat (first | rw [Option.bind_some] | rw [Sum.elim_inl] | rw [Sum.elim_inr])
  rw [iteF]
  unfold gdr gS
  rcases Nat.mod_two_eq_zero_or_one s with e | e <;> cases hF : pFl L (kL L nl (s / 2)) <;> simp [e] <;> decide
theorem lv_cut (hg : gdL L nl) {x y : Int} {e k : Nat} (hk : k < 2 * nP L nl) (h : gx0 (gS L nl) k = x ∧ gy0 (gS L nl) k = y ∧ gdr (gS L nl) k = e) : lvF L nl x y e = some k := by
  have := lvF_of hg hk
  rw [h.1, h.2.1, h.2.2] at this
  exact this
theorem t_lv (hg : gdL L nl) (h : TPl T L nl ps) {j x y e : Nat} (hj : j < ps.length) (hx : x < 25) (hy : y < 25) (hq : ps.getD j 0 = 25 * x + y) (he : e < 4) : t_696 (Int32.ofNat j) (Int32.ofNat e) T = some (lvI (lvF L nl x y e)) := by
  have hn := nP_le hg
  have hl := TPl_len hg h
  unfold t_696
  refine tr_eq (Tr.bd (P := fun v => v = lvI (lvF L nl x y e)) (wh_cnt (2 * nP L nl) (fun k (a : Int32 × Int32) => a.2 = Int32.ofNat k ∧ ((a.1 = -1 ∧ ∀ s, s < k → ¬ (gx0 (gS L nl) s = x ∧ gy0 (gS L nl) s = y ∧ gdr (gS L nl) s = e)) ∨ a.1 = lvI (lvF L nl x y e))) ?_ ?_ ⟨rfl, Or.inl ⟨rfl, fun s hs => absurd hs (Nat.not_lt_zero _)⟩⟩) ?_)
  · rintro k ⟨v, _⟩ hk ⟨rfl, hv⟩
    right
    dsimp only at hv ⊢
    rw [h.2.2.2.1, i_mulL, if_pos ((i_lt (by omega) (by omega)).mpr hk)]
    obtain ⟨j', e1, j1, j2⟩ := t_from hg h hk
    rw [e1]; repeat (first | rw [Option.bind_some] | rw [Sum.elim_inl] | rw [Sum.elim_inr])
    have bx := gS_box hg hk
    have b4 := gS_d4 hk
    rw [i_suc]
    by_cases z : gx0 (gS L nl) k = x ∧ gy0 (gS L nl) k = y ∧ gdr (gS L nl) k = e
    · have ej : j' = j := by
        rcases Nat.lt_trichotomy j' j with w | w | w
        · have := pw_lt h.2.1.1 w hj; omega
        · exact w
        · have := pw_lt h.2.1.1 w j1; omega
      rw [if_pos (by rw [ej]), t_wyS hg h hk]; repeat (first | rw [Option.bind_some] | rw [Sum.elim_inl] | rw [Sum.elim_inr])
      rw [if_pos (by rw [z.2.2])]; repeat (first | rw [Option.bind_some] | rw [Sum.elim_inl] | rw [Sum.elim_inr])
      refine ⟨_, rfl, rfl, Or.inr ?_⟩
      dsimp only
      rw [lv_cut hg hk z]
      rfl
    · have : (Option.bind (if Int32.ofNat j' = Int32.ofNat j then Option.bind (t_698 (Int32.ofNat k) T) (fun x2 => (if x2 = Int32.ofNat e then some (Sum.inr (α := Unit) (Int32.ofNat k)) else some (.inl ()))) else some (.inl ())) (Sum.elim (fun _ => some v) (fun z => some z))) = some v := by
        by_cases w : j' = j
        · rw [if_pos (by rw [w]), t_wyS hg h hk]; repeat (first | rw [Option.bind_some] | rw [Sum.elim_inl] | rw [Sum.elim_inr])
          rw [if_neg (fun q => z ?_)]; repeat (first | rw [Option.bind_some] | rw [Sum.elim_inl] | rw [Sum.elim_inr])
          have := (i_inj (by omega) (by omega)).mp q
          rw [w, hq] at j2
          omega
        · rw [if_neg (fun q => w ((i_inj (by omega) (by omega)).mp q))]; repeat (first | rw [Option.bind_some] | rw [Sum.elim_inl] | rw [Sum.elim_inr])
      rw [this]; repeat (first | rw [Option.bind_some] | rw [Sum.elim_inl] | rw [Sum.elim_inr])
      refine ⟨_, rfl, rfl, ?_⟩
      rcases hv with ⟨rfl, q⟩ | q
      · refine Or.inl ⟨rfl, fun s hs => ?_⟩
        by_cases w : s = k
        · rw [w]; exact z
        · exact q s (by omega)
      · exact Or.inr q
  · rintro ⟨v, _⟩ ⟨rfl, hv⟩
    dsimp only at hv ⊢
    refine ⟨v, by rw [h.2.2.2.1, i_mulL, if_neg (fun z => by have := (i_lt (by omega) (by omega)).mp z; omega)], ?_⟩
    rcases hv with ⟨rfl, q⟩ | q
    · cases w : lvF L nl x y e with
      | none => rfl
      | some s =>
        obtain ⟨w1, w2⟩ := lvF_some w
        exact absurd w2 (q s w1)
    · exact q
  · rintro v rfl
    exact Tr.ok rfl
theorem dmod {d : Nat} (hd : d < 4) : (Int32.ofNat d + 1 + 4) - (Int32.ofNat d + 1 + 4) / 4 * 4 = Int32.ofNat ((d + 1) % 4) ∧ (Int32.ofNat d + 0 + 4) - (Int32.ofNat d + 0 + 4) / 4 * 4 = Int32.ofNat (d % 4) ∧ (Int32.ofNat d + -1 + 4) - (Int32.ofNat d + -1 + 4) / 4 * 4 = Int32.ofNat ((d + 3) % 4) ∧ (Int32.ofNat d + -2 + 4) - (Int32.ofNat d + -2 + 4) / 4 * 4 = Int32.ofNat ((d + 2) % 4) := by
  rcases (show d = 0 ∨ d = 1 ∨ d = 2 ∨ d = 3 by omega) with rfl | rfl | rfl | rfl <;> decide
theorem t_nxS (hg : gdL L nl) (h : TPl T L nl ps) {s : Nat} (hs : s < 2 * nP L nl) : t_699 (Int32.ofNat s) T = some (Int32.ofNat (gNx L nl s)) := by
  have hn := nP_le hg
  obtain ⟨j, e1, j1, j2⟩ := t_toS hg h hs
  have hd := gS_d4 hs
  obtain ⟨t, f1, f2, f3, _⟩ := gNx_o hs
  obtain ⟨x, y, u, v, g1, g2, g3, g4, g5, g6⟩ := gS_pts hs
  have bu := pt_lt hg g6
  rw [g3, g4] at j2 f1
  have lv : ∀ e, e < 4 → t_696 (Int32.ofNat j) (Int32.ofNat e) T = some (lvI (lvF L nl u v e)) := fun e he => t_lv hg h j1 bu.1 bu.2 (by omega) he
  obtain ⟨m1, m2, m3, m4⟩ := dmod hd
  rw [f2]
  unfold t_699
  have st : ∀ k : Int32, -3 < k → ∀ e, e < 4 → (Int32.ofNat (gdr (gS L nl) s) + k + 4) - (Int32.ofNat (gdr (gS L nl) s) + k + 4) / 4 * 4 = Int32.ofNat e → (if (-3 : Int32) < k then (if (-1 : Int32) < 0 then Option.bind (t_700 (Int32.ofNat s) T) (fun x1 => Option.bind (t_698 (Int32.ofNat s) T) (fun x2 => Option.bind (t_696 x1 (((x2 + k) + 4) - ((x2 + k) + 4) / (4 : Int32) * (4 : Int32)) T) (fun x3 => some (Sum.inl (β := Int32) (x3, k - 1))))) else some (.inr (-1))) else some (.inr (-1))) = some (.inl (lvI (lvF L nl u v e), k - 1)) := by
    intro k hk e he hm
    rw [if_pos hk, if_pos (by decide), e1]; repeat (first | rw [Option.bind_some] | rw [Sum.elim_inl] | rw [Sum.elim_inr])
    rw [t_wyS hg h hs]; repeat (first | rw [Option.bind_some] | rw [Sum.elim_inl] | rw [Sum.elim_inr])
    rw [hm, lv e he]; repeat (first | rw [Option.bind_some] | rw [Sum.elim_inl] | rw [Sum.elim_inr])
  have fin : ∀ (r : Nat) (k : Int32), r < 2 * nP L nl → (if (-3 : Int32) < k then (if Int32.ofNat r < 0 then Option.bind (t_700 (Int32.ofNat s) T) (fun x1 => Option.bind (t_698 (Int32.ofNat s) T) (fun x2 => Option.bind (t_696 x1 (((x2 + k) + 4) - ((x2 + k) + 4) / (4 : Int32) * (4 : Int32)) T) (fun x3 => some (Sum.inl (β := Int32) (x3, k - 1))))) else some (.inr (Int32.ofNat r))) else some (.inr (Int32.ofNat r))) = some (.inr (Int32.ofNat r)) := by
    intro r k hr
    split
    · rw [if_neg (i_nlt0 (by omega))]
    · rfl
  unfold lv4 at f1
  rw [wh_inl (st 1 (by decide) ((gdr (gS L nl) s + 1) % 4) (by omega) m1)]
  cases a1 : lvF L nl u v ((gdr (gS L nl) s + 1) % 4) with
  | some r =>
    rw [a1] at f1
    have : r = t := by simpa using f1
    subst this
    rw [show lvI (some r) = Int32.ofNat r from rfl, wh_inr (fin r _ f3)]; rfl
  | none =>
    rw [a1] at f1
    rw [show lvI none = -1 from rfl, show (1 : Int32) - 1 = 0 by decide, wh_inl (st 0 (by decide) (gdr (gS L nl) s % 4) (by omega) m2)]
    cases a2 : lvF L nl u v (gdr (gS L nl) s % 4) with
    | some r =>
      rw [a2] at f1
      have : r = t := by simpa using f1
      subst this
      rw [show lvI (some r) = Int32.ofNat r from rfl, wh_inr (fin r _ f3)]; rfl
    | none =>
      rw [a2] at f1
      rw [show lvI none = -1 from rfl, show (0 : Int32) - 1 = -1 by decide, wh_inl (st (-1) (by decide) ((gdr (gS L nl) s + 3) % 4) (by omega) m3)]
      cases a3 : lvF L nl u v ((gdr (gS L nl) s + 3) % 4) with
      | some r =>
        rw [a3] at f1
        have : r = t := by simpa using f1
        subst this
        rw [show lvI (some r) = Int32.ofNat r from rfl, wh_inr (fin r _ f3)]; rfl
      | none =>
        rw [a3] at f1
        rw [show lvI none = -1 from rfl, show (-1 : Int32) - 1 = -2 by decide, wh_inl (st (-2) (by decide) ((gdr (gS L nl) s + 2) % 4) (by omega) m4)]
        cases a4 : lvF L nl u v ((gdr (gS L nl) s + 2) % 4) with
        | some r =>
          rw [a4] at f1
          have : r = t := by simpa using f1
          subst this
          rw [show lvI (some r) = Int32.ofNat r from rfl, wh_inr (fin r _ f3)]; rfl
        | none =>
          rw [a4] at f1
          simp at f1
end
