/-! the plan in the reference: coordinates of edges -/
def edX (L : PLn) : Nat → List Nat
  | 0 => []
  | n + 1 => insS (pHX L n) (insS (pX L n) (edX L n))
def edY (L : PLn) : Nat → List Nat
  | 0 => []
  | n + 1 => insS (pHY L n) (insS (pY L n) (edY L n))
theorem edX_mem {L : PLn} {n q : Nat} : q ∈ edX L n ↔ ∃ l, l < n ∧ (q = pX L l ∨ q = pHX L l) := by
  induction n with
  | zero => simp [edX]
  | succ n ih =>
    unfold edX
    rw [insS_mem, insS_mem, ih]
    constructor
    · rintro (h | h | ⟨l, h1, h2⟩)
      · exact ⟨n, by omega, Or.inr h⟩
      · exact ⟨n, by omega, Or.inl h⟩
      · exact ⟨l, by omega, h2⟩
    · rintro ⟨l, h1, h2⟩
      by_cases e : l = n
      · subst e
        rcases h2 with h2 | h2
        · exact Or.inr (Or.inl h2)
        · exact Or.inl h2
      · exact Or.inr (Or.inr ⟨l, by omega, h2⟩)
theorem edY_mem {L : PLn} {n q : Nat} : q ∈ edY L n ↔ ∃ l, l < n ∧ (q = pY L l ∨ q = pHY L l) := by
  induction n with
  | zero => simp [edY]
  | succ n ih =>
    unfold edY
    rw [insS_mem, insS_mem, ih]
    constructor
    · rintro (h | h | ⟨l, h1, h2⟩)
      · exact ⟨n, by omega, Or.inr h⟩
      · exact ⟨n, by omega, Or.inl h⟩
      · exact ⟨l, by omega, h2⟩
    · rintro ⟨l, h1, h2⟩
      by_cases e : l = n
      · subst e
        rcases h2 with h2 | h2
        · exact Or.inr (Or.inl h2)
        · exact Or.inl h2
      · exact Or.inr (Or.inr ⟨l, by omega, h2⟩)
theorem edX_pw (L : PLn) (n : Nat) : (edX L n).Pairwise (· < ·) := by
  induction n with
  | zero => exact List.Pairwise.nil
  | succ n ih => exact insS_pw (insS_pw ih)
theorem edY_pw (L : PLn) (n : Nat) : (edY L n).Pairwise (· < ·) := by
  induction n with
  | zero => exact List.Pairwise.nil
  | succ n ih => exact insS_pw (insS_pw ih)
theorem pw_len {xs : List Nat} (h : xs.Pairwise (· < ·)) {m : Nat} (hm : ∀ x ∈ xs, x < m) : xs.length ≤ m := by
  have := List.Nodup.length_le_of_subset (h.imp (fun z => Nat.ne_of_lt z)) (fun x hx => List.mem_range.mpr (hm x hx))
  rwa [List.length_range] at this
section
variable {L : PLn} {nl : Nat}
theorem pX_le (hg : gdL L nl) {l : Nat} (hl : l < nl) : pX L l ≤ pHX L l ∧ pHX L l ≤ 24 ∧ pY L l ≤ pHY L l ∧ pHY L l ≤ 24 := ⟨Nat.le_add_right _ _, (hg.2.1 l hl).2.1, Nat.le_add_right _ _, (hg.2.1 l hl).2.2⟩
theorem edX_lt (hg : gdL L nl) {n : Nat} (hn : n ≤ nl) : ∀ x ∈ edX L n, x < 25 := by
  intro x hx
  obtain ⟨l, h1, h2⟩ := edX_mem.mp hx
  have := pX_le hg (show l < nl by omega)
  omega
theorem edY_lt (hg : gdL L nl) {n : Nat} (hn : n ≤ nl) : ∀ x ∈ edY L n, x < 25 := by
  intro x hx
  obtain ⟨l, h1, h2⟩ := edY_mem.mp hx
  have := pX_le hg (show l < nl by omega)
  omega
theorem edX_len (hg : gdL L nl) {n : Nat} (hn : n ≤ nl) : (edX L n).length ≤ 25 := pw_len (edX_pw L n) (edX_lt hg hn)
theorem edY_len (hg : gdL L nl) {n : Nat} (hn : n ≤ nl) : (edY L n).length ≤ 25 := pw_len (edY_pw L n) (edY_lt hg hn)
/-- the edges so far -/
def edR (t : TS) (L : PLn) (n : Nat) : Prop := t.1 112 = Int32.ofNat (edX L n).length ∧ t.1 113 = Int32.ofNat (edY L n).length ∧ rwR t 58 (edX L n) ∧ rwR t 59 (edY L n)
theorem rwR_cg {t T : TS} {c : Nat} {xs : List Nat} (h : rwR t c xs) (e : T.2.2.1 c = t.2.2.1 c) : rwR T c xs := by unfold rwR; rw [e]; exact h
theorem edR_cg {t T : TS} {I R : List Nat} (h : edR t L nl) (a : agr I R t T) (h0 : 112 ∉ I ∧ 113 ∉ I) (h1 : 58 ∉ R ∧ 59 ∉ R) : edR T L nl := by
  unfold edR
  rw [a.1 _ h0.1, a.1 _ h0.2]
  exact ⟨h.1, h.2.1, rwR_cg h.2.2.1 (a.2.2.1 _ h1.1), rwR_cg h.2.2.2 (a.2.2.1 _ h1.2)⟩
theorem t_edges {t : TS} (h : lnR t L nl) (hg : gdL L nl) : Tr (wh (S := TS × Int32) (X := TS) (fun p16 => (if p16.2 < (p16.1.1 100) then Option.bind (rdI p16.1 50 20 p16.2) (fun x5 => Option.bind (t_687 58 (p16.1.1 112) x5 p16.1) (fun x6 => Option.bind (some (ptI x6.2 112 x6.1)) (fun s7 => Option.bind (t_679 p16.2 s7) (fun x8 => Option.bind (t_687 58 (s7.1 112) x8 s7) (fun x9 => Option.bind (some (ptI x9.2 112 x9.1)) (fun s10 => Option.bind (rdI s10 51 20 p16.2) (fun x11 => Option.bind (t_687 59 (s10.1 113) x11 s10) (fun x12 => Option.bind (some (ptI x12.2 113 x12.1)) (fun s13 => Option.bind (t_680 p16.2 s13) (fun x14 => Option.bind (t_687 59 (s13.1 113) x14 s13) (fun x15 => Option.bind (some (ptI x15.2 113 x15.1)) (fun s16 => some (.inl (s16, p16.2 + 1)))))))))))))) else some (.inr p16.1))) (ptI (ptI t 112 0) 113 0, 0)) (fun T => edR T L nl ∧ lnR T L nl ∧ agr [112, 113] [58, 59] t T) := by
  have hn := hg.1
  refine wh_cnt nl (fun k a => a.2 = Int32.ofNat k ∧ edR a.1 L k ∧ lnR a.1 L nl ∧ agr [112, 113] [58, 59] t a.1) ?_ ?_ ⟨rfl, ⟨rfl, rfl, fun k hk => absurd hk (Nat.not_lt_zero _), fun k hk => absurd hk (Nat.not_lt_zero _)⟩, lnR_cg h (agr_p (I := [112, 113]) (R := [58, 59]) (agr_p agr_refl (by simp)) (by simp)) (by simp) (by simp), agr_p (agr_p agr_refl (by simp)) (by simp)⟩
  · rintro k ⟨T, _⟩ hk ⟨rfl, ⟨e1, e2, e3, e4⟩, hl, ha⟩
    right
    dsimp only at e1 e2 e3 e4 hl ha ⊢
    obtain ⟨q1, q2, q3, q4⟩ := pX_le hg hk
    have b1 := edX_lt hg (show k ≤ nl by omega)
    have b2 := edY_lt hg (show k ≤ nl by omega)
    have n1 := edX_len hg (show k ≤ nl by omega)
    have n2 := edY_len hg (show k ≤ nl by omega)
    rw [hl.1, if_pos ((i_lt (by omega) (by omega)).mpr hk), r50 hl hn hk]; repeat (first | rw [Option.bind_some] | rw [Sum.elim_inl] | rw [Sum.elim_inr])
    rw [e1]
    obtain ⟨T1, f1, f2, f3⟩ := t_ins (v := pX L k) e3 (by omega) (by omega) (fun x hx => by have := b1 x hx; omega)
    rw [f1]; repeat (first | rw [Option.bind_some] | rw [Sum.elim_inl] | rw [Sum.elim_inr])
    have i1 : ∀ x ∈ insS (pX L k) (edX L k), x < 25 := fun x hx => by
      rcases insS_mem.mp hx with rfl | hx
      · omega
      · exact b1 x hx
    have m1 := pw_len (insS_pw (edX_pw L k)) i1
    have a1 : agr [112, 113] [58, 59] T (ptI T1 112 (Int32.ofNat (insS (pX L k) (edX L k)).length)) := agr_p (agr_mono f3 (by simp) (by simp)) (by simp)
    have hl1 := lnR_cg hl a1 (by simp) (by simp)
    rw [t_hX hl1 hn hk]; repeat (first | rw [Option.bind_some] | rw [Sum.elim_inl] | rw [Sum.elim_inr])
    rw [pt_1, if_pos rfl]
    obtain ⟨T2, g1, g2, g3⟩ := t_ins (t := ptI T1 112 (Int32.ofNat (insS (pX L k) (edX L k)).length)) (v := pHX L k) f2 (by omega) (by omega) (fun x hx => by have := i1 x hx; omega)
    rw [g1]; repeat (first | rw [Option.bind_some] | rw [Sum.elim_inl] | rw [Sum.elim_inr])
    have a2 : agr [112, 113] [58, 59] T (ptI T2 112 (Int32.ofNat (edX L (k + 1)).length)) := agr_trans a1 (agr_p (agr_mono g3 (by simp) (by simp)) (by simp))
    have hl2 := lnR_cg hl a2 (by simp) (by simp)
    rw [show (insS (pHX L k) (insS (pX L k) (edX L k))) = edX L (k + 1) from rfl, r51 hl2 hn hk]; repeat (first | rw [Option.bind_some] | rw [Sum.elim_inl] | rw [Sum.elim_inr])
    have e5 : (ptI T2 112 (Int32.ofNat (edX L (k + 1)).length)).1 113 = Int32.ofNat (edY L k).length := by
      show T2.1 113 = _
      rw [g3.1 113 (by simp)]
      show T1.1 113 = _
      rw [f3.1 113 (by simp), e2]
    have e6 : rwR (ptI T2 112 (Int32.ofNat (edX L (k + 1)).length)) 59 (edY L k) := rwR_cg e4 ((g3.2.2.1 59 (by simp)).trans (f3.2.2.1 59 (by simp)))
    rw [e5]
    obtain ⟨T3, k1, k2, k3⟩ := t_ins (v := pY L k) e6 (by omega) (by omega) (fun x hx => by have := b2 x hx; omega)
    rw [k1]; repeat (first | rw [Option.bind_some] | rw [Sum.elim_inl] | rw [Sum.elim_inr])
    have i2 : ∀ x ∈ insS (pY L k) (edY L k), x < 25 := fun x hx => by
      rcases insS_mem.mp hx with rfl | hx
      · omega
      · exact b2 x hx
    have m2 := pw_len (insS_pw (edY_pw L k)) i2
    have a3 : agr [112, 113] [58, 59] T (ptI T3 113 (Int32.ofNat (insS (pY L k) (edY L k)).length)) := agr_trans a2 (agr_p (agr_mono k3 (by simp) (by simp)) (by simp))
    have hl3 := lnR_cg hl a3 (by simp) (by simp)
    rw [t_hY hl3 hn hk]; repeat (first | rw [Option.bind_some] | rw [Sum.elim_inl] | rw [Sum.elim_inr])
    rw [pt_1, if_pos rfl]
    obtain ⟨T4, j1, j2, j3⟩ := t_ins (t := ptI T3 113 (Int32.ofNat (insS (pY L k) (edY L k)).length)) (v := pHY L k) k2 (by omega) (by omega) (fun x hx => by have := i2 x hx; omega)
    rw [j1]; repeat (first | rw [Option.bind_some] | rw [Sum.elim_inl] | rw [Sum.elim_inr])
    have a4 : agr [112, 113] [58, 59] T (ptI T4 113 (Int32.ofNat (edY L (k + 1)).length)) := agr_trans a3 (agr_p (agr_mono j3 (by simp) (by simp)) (by simp))
    refine ⟨_, rfl, i_suc k, ⟨?_, rfl, ?_, j2⟩, lnR_cg hl a4 (by simp) (by simp), agr_trans ha a4⟩
    · show T4.1 112 = _
      rw [j3.1 112 (by simp)]
      show T3.1 112 = _
      rw [k3.1 112 (by simp)]
      rfl
    · exact rwR_cg g2 ((j3.2.2.1 58 (by simp)).trans (k3.2.2.1 58 (by simp)))
  · rintro ⟨T, _⟩ ⟨rfl, e, hl, ha⟩
    dsimp only at e hl ha ⊢
    exact ⟨T, by rw [hl.1, if_neg (fun z => by have := (i_lt (by omega) (by omega)).mp z; omega)], e, hl, ha⟩
end
