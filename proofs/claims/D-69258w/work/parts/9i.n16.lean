/-! the plan in the reference: pieces -/
theorem prs_get {xs : List Nat} {i : Nat} (h : i + 1 < xs.length) : (prsC xs)[i]? = some (xs.getD i 0, xs.getD (i + 1) 0) := by
  induction xs generalizing i with
  | nil => exact absurd h (Nat.not_lt_zero _)
  | cons a r ih =>
    cases r with
    | nil => simp at h
    | cons b r =>
      cases i with
      | zero => rfl
      | succ i => exact ih (by simpa using h)
section
variable {L : PLn} {nl : Nat} {t : TS}
noncomputable def off (L : PLn) (nl l : Nat) : Nat := (PC L nl l).length
theorem off_succ (l : Nat) : off L nl (l + 1) = off L nl l + ((cts L nl l).length - 1) := by
  unfold off
  rw [PC_succ, List.length_append]
  unfold pcL
  rw [List.length_map, prs_len]
theorem off_mono {l m : Nat} (h : l ≤ m) : off L nl l ≤ off L nl m := by
  induction m with
  | zero => rw [show l = 0 by omega]; exact Nat.le_refl _
  | succ m ih =>
    by_cases e : l = m + 1
    · rw [e]; exact Nat.le_refl _
    · have := ih (by omega); rw [off_succ]; omega
theorem PC_pre {l m p : Nat} (h : l ≤ m) (hp : p < off L nl l) : (PC L nl m)[p]? = (PC L nl l)[p]? := by
  induction m with
  | zero => rw [show l = 0 by omega]
  | succ m ih =>
    by_cases e : l = m + 1
    · rw [e]
    · have h2 := off_mono (L := L) (nl := nl) (show l ≤ m by omega)
      have h3 : p < (PC L nl m).length := Nat.lt_of_lt_of_le hp h2
      rw [PC_succ, List.getElem?_append_left h3]
      exact ih (by omega)
theorem k_at {l i : Nat} (hl : l < nl) (hi : i + 1 < (cts L nl l).length) : off L nl l + i < nP L nl ∧ kL L nl (off L nl l + i) = l ∧ kAn L nl (off L nl l + i) = (cts L nl l).getD i 0 ∧ kB L nl (off L nl l + i) = (cts L nl l).getD (i + 1) 0 := by
  have h1 := off_succ (L := L) (nl := nl) l
  have h2 := off_mono (L := L) (nl := nl) (show l + 1 ≤ nl from hl)
  have e : (PC L nl nl)[off L nl l + i]? = some (l, (cts L nl l).getD i 0, (cts L nl l).getD (i + 1) 0) := by
    rw [PC_pre (l := l + 1) hl (by omega), PC_succ, List.getElem?_append_right (by show off L nl l ≤ _; omega)]
    rw [show off L nl l + i - (PC L nl l).length = i from Nat.add_sub_cancel_left _ _]
    unfold pcL
    rw [List.getElem?_map, prs_get hi]
    rfl
  refine ⟨by show _ < off L nl nl; omega, ?_⟩
  unfold kL kAn kB
  rw [List.getD_eq_getElem?_getD, e]
  exact ⟨rfl, rfl, rfl⟩
noncomputable def qA (L : PLn) (l d : Nat) : Nat := 25 * aX L l d + aY L l d
theorem qA_lt {l d e : Nat} (h : d < e) : qA L l d < qA L l e := by
  unfold qA
  cases hF : pFl L l with
  | true => have := aX_t (d := d) hF; have := aX_t (d := e) hF; omega
  | false => have := aX_f (d := d) hF; have := aX_f (d := e) hF; omega
theorem a_lt (hg : gdL L nl) {l d : Nat} (hl : l < nl) (hd : d ≤ pN L l) : aX L l d < 25 ∧ aY L l d < 25 := by
  have := pX_le hg hl
  have := a_on (L := L) (l := l) hd
  unfold onL at this
  omega
def ptS (L : PLn) (nl : Nat) (ps : List Nat) : Prop := ps.Pairwise (· < ·) ∧ ∀ q, q ∈ ps ↔ isQ L nl q
theorem cts_ps (hg : gdL L nl) {ps : List Nat} (hS : ptS L nl ps) {l d : Nat} (hl : l < nl) (h : d ∈ cts L nl l) : ∃ j, j < ps.length ∧ ps.getD j 0 = qA L l d := by
  obtain ⟨h1, h2⟩ := cts_mem.mp h
  obtain ⟨j, hj, e⟩ := List.getElem_of_mem ((hS.2 (qA L l d)).mpr (isQ_of hg h2))
  exact ⟨j, hj, by rw [getD_lt hj]; exact e⟩
/-- the pieces so far -/
def pcR (t : TS) (L : PLn) (nl : Nat) (ps : List Nat) (n : Nat) : Prop := t.1 130 = Int32.ofNat n ∧ n ≤ nP L nl ∧ ∀ p, p < n → t.2.2.1 68 p = Int32.ofNat (kL L nl p) ∧ ∃ a b, a < ps.length ∧ b < ps.length ∧ ps.getD a 0 = qA L (kL L nl p) (kAn L nl p) ∧ ps.getD b 0 = qA L (kL L nl p) (kB L nl p) ∧ t.2.2.1 69 p = Int32.ofNat a ∧ t.2.2.1 70 p = Int32.ofNat b
theorem pcR_cg {T : TS} {I R : List Nat} {ps : List Nat} {n : Nat} (h : pcR t L nl ps n) (a : agr I R t T) (h0 : 130 ∉ I) (h1 : 68 ∉ R ∧ 69 ∉ R ∧ 70 ∉ R) : pcR T L nl ps n := by
  unfold pcR
  rw [a.1 _ h0, a.2.2.1 _ h1.1, a.2.2.1 _ h1.2.1, a.2.2.1 _ h1.2.2]
  exact h
theorem pcR_add {ps : List Nat} {n a b : Nat} (hg : gdL L nl) (h : pcR t L nl ps n) (hn : n < nP L nl) (ha : a < ps.length) (hb : b < ps.length) (ea : ps.getD a 0 = qA L (kL L nl n) (kAn L nl n)) (eb : ps.getD b 0 = qA L (kL L nl n) (kB L nl n)) : ∃ T, Option.bind (stI t 68 460 (t.1 130) (Int32.ofNat (kL L nl n))) (fun s23 => Option.bind (stI s23 69 460 (s23.1 130) (Int32.ofNat a)) (fun s24 => Option.bind (stI s24 70 460 (s24.1 130) (Int32.ofNat b)) (fun s25 => Option.bind (some (ptI s25 130 ((s25.1 130) + 1))) (fun s26 => some s26)))) = some T ∧ pcR T L nl ps (n + 1) ∧ agr [130] [68, 69, 70] t T := by
  obtain ⟨h1, h2, h3⟩ := h
  have := nP_le hg
  rw [h1, stI_n (by omega) (by omega)]; repeat (first | rw [Option.bind_some] | rw [Sum.elim_inl] | rw [Sum.elim_inr])
  rw [show (wrI t 68 n (Int32.ofNat (kL L nl n))).1 130 = Int32.ofNat n from h1, stI_n (by omega) (by omega)]; repeat (first | rw [Option.bind_some] | rw [Sum.elim_inl] | rw [Sum.elim_inr])
  rw [show (wrI (wrI t 68 n (Int32.ofNat (kL L nl n))) 69 n (Int32.ofNat a)).1 130 = Int32.ofNat n from h1, stI_n (by omega) (by omega)]; repeat (first | rw [Option.bind_some] | rw [Sum.elim_inl] | rw [Sum.elim_inr])
  rw [show (wrI (wrI (wrI t 68 n (Int32.ofNat (kL L nl n))) 69 n (Int32.ofNat a)) 70 n (Int32.ofNat b)).1 130 = Int32.ofNat n from h1, i_suc]
  refine ⟨_, rfl, ⟨rfl, hn, fun p hp => ?_⟩, agr_p (agr_w (agr_w (agr_w agr_refl (by simp)) (by simp)) (by simp)) (by simp)⟩
  rw [pt_2]
  have r8 : (wrI (wrI (wrI t 68 n (Int32.ofNat (kL L nl n))) 69 n (Int32.ofNat a)) 70 n (Int32.ofNat b)).2.2.1 68 p = if p = n then Int32.ofNat (kL L nl n) else t.2.2.1 68 p := by
    rw [wr_at, if_neg (by omega), wr_at, if_neg (by omega), wr_at]; simp only [true_and]
  have r9 : (wrI (wrI (wrI t 68 n (Int32.ofNat (kL L nl n))) 69 n (Int32.ofNat a)) 70 n (Int32.ofNat b)).2.2.1 69 p = if p = n then Int32.ofNat a else t.2.2.1 69 p := by
    rw [wr_at, if_neg (by omega), wr_at]; simp only [true_and]
    rw [wr_at, if_neg (show ¬ ((69 : Nat) = 68 ∧ p = n) by omega)]
  have r0 : (wrI (wrI (wrI t 68 n (Int32.ofNat (kL L nl n))) 69 n (Int32.ofNat a)) 70 n (Int32.ofNat b)).2.2.1 70 p = if p = n then Int32.ofNat b else t.2.2.1 70 p := by
    rw [wr_at]; simp only [true_and]
    rw [wr_at, if_neg (show ¬ ((70 : Nat) = 69 ∧ p = n) by omega), wr_at, if_neg (show ¬ ((70 : Nat) = 68 ∧ p = n) by omega)]
  rw [r8, r9, r0]
  by_cases e : p = n
  · rw [if_pos e, if_pos e, if_pos e, e]
    exact ⟨rfl, a, b, ha, hb, ea, eb, rfl, rfl⟩
  · rw [if_neg e, if_neg e, if_neg e]
    exact h3 p (by omega)
/-- a line's points among the first k: c of them -/
def lnP (L : PLn) (nl : Nat) (ps : List Nat) (l k c : Nat) : Prop := c ≤ (cts L nl l).length ∧ (∀ i, i < c → ∃ j, j < k ∧ j < ps.length ∧ ps.getD j 0 = qA L l ((cts L nl l).getD i 0)) ∧ ∀ i, c ≤ i → i < (cts L nl l).length → ∀ j, j < k → ps.getD j 0 ≠ qA L l ((cts L nl l).getD i 0)
theorem lnP_on (hg : gdL L nl) {ps : List Nat} (hS : ptS L nl ps) {l k c : Nat} (hl : l < nl) (h : lnP L nl ps l k c) (hk : k < ps.length) : (onL L l (ps.getD k 0 / 25) (ps.getD k 0 % 25) → c < (cts L nl l).length ∧ ps.getD k 0 = qA L l ((cts L nl l).getD c 0) ∧ lnP L nl ps l (k + 1) (c + 1)) ∧ (¬ onL L l (ps.getD k 0 / 25) (ps.getD k 0 % 25) → lnP L nl ps l (k + 1) c) := by
  obtain ⟨h1, h2, h3⟩ := h
  have hq := (hS.2 (ps.getD k 0)).mp (by rw [getD_lt hk]; exact List.getElem_mem hk)
  constructor
  · intro ho
    obtain ⟨d, d1, d2, d3⟩ := on_a ho
    have hd : d ∈ cts L nl l := cts_mem.mpr ⟨d1, by rw [← d2, ← d3]; exact hq.2⟩
    have eq : ps.getD k 0 = qA L l d := by unfold qA; rw [← d2, ← d3]; omega
    obtain ⟨i, hi, ei⟩ := List.getElem_of_mem hd
    rw [← getD_lt hi] at ei
    have ic : i = c := by
      rcases Nat.lt_trichotomy i c with z | z | z
      · obtain ⟨j, j1, j2, j3⟩ := h2 i z
        rw [ei, ← eq] at j3
        have := pw_lt hS.1 j1 hk
        omega
      · exact z
      · have hc : c < (cts L nl l).length := by omega
        have := pw_lt (cts_pw (L := L) (nl := nl) l) z hi
        have lt := qA_lt (L := L) (l := l) this
        rw [ei, ← eq] at lt
        obtain ⟨j, j1, j2⟩ := cts_ps hg hS hl (show (cts L nl l).getD c 0 ∈ cts L nl l by rw [getD_lt hc]; exact List.getElem_mem hc)
        have jk : j < k := by
          rcases Nat.lt_trichotomy j k with w | w | w
          · exact w
          · rw [w] at j2; omega
          · have := pw_lt hS.1 w j1; omega
        exact absurd j2 (h3 c (Nat.le_refl _) hc j jk)
    subst ic
    refine ⟨hi, by rw [ei]; exact eq, hi, fun q hq => ?_, fun q hq1 hq2 j hj => ?_⟩
    · by_cases e : q = i
      · rw [e, ei]; exact ⟨k, by omega, hk, eq⟩
      · obtain ⟨j, j1, j2⟩ := h2 q (by omega); exact ⟨j, by omega, j2⟩
    · by_cases e : j = k
      · rw [e, eq]
        have := qA_lt (L := L) (l := l) (pw_lt (cts_pw (L := L) (nl := nl) l) (show i < q by omega) hq2)
        rw [ei] at this
        omega
      · exact h3 q (by omega) hq2 j (by omega)
  · intro ho
    refine ⟨h1, fun i hi => ?_, fun i hi1 hi2 j hj => ?_⟩
    · obtain ⟨j, j1, j2⟩ := h2 i hi; exact ⟨j, by omega, j2⟩
    · by_cases e : j = k
      · rw [e]
        intro z
        have hm := cts_mem.mp (show (cts L nl l).getD i 0 ∈ cts L nl l by rw [getD_lt hi2]; exact List.getElem_mem hi2)
        have := a_lt hg hl hm.1
        have h9 := a_on (L := L) (l := l) hm.1
        unfold qA at z
        rw [z, show (25 * aX L l ((cts L nl l).getD i 0) + aY L l ((cts L nl l).getD i 0)) / 25 = aX L l ((cts L nl l).getD i 0) by omega, show (25 * aX L l ((cts L nl l).getD i 0) + aY L l ((cts L nl l).getD i 0)) % 25 = aY L l ((cts L nl l).getD i 0) by omega] at ho
        exact ho h9
      · exact h3 i hi1 hi2 j (by omega)
theorem lnP_end (hg : gdL L nl) {ps : List Nat} (hS : ptS L nl ps) {l c : Nat} (hl : l < nl) (h : lnP L nl ps l ps.length c) : c = (cts L nl l).length := by
  obtain ⟨h1, h2, h3⟩ := h
  rcases Nat.lt_or_ge c (cts L nl l).length with z | z
  · obtain ⟨j, j1, j2⟩ := cts_ps hg hS hl (show (cts L nl l).getD c 0 ∈ cts L nl l by rw [getD_lt z]; exact List.getElem_mem z)
    exact absurd j2 (h3 c (Nat.le_refl _) z j j1)
  · omega
end
