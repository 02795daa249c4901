/-! the plan's rings in their order; numbers of spaces -/
noncomputable def kyS (L : PLn) (nl s : Nat) : Int := (gx0 (gS L nl) s * 25 + gy0 (gS L nl) s) * 4 + gdr (gS L nl) s
noncomputable def rgs (L : PLn) (nl : Nat) (st ln : Nat → Nat) (k : Nat) : List Nat := orb (gNx L nl) (ln k) (st k)
def RF (L : PLn) (nl nr : Nat) (st ln : Nat → Nat) : Prop :=
  (∀ k, k < nr → st k < 2 * nP L nl ∧ 0 < ln k ∧ itn (gNx L nl) (ln k) (st k) = st k ∧ ∀ m, 0 < m → m < ln k → itn (gNx L nl) m (st k) ≠ st k)
  ∧ (∀ k, k < nr → ∀ q ∈ rgs L nl st ln k, kyS L nl (st k) ≤ kyS L nl q) ∧ (∀ k k', k < k' → k' < nr → kyS L nl (st k) < kyS L nl (st k')) ∧ ∀ s, s < 2 * nP L nl → ∃ k, k < nr ∧ s ∈ rgs L nl st ln k
noncomputable def lfB (L : PLn) (nl : Nat) (st ln : Nat → Nat) (k : Nat) : Bool := decide (0 < gtrn (gS L nl) (rgs L nl st ln k))
/-- how many rings that go round a space come before -/
noncomputable def spn (L : PLn) (nl : Nat) (st ln : Nat → Nat) (k : Nat) : Nat := ((List.range k).filter (lfB L nl st ln)).length
noncomputable def fcS (L : PLn) (nl : Nat) (st : Nat → Nat) (lab : Int → Int → Int) (k : Nat) : Int := gLL (gS L nl) lab (st k)
def LabN (L : PLn) (nl nr : Nat) (st ln : Nat → Nat) (lab : Int → Int → Int) : Prop := gLab (gS L nl) (2 * nP L nl) lab ∧ lab (-1) (-1) = -1 ∧ ∀ k, k < nr → lfB L nl st ln k = true → fcS L nl st lab k = spn L nl st ln k
section RFS
variable {L : PLn} {nl nr : Nat} {st ln : Nat → Nat} {lab : Int → Int → Int}
theorem spn_succ (k : Nat) : spn L nl st ln (k + 1) = spn L nl st ln k + (if lfB L nl st ln k = true then 1 else 0) := by
  unfold spn
  rw [List.range_succ, List.filter_append, List.length_append]
  by_cases h : lfB L nl st ln k = true
  · rw [if_pos h, List.filter_cons_of_pos h]; rfl
  · rw [if_neg h, List.filter_cons_of_neg h]; rfl
theorem spn_mono {j k : Nat} (h : j ≤ k) : spn L nl st ln j ≤ spn L nl st ln k := by
  induction k with
  | zero => rw [show j = 0 by omega]; exact Nat.le_refl _
  | succ k ih =>
    rw [spn_succ]
    by_cases e : j = k + 1
    · rw [e, spn_succ]; exact Nat.le_refl _
    · have := ih (by omega); omega
theorem spn_lt {j k : Nat} (h : j < k) (hj : lfB L nl st ln j = true) : spn L nl st ln j < spn L nl st ln k := by
  have := spn_mono (L := L) (nl := nl) (st := st) (ln := ln) (show j + 1 ≤ k from h)
  rw [spn_succ, if_pos hj] at this
  omega
theorem spn_inj {j k : Nat} (hj : lfB L nl st ln j = true) (hk : lfB L nl st ln k = true) (h : spn L nl st ln j = spn L nl st ln k) : j = k := by
  rcases Nat.lt_trichotomy j k with e | e | e
  · have := spn_lt e hj; omega
  · exact e
  · have := spn_lt e hk; omega
theorem spn_at {n j : Nat} (h : j < spn L nl st ln n) : ∃ k, k < n ∧ lfB L nl st ln k = true ∧ spn L nl st ln k = j := by
  induction n with
  | zero => exact absurd h (Nat.not_lt_zero _)
  | succ n ih =>
    rw [spn_succ] at h
    by_cases e : j < spn L nl st ln n
    · obtain ⟨k, h1, h2⟩ := ih e
      exact ⟨k, by omega, h2⟩
    · by_cases z : lfB L nl st ln n = true
      · rw [if_pos z] at h
        exact ⟨n, by omega, z, by omega⟩
      · rw [if_neg z] at h; omega
theorem spn_le (k : Nat) : spn L nl st ln k ≤ k := by
  unfold spn
  have := List.length_filter_le (lfB L nl st ln) (List.range k)
  rw [List.length_range] at this
  exact this
theorem ky_inj (hg : gdL L nl) {s r : Nat} (hs : s < 2 * nP L nl) (hr : r < 2 * nP L nl) (h : kyS L nl s = kyS L nl r) : s = r := by
  have a := gS_box hg hs
  have b := gS_box hg hr
  have c := gS_d4 hs
  have d := gS_d4 hr
  unfold kyS at h
  exact glv_uni hg hs hr (by omega) (by omega) (by omega)
theorem rgs_lt (h : RF L nl nr st ln) {k q : Nat} (hk : k < nr) (hq : q ∈ rgs L nl st ln k) : q < 2 * nP L nl := by
  obtain ⟨j, _, rfl⟩ := orb_mem.mp hq
  exact itn_lt gNx_lt (h.1 k hk).1 j
theorem rgs_uni (hg : gdL L nl) (h : RF L nl nr st ln) {k k' q : Nat} (hk : k < nr) (hk' : k' < nr) (hq : q ∈ rgs L nl st ln k) (hq' : q ∈ rgs L nl st ln k') : k = k' := by
  have key : ∀ a b, a < nr → b < nr → q ∈ rgs L nl st ln a → q ∈ rgs L nl st ln b → kyS L nl (st a) ≤ kyS L nl (st b) := by
    intro a b ha hb h1 h2
    obtain ⟨a1, a2, a3, a4⟩ := h.1 a ha
    obtain ⟨b1, b2, b3, b4⟩ := h.1 b hb
    have hq := rgs_lt h ha h1
    have e1 := (orb_same gNx_lt (gNx_inj hg) a1 a2 a3 h1)
    have e2 := (orb_same gNx_lt (gNx_inj hg) b1 b2 b3 h2)
    obtain ⟨j, _, ej⟩ := orb_mem.mp ((e2.2 (st b)).mpr (orb_mem.mpr ⟨0, b2, rfl⟩))
    refine h.2.1 a ha _ ?_
    rw [← ej]
    exact (e1.2 _).mp (orb_all a2 e1.1 j)
  have e := Int.le_antisymm (key k k' hk hk' hq hq') (key k' k hk' hk hq' hq)
  rcases Nat.lt_trichotomy k k' with z | z | z
  · have := h.2.2.1 k k' z hk'; omega
  · exact z
  · have := h.2.2.1 k' k z hk; omega
theorem RF_fam (hg : gdL L nl) (h : RF L nl nr st ln) (hl : gLab (gS L nl) (2 * nP L nl) lab) : Fam (gS L nl) (2 * nP L nl) lab nr (rgs L nl st ln) (fcS L nl st lab) := by
  refine ⟨fun k hk => ?_, h.2.2.2, fun k k' hk hk' s h1 h2 => rgs_uni hg h hk hk' h1 h2⟩
  obtain ⟨a1, a2, a3, a4⟩ := h.1 k hk
  refine ⟨orb_RgF hg hl a1 a3 a4, fun z => ?_⟩
  have : st k ∈ rgs L nl st ln k := orb_mem.mpr ⟨0, a2, rfl⟩
  rw [z] at this
  cases this
theorem st_mem (h : RF L nl nr st ln) {k : Nat} (hk : k < nr) : st k ∈ rgs L nl st ln k := orb_mem.mpr ⟨0, (h.1 k hk).2.1, rfl⟩
theorem rgs_rnd (h : RF L nl nr st ln) {k : Nat} (hk : k < nr) : grnd (gNx L nl) (rgs L nl st ln k) := orb_rnd (h.1 k hk).2.1 (h.1 k hk).2.2.1
theorem lfB_i (hg : gdL L nl) (h : RF L nl nr st ln) (hl : gLab (gS L nl) (2 * nP L nl) lab) {k : Nat} (hk : k < nr) : lfB L nl st ln k = true ↔ glft (gS L nl) lab (rgs L nl st ln k) (fcS L nl st lab k) := by
  unfold lfB
  rw [decide_eq_true_eq]
  exact Fam.pos (gS_geo hg hl) (RF_fam hg h hl) hk
theorem lb_fc (hg : gdL L nl) (h : RF L nl nr st ln) (hl : gLab (gS L nl) (2 * nP L nl) lab) {k q : Nat} (hk : k < nr) (hq : q ∈ rgs L nl st ln k) : gLL (gS L nl) lab q = fcS L nl st lab k := (((RF_fam hg h hl).1 k hk).1.2.1 q hq).2
/-- where a ring begins it has its least point -/
theorem st_lst (hg : gdL L nl) (h : RF L nl nr st ln) {k : Nat} (hk : k < nr) : glst (gS L nl) (rgs L nl st ln k) (gx0 (gS L nl) (st k)) (gy0 (gS L nl) (st k)) := by
  refine ⟨⟨st k, st_mem h hk, rfl, rfl⟩, fun q hq => ?_⟩
  have e := h.2.1 k hk q hq
  have a := gS_box hg (h.1 k hk).1
  have b := gS_box hg (rgs_lt h hk hq)
  have c := gS_d4 (h.1 k hk).1
  have d := gS_d4 (rgs_lt h hk hq)
  unfold kyS at e
  omega
/-- of the rings of one space the one round it comes first -/
theorem lf_first (hg : gdL L nl) (h : RF L nl nr st ln) (hl : gLab (gS L nl) (2 * nP L nl) lab) {k k' : Nat} (hk : k < nr) (hk' : k' < nr) (h1 : lfB L nl st ln k = true) (h2 : ¬ lfB L nl st ln k' = true) (e : fcS L nl st lab k = fcS L nl st lab k') : k < k' := by
  have := Fam.lstO (gS_geo hg hl) (RF_fam hg h hl) (fun k hk => rgs_rnd h hk) hk hk' ((lfB_i hg h hl hk).mp h1) (fun z => h2 ((lfB_i hg h hl hk').mpr z)) e (st_lst hg h hk) (st_lst hg h hk')
  rcases Nat.lt_trichotomy k k' with z | z | z
  · exact z
  · rw [z] at this; omega
  · have e2 := h.2.2.1 k' k z hk
    have a := gS_box hg (h.1 k hk).1
    have b := gS_box hg (h.1 k' hk').1
    have c := gS_d4 (h.1 k hk).1
    have d := gS_d4 (h.1 k' hk').1
    unfold kyS at e2
    omega
/-- numbers of spaces -/
theorem LabN.vals (hg : gdL L nl) (h : RF L nl nr st ln) (hL : LabN L nl nr st ln lab) (i j : Int) : lab i j = -1 ∨ ∃ k, k < nr ∧ lfB L nl st ln k = true ∧ lab i j = spn L nl st ln k ∧ fcS L nl st lab k = lab i j := by
  by_cases z : lab i j = -1
  · exact Or.inl z
  · right
    obtain ⟨k, h1, h2, h3⟩ := Fam.left (gS_geo hg hL.1) (RF_fam hg h hL.1) (i := i) (j := j) (by rw [hL.2.1]; exact z)
    have h4 := (lfB_i hg h hL.1 h1).mpr h3
    exact ⟨k, h1, h4, by rw [← h2]; exact hL.2.2 k h1 h4, h2⟩
theorem LabN.fc (hg : gdL L nl) (h : RF L nl nr st ln) (hL : LabN L nl nr st ln lab) {k : Nat} (hk : k < nr) : fcS L nl st lab k = -1 ∨ ∃ k', k' < nr ∧ lfB L nl st ln k' = true ∧ fcS L nl st lab k = spn L nl st ln k' ∧ fcS L nl st lab k' = fcS L nl st lab k := by
  obtain ⟨i, j, e⟩ := Fam.cell (RF_fam hg h hL.1) hk
  rw [← e]
  exact hL.vals hg h i j
theorem LabN.lt (hg : gdL L nl) (h : RF L nl nr st ln) (hL : LabN L nl nr st ln lab) (i j : Int) : lab i j = -1 ∨ ∃ n : Nat, lab i j = n ∧ n < spn L nl st ln nr := by
  rcases hL.vals hg h i j with z | ⟨k, h1, h2, h3, _⟩
  · exact Or.inl z
  · exact Or.inr ⟨_, h3, spn_lt h1 h2⟩
end RFS
