/-! the plan: how many pieces and gaps there can be -/
section
variable {t : TS} {L : PLn} {nl : Nat} {lab : Int → Int → Int} {nd : Nat → Nat}
def nF (L : PLn) (b : Bool) (n : Nat) : Nat := ((List.range n).filter (fun m => pFl L m == b)).length
theorem nF_s (b : Bool) (n : Nat) : nF L b (n + 1) = nF L b n + if pFl L n = b then 1 else 0 := by
  unfold nF
  rw [flt_s]
  by_cases z : pFl L n = b
  · rw [if_pos z, if_pos (by rw [z]; exact beq_self_eq_true b)]
  · rw [if_neg z, if_neg (fun w => z (eq_of_beq w))]
theorem nF_2 (n : Nat) : nF L true n + nF L false n = n := by
  induction n with
  | zero => rfl
  | succ n ih =>
    rw [nF_s, nF_s]
    rcases (show pFl L n = true ∨ pFl L n = false by cases pFl L n <;> simp) with z | z
    · rw [z, if_pos rfl, if_neg (by decide)]; omega
    · rw [z, if_neg (by decide), if_pos rfl]; omega
theorem cts_len2 (hg : gdL L nl) {l : Nat} (hl : l < nl) : (cts L nl l).length ≤ 2 + nF L (!pFl L l) nl := by
  have h1 : cts L nl l ⊆ 0 :: pN L l :: ((List.range nl).filter (fun m => pFl L m == !pFl L l)).map (fun m => if pFl L l = true then pX L m - pX L l else pY L m - pY L l) := by
    intro d hd
    rcases (cts_i hg hl).mp hd with h | h | ⟨h1, m, h2, h3, h4⟩
    · rw [h]; exact List.mem_cons_self
    · rw [h]; exact List.mem_cons_of_mem _ List.mem_cons_self
    · refine List.mem_cons_of_mem _ (List.mem_cons_of_mem _ (List.mem_map.mpr ⟨m, List.mem_filter.mpr ⟨List.mem_range.mpr h2, ?_⟩, ?_⟩))
      · cases e : pFl L m <;> cases e2 : pFl L l <;> rw [e, e2] at h3 <;> first | rfl | exact absurd rfl h3
      · unfold onL at h4
        cases hF : pFl L l with
        | true =>
          have hm : pFl L m = false := by cases e : pFl L m with
            | true => rw [hF, e] at h3; exact absurd rfl h3
            | false => rfl
          have := pHX_f hm; have := aX_t (d := d) hF
          rw [if_pos rfl]; omega
        | false =>
          have hm : pFl L m = true := by cases e : pFl L m with
            | false => rw [hF, e] at h3; exact absurd rfl h3
            | true => rfl
          have := pHX_t hm; have := aX_f (d := d) hF
          rw [if_neg (by decide)]; omega
  have := List.Nodup.length_le_of_subset ((cts_pw (L := L) (nl := nl) l).imp (fun z => Nat.ne_of_lt z)) h1
  rw [List.length_cons, List.length_cons, List.length_map] at this
  unfold nF
  omega
theorem nP_220 (hg : gdL L nl) : nP L nl ≤ 220 := by
  have key : ∀ n, n ≤ nl → (PC L nl n).length ≤ n + nF L true n * nF L false nl + nF L false n * nF L true nl := by
    intro n
    induction n with
    | zero => intro _; simp [PC]
    | succ n ih =>
      intro hn
      rw [PC_succ, List.length_append, nF_s, nF_s]
      have h1 := ih (by omega)
      have h2 := cts_len2 hg (show n < nl by omega)
      have h3 : (pcL L nl n).length = (cts L nl n).length - 1 := by unfold pcL; rw [List.length_map, prs_len]
      rcases (show pFl L n = true ∨ pFl L n = false by cases pFl L n <;> simp) with z | z
      · rw [z] at h2
        have h2 : (cts L nl n).length ≤ 2 + nF L false nl := h2
        rw [z, if_pos rfl, if_neg (by decide), show (nF L true n + 1) * nF L false nl = nF L true n * nF L false nl + nF L false nl from Nat.succ_mul _ _, show (nF L false n + 0) * nF L true nl = nF L false n * nF L true nl from rfl]
        omega
      · rw [z] at h2
        have h2 : (cts L nl n).length ≤ 2 + nF L true nl := h2
        rw [z, if_neg (by decide), if_pos rfl, show (nF L false n + 1) * nF L true nl = nF L false n * nF L true nl + nF L true nl from Nat.succ_mul _ _, show (nF L true n + 0) * nF L false nl = nF L true n * nF L false nl from rfl]
        omega
  have h1 := key nl (Nat.le_refl _)
  have h2 := nF_2 (L := L) nl
  have h3 := hg.1
  have h4 : ∀ a, a ≤ 20 → ∀ b, b ≤ 20 → a + b ≤ 20 → a * b ≤ 100 := by decide
  have h5 := h4 (nF L true nl) (by omega) (nF L false nl) (by omega) (by omega)
  have h6 : nF L false nl * nF L true nl ≤ 100 := by rw [Nat.mul_comm]; exact h5
  unfold nP
  omega
/-- a gap: a door's part in a piece between two spaces -/
def dA (t : TS) (l d : Nat) : Nat := (t.2.2.1 55 (6 * l + d)).toNatClampNeg
def dB (t : TS) (l d : Nat) : Nat := (t.2.2.1 56 (6 * l + d)).toNatClampNeg
noncomputable def okG (t : TS) (L : PLn) (nl : Nat) (lab : Int → Int → Int) (l d p : Nat) : Bool := decide (max (dA t l d) (kAn L nl p) < min (dB t l d) (kB L nl p) ∧ gLL (gS L nl) lab (2 * p) ≠ gLL (gS L nl) lab (2 * p + 1))
noncomputable def gapL (t : TS) (L : PLn) (nl : Nat) (lab : Int → Int → Int) (l d i : Nat) : List (Nat × Nat × Nat) := (((plst L nl l).take i).filter (okG t L nl lab l d)).map (fun p => (l, d, p))
noncomputable def gapD (t : TS) (L : PLn) (nl : Nat) (lab : Int → Int → Int) (l d : Nat) : List (Nat × Nat × Nat) := (List.range d).flatMap (fun d => gapL t L nl lab l d (plst L nl l).length)
noncomputable def gapA (t : TS) (L : PLn) (nl : Nat) (lab : Int → Int → Int) (nd : Nat → Nat) (l : Nat) : List (Nat × Nat × Nat) := (List.range l).flatMap (fun l => gapD t L nl lab l (nd l))
theorem gapL_s {l d i : Nat} (hi : i < (plst L nl l).length) : gapL t L nl lab l d (i + 1) = gapL t L nl lab l d i ++ (if okG t L nl lab l d ((plst L nl l).getD i 0) = true then [(l, d, (plst L nl l).getD i 0)] else []) := by
  unfold gapL
  rw [take_s hi, List.filter_append, List.map_append]
  by_cases z : okG t L nl lab l d ((plst L nl l).getD i 0) = true
  · rw [if_pos z, List.filter_cons_of_pos z]; rfl
  · rw [if_neg z, List.filter_cons_of_neg z]; rfl
theorem gapD_s {l d : Nat} : gapD t L nl lab l (d + 1) = gapD t L nl lab l d ++ gapL t L nl lab l d (plst L nl l).length := by
  unfold gapD
  rw [List.range_succ, List.flatMap_append]
  simp
theorem gapA_s {l : Nat} : gapA t L nl lab nd (l + 1) = gapA t L nl lab nd l ++ gapD t L nl lab l (nd l) := by
  unfold gapA
  rw [List.range_succ, List.flatMap_append]
  simp
theorem gapL_0 {l d : Nat} : gapL t L nl lab l d 0 = [] := by
  unfold gapL
  rw [List.take_zero]
  rfl
theorem gapL_len {l d i : Nat} : (gapL t L nl lab l d i).length ≤ (plst L nl l).length := by
  unfold gapL
  rw [List.length_map]
  exact Nat.le_trans (List.length_filter_le _ _) (by rw [List.length_take]; omega)
theorem gapD_len {l d : Nat} : (gapD t L nl lab l d).length ≤ d * (plst L nl l).length := by
  induction d with
  | zero => exact Nat.zero_le _
  | succ d ih =>
    rw [gapD_s, List.length_append, Nat.succ_mul]
    have := gapL_len (t := t) (L := L) (nl := nl) (lab := lab) (l := l) (d := d) (i := (plst L nl l).length)
    omega
/-- all pieces of the first lines -/
noncomputable def plA (L : PLn) (nl n : Nat) : List Nat := (List.range n).flatMap (plst L nl)
theorem plA_s {n : Nat} : plA L nl (n + 1) = plA L nl n ++ plst L nl n := by
  unfold plA
  rw [List.range_succ, List.flatMap_append]
  simp
theorem plA_len {n : Nat} : (plA L nl n).length ≤ nP L nl := by
  have h : (plA L nl n).Nodup := nd_flat List.nodup_range (fun k _ => (plst_pw k).imp (fun z => Nat.ne_of_lt z)) (fun k _ k' _ q h1 h2 => (plst_m.mp h1).2.symm.trans (plst_m.mp h2).2)
  have := List.Nodup.length_le_of_subset h (l₂ := List.range (nP L nl)) (fun q hq => by
    obtain ⟨k, _, h2⟩ := List.mem_flatMap.mp hq
    exact List.mem_range.mpr (plst_m.mp h2).1)
  rwa [List.length_range] at this
theorem gapA_len {n : Nat} (h : ∀ l, l < n → nd l ≤ 6) : (gapA t L nl lab nd n).length ≤ 6 * (plA L nl n).length := by
  induction n with
  | zero => exact Nat.zero_le _
  | succ n ih =>
    rw [gapA_s, plA_s, List.length_append, List.length_append]
    have h1 := ih (fun l hl => h l (by omega))
    have h2 := gapD_len (t := t) (L := L) (nl := nl) (lab := lab) (l := n) (d := nd n)
    have h3 := Nat.mul_le_mul_right (plst L nl n).length (h n (by omega))
    omega
theorem gapA_1320 (hg : gdL L nl) {n : Nat} (h : ∀ l, l < n → nd l ≤ 6) : (gapA t L nl lab nd n).length ≤ 1320 := by
  have h1 := gapA_len (t := t) (L := L) (nl := nl) (lab := lab) h
  have h2 := plA_len (L := L) (nl := nl) (n := n)
  have h3 := nP_220 hg
  omega
end
