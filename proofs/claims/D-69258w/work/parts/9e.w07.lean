/-! the warden: what zones and rows are -/
theorem R7_raw {s : CS} {own : Nat → Nat} {t : TS} {np sz mx zm am rl nr na ec : Nat} {P Z ZP A RW od : Nat → Nat} (r : R7x (rs s.1 own 7) t np sz mx zm am rl nr na ec P Z ZP A RW od) : R7x s.1 t np sz mx zm am rl nr na ec P Z ZP A RW od := by
  have hk : ∀ K, hK K (rs s.1 own 7) s.1 := fun K q c _ e => (rs_in e).1
  obtain ⟨r0, r1, r2, r3, r4, r5⟩ := r
  exact ⟨W0_cg r0 (hk _) rfl rfl (fun _ _ => rfl), W1_cg r1 (hk _) rfl rfl (fun _ _ => rfl), W2_cg r2 (hk _) rfl rfl rfl, W3_cg r3 (hk _) rfl (fun _ _ => rfl), W4_cg r4 (hk _) (fun _ _ => rfl), W5_cg r5 (hk _) rfl rfl (fun _ _ => rfl)⟩
theorem R7b_raw {s : CS} {own : Nat → Nat} {t : TS} {np sz mx zm am rl nr na ec B : Nat} {P Z ZP A RW od : Nat → Nat} (r : R7b (rs s.1 own 7) t np sz mx zm am rl nr na ec P Z ZP A RW od B) : R7b s.1 t np sz mx zm am rl nr na ec P Z ZP A RW od B := by
  have hk : ∀ K, hK K (rs s.1 own 7) s.1 := fun K q c _ e => (rs_in e).1
  obtain ⟨r0, r1, r2, r3, r4, r5⟩ := r
  exact ⟨W0_cg r0 (hk _) rfl rfl (fun _ _ => rfl), W1_cg r1 (hk _) rfl rfl (fun _ _ => rfl), W2_cg r2 (hk _) rfl rfl rfl, W3_cg r3 (hk _) rfl (fun _ _ => rfl), W4_cg r4 (hk _) (fun _ _ => rfl), W5b_cg r5 (hk _) rfl (fun _ _ => rfl)⟩
def cntB (t : TS) (p : Nat) : Bool := decide (t.2.2.1 100 p = 0) && decide (¬ t.1 301 < t.2.2.1 101 p)
def onB (t : TS) (p : Nat) : Bool := decide (¬ t.2.2.1 99 p < 50) && cntB t p
def zpt (t : TS) (z i : Nat) : Nat := bN (t.2.2.1 108 (12 * z + i))
def zOn (t : TS) (z n : Nat) : Nat := ((List.range n).filter (fun i => onB t (zpt t z i))).length
def zAl (t : TS) (z n : Nat) : Nat := ((List.range n).filter (fun i => cntB t (zpt t z i))).length
theorem zOn_le (t : TS) (z n : Nat) : zOn t z n ≤ n := by
  have := List.length_filter_le (fun i => onB t (zpt t z i)) (List.range n)
  rw [List.length_range] at this; exact this
theorem zAl_le (t : TS) (z n : Nat) : zAl t z n ≤ n := by
  have := List.length_filter_le (fun i => cntB t (zpt t z i)) (List.range n)
  rw [List.length_range] at this; exact this
def isOnB (t : TS) (z : Nat) : Bool := decide (¬ Int32.ofNat (zOn t z (bN (t.2.2.1 107 z))) < t.2.2.1 106 z)
def isSuB (t : TS) (z : Nat) : Bool := decide (0 < zAl t z (bN (t.2.2.1 107 z))) && decide (zOn t z (bN (t.2.2.1 107 z)) = zAl t z (bN (t.2.2.1 107 z)))
theorem c_cnt {s : CS} {t : TS} {p a : Nat} (h : s.1 a = some (ptC t p)) : c_968 a (t.1 301) s = some (if cntB t p = true then 1 else 0) := by
  unfold c_968 cntB
  rw [xI_o (x := t.2.2.1 100 p) h rfl rfl, Option.bind_some, xI_o (x := t.2.2.1 101 p) h rfl rfl, Option.bind_some]
  by_cases h1 : t.2.2.1 100 p = 0
  · by_cases h2 : t.1 301 < t.2.2.1 101 p
    · simp [h1, h2]
    · simp [h1, h2]
  · simp [h1]
theorem c_on {s : CS} {t : TS} {p a : Nat} (h : s.1 a = some (ptC t p)) : c_967 a (t.1 301) s = some (if onB t p = true then 1 else 0) := by
  unfold c_967 onB
  rw [xI_o (x := t.2.2.1 99 p) h rfl rfl, Option.bind_some, if_pos (isK_t h rfl), c_cnt h, Option.bind_some]
  by_cases h1 : t.2.2.1 99 p < 50
  · simp [h1]
  · cases cntB t p <;> simp [h1]
theorem t_cnt {t : TS} {p : Nat} (h : p < 50) : t_799 (Int32.ofNat p) t = some (if cntB t p = true then 1 else 0) := by
  unfold t_799 cntB
  rw [rdI_n h (by omega), Option.bind_some, rdI_n h (by omega), Option.bind_some]
  by_cases h1 : t.2.2.1 100 p = 0
  · by_cases h2 : t.1 301 < t.2.2.1 101 p
    · simp [h1, h2]
    · simp [h1, h2]
  · simp [h1]
section
variable {h : lHeap} {s : CS} {t : TS} {np sz mx zm am rl nr na ec : Nat} {P Z ZP A RW od : Nat → Nat}
theorem zon_of (hnp : np ≤ 50) (r : W3 h t np mx zm am rl nr na Z ZP A RW od) {z : Nat} (hz : z < 20) (ht : t.2.2.1 105 z = 1) : ∃ n, n ≤ 12 ∧ bN (t.2.2.1 107 z) = n ∧ t.2.2.1 107 z = Int32.ofNat n ∧ h (Z z) = some (zonC t ZP z) ∧ (∃ mc : Int32, h (ZP z) = some (true, false, 1013, .int mc :: rowC (fun i => .int (t.2.2.1 108 (12 * z + i))) n)) ∧ (∀ i, i < n → t.2.2.1 108 (12 * z + i) = Int32.ofNat (zpt t z i) ∧ zpt t z i < np) ∧ (∃ v, v < 13 ∧ t.2.2.1 106 z = Int32.ofNat v) := by
  obtain ⟨_, _, _, _, _, _, _, r12, _⟩ := r
  obtain ⟨b1, b2, b3, b4, n, b5, b6, b7, b8⟩ := (r12 z hz).2.2 ht
  refine ⟨n, b5, by rw [b6]; exact i_clamp (by omega), b6, b1, b7, fun i hi => ?_, b4⟩
  obtain ⟨v, v1, v2⟩ := b8 i hi
  unfold zpt
  rw [v2]
  have : bN (Int32.ofNat v) = v := i_clamp (by omega)
  rw [this]; exact ⟨rfl, v1⟩
theorem c_onOf {B : Nat} (r : R7b s.1 t np sz mx zm am rl nr na ec P Z ZP A RW od B) {z : Nat} (hz : z < 20) (ht : t.2.2.1 105 z = 1) : c_508 151 (Z z) s = some (Int32.ofNat (zOn t z (bN (t.2.2.1 107 z)))) := by
  obtain ⟨⟨r0, _⟩, ⟨⟨mp, q1⟩, q2, q3, q4, q5, _⟩, _, r3, _⟩ := r
  obtain ⟨n, n1, n2, n3, n4, ⟨mc, n5⟩, n6, _⟩ := zon_of q3 r3 hz ht
  rw [n2]
  suffices q : Tr (c_508 151 (Z z) s) (fun x => x = Int32.ofNat (zOn t z n)) by
    obtain ⟨x, h1, h2⟩ := q
    rw [h1, h2]
  unfold c_508
  refine Tr.bd (P := fun x => x = Int32.ofNat (zOn t z n)) (wh_cnt n (fun i a => a = (Int32.ofNat (zOn t z i), Int32.ofNat i)) ?_ ?_ rfl) (fun _ e => ⟨_, rfl, e⟩)
  · rintro i _ hi rfl
    obtain ⟨m1, m2⟩ := n6 i hi
    have hp := (q5 _ m2).1
    refine Or.inr ⟨_, ?_, rfl⟩
    dsimp only
    rw [xN_o n4 rfl rfl, Option.bind_some, if_pos (isK_t n5 rfl), alSize_r n5, Option.bind_some, if_pos ((i_lt (by omega) (by omega)).mpr hi), xN_o r0 rfl rfl, Option.bind_some, Option.bind_some, if_pos (isK_t n5 rfl), alGet_r n5 hi (by omega), Option.bind_some]
    show Option.bind (some (t.2.2.1 108 (12 * z + i))) _ = _
    rw [Option.bind_some, if_pos (isK_t q1 rfl), m1, alGet_r q1 m2 (by omega), Option.bind_some, toN_o hp rfl, Option.bind_some, xI_o (x := t.1 301) r0 rfl rfl, Option.bind_some, if_pos (isK_t hp rfl), c_on hp, Option.bind_some, i_suc]
    unfold zOn
    rw [flen_suc]
    cases onB t (zpt t z i) with
    | true => simp only [if_true, show ¬ (1 : Int32) = 0 by decide, if_false, Option.bind_some, i_suc]
    | false => simp [Int32.add_zero]
  · rintro _ rfl
    refine ⟨_, ?_, rfl⟩
    dsimp only
    rw [xN_o n4 rfl rfl, Option.bind_some, if_pos (isK_t n5 rfl), alSize_r n5, Option.bind_some, if_neg (by rw [i_lt (by omega) (by omega)]; omega)]
theorem c_isOn {B : Nat} (r : R7b s.1 t np sz mx zm am rl nr na ec P Z ZP A RW od B) {z : Nat} (hz : z < 20) (ht : t.2.2.1 105 z = 1) : c_507 151 (Z z) s = some (if isOnB t z = true then 1 else 0) := by
  have e := c_onOf r hz ht
  obtain ⟨⟨r0, _⟩, ⟨_, _, q3, _⟩, _, r3, _⟩ := r
  obtain ⟨n, n1, n2, n3, n4, _⟩ := zon_of q3 r3 hz ht
  unfold c_507 isOnB
  rw [if_pos (isK_t r0 rfl), e, Option.bind_some, xI_o (x := t.2.2.1 106 z) n4 rfl rfl, Option.bind_some]
  by_cases y : Int32.ofNat (zOn t z (bN (t.2.2.1 107 z))) < t.2.2.1 106 z
  · simp [y]
  · simp [y]
theorem c_isSu {B : Nat} (r : R7b s.1 t np sz mx zm am rl nr na ec P Z ZP A RW od B) {z : Nat} (hz : z < 20) (ht : t.2.2.1 105 z = 1) : c_509 151 (Z z) s = some (if isSuB t z = true then 1 else 0) := by
  have e := c_onOf r hz ht
  obtain ⟨⟨r0, _⟩, ⟨⟨mp, q1⟩, q2, q3, q4, q5, _⟩, _, r3, _⟩ := r
  obtain ⟨n, n1, n2, n3, n4, ⟨mc, n5⟩, n6, _⟩ := zon_of q3 r3 hz ht
  unfold isSuB
  rw [n2] at e ⊢
  suffices q : Tr (c_509 151 (Z z) s) (fun x => x = if (decide (0 < zAl t z n) && decide (zOn t z n = zAl t z n)) = true then 1 else 0) by
    obtain ⟨x, h1, h2⟩ := q
    rw [h1, h2]
  unfold c_509
  refine Tr.bd (P := fun x => x = Int32.ofNat (zAl t z n)) (wh_cnt n (fun i a => a = (Int32.ofNat (zAl t z i), Int32.ofNat i)) ?_ ?_ rfl) ?_
  · rintro i _ hi rfl
    obtain ⟨m1, m2⟩ := n6 i hi
    have hp := (q5 _ m2).1
    refine Or.inr ⟨_, ?_, rfl⟩
    dsimp only
    rw [xN_o n4 rfl rfl, Option.bind_some, if_pos (isK_t n5 rfl), alSize_r n5, Option.bind_some, if_pos ((i_lt (by omega) (by omega)).mpr hi), xN_o r0 rfl rfl, Option.bind_some, Option.bind_some, if_pos (isK_t n5 rfl), alGet_r n5 hi (by omega), Option.bind_some]
    show Option.bind (some (t.2.2.1 108 (12 * z + i))) _ = _
    rw [Option.bind_some, if_pos (isK_t q1 rfl), m1, alGet_r q1 m2 (by omega), Option.bind_some, toN_o hp rfl, Option.bind_some, xI_o (x := t.1 301) r0 rfl rfl, Option.bind_some, if_pos (isK_t hp rfl), c_cnt hp, Option.bind_some, i_suc]
    unfold zAl
    rw [flen_suc]
    cases cntB t (zpt t z i) with
    | true => simp only [if_true, show ¬ (1 : Int32) = 0 by decide, if_false, Option.bind_some, i_suc]
    | false => simp [Int32.add_zero]
  · rintro _ rfl
    refine ⟨_, ?_, rfl⟩
    dsimp only
    rw [xN_o n4 rfl rfl, Option.bind_some, if_pos (isK_t n5 rfl), alSize_r n5, Option.bind_some, if_neg (by rw [i_lt (by omega) (by omega)]; omega)]
  · rintro _ rfl
    have l1 := zAl_le t z n
    have l2 := zOn_le t z n
    rw [if_pos (isK_t r0 rfl), e, Option.bind_some]
    by_cases y1 : 0 < zAl t z n
    · rw [if_pos ((i_Llt (by omega) (by omega)).mpr y1)]
      by_cases y2 : zOn t z n = zAl t z n
      · rw [if_pos (by rw [y2]), if_pos (by simp [y1, y2])]; exact ⟨_, rfl, rfl⟩
      · rw [if_neg (fun q => y2 ((i_inj (by omega) (by omega)).mp q)), if_neg (by simp [y2])]; exact ⟨_, rfl, rfl⟩
    · rw [if_neg (fun q => y1 ((i_Llt (by omega) (by omega)).mp q)), if_neg (by simp [y1])]; exact ⟨_, rfl, rfl⟩
theorem t_ofZ (hnp : np ≤ 50) (r3 : W3 h t np mx zm am rl nr na Z ZP A RW od) {z : Nat} (hz : z < 20) (ht : t.2.2.1 105 z = 1) : t_798 (Int32.ofNat z) 1 t = some (Int32.ofNat (zOn t z (bN (t.2.2.1 107 z)))) ∧ t_798 (Int32.ofNat z) 0 t = some (Int32.ofNat (zAl t z (bN (t.2.2.1 107 z)))) := by
  obtain ⟨n, n1, n2, n3, n4, ⟨mc, n5⟩, n6, _⟩ := zon_of hnp r3 hz ht
  rw [n2]
  have key : ∀ (v : Int32) (g : Nat → Nat), g 0 = 0 → (∀ i, i < n → (if (if cntB t (zpt t z i) = true then (1 : Int32) else 0) = 0 then some (0 : Int32) else (if v = 0 then some 1 else Option.bind (some (t.2.2.1 99 (zpt t z i))) (fun x4 => (if x4 < 50 then some 0 else some 1)))) = some (Int32.ofNat (g (i + 1) - g i)) ∧ g i ≤ g (i + 1)) → t_798 (Int32.ofNat z) v t = some (Int32.ofNat (g n)) := by
    intro v g g0 hg
    suffices q : Tr (t_798 (Int32.ofNat z) v t) (fun x => x = Int32.ofNat (g n)) by
      obtain ⟨x, h1, h2⟩ := q
      rw [h1, h2]
    unfold t_798
    refine Tr.bd (P := fun x => x = Int32.ofNat (g n)) (wh_cnt n (fun i a => a = (Int32.ofNat (g i), Int32.ofNat i)) ?_ ?_ (by rw [g0]; rfl)) (fun _ e => ⟨_, rfl, e⟩)
    · rintro i _ hi rfl
      obtain ⟨m1, m2⟩ := n6 i hi
      refine Or.inr ⟨_, ?_, rfl⟩
      dsimp only
      rw [rdI_n (by omega) (by omega), n3, Option.bind_some, if_pos ((i_lt (by omega) (by omega)).mpr hi), i_mulL, i_add, rdI_n (by omega) (by omega), m1, Option.bind_some, t_cnt (by omega), Option.bind_some, rdI_n (by omega) (by omega), (hg i hi).1, Option.bind_some, i_add, i_suc, Nat.add_sub_cancel' (hg i hi).2]
    · rintro _ rfl
      refine ⟨_, ?_, rfl⟩
      dsimp only
      rw [rdI_n (by omega) (by omega), n3, Option.bind_some, if_neg (by rw [i_lt (by omega) (by omega)]; omega)]
  refine ⟨key 1 (zOn t z) rfl (fun i hi => ?_), key 0 (zAl t z) rfl (fun i hi => ?_)⟩
  · unfold zOn
    rw [flen_suc]
    unfold onB
    rw [Option.bind_some]
    by_cases y : t.2.2.1 99 (zpt t z i) < 50
    · cases cntB t (zpt t z i) <;> simp [y]
    · cases cntB t (zpt t z i) <;> simp [y]
  · unfold zAl
    rw [flen_suc]
    cases cntB t (zpt t z i) <;> simp
theorem t_isOn (hnp : np ≤ 50) (r3 : W3 h t np mx zm am rl nr na Z ZP A RW od) {z : Nat} (hz : z < 20) (ht : t.2.2.1 105 z = 1) : t_797 (Int32.ofNat z) t = some (if isOnB t z = true then 1 else 0) := by
  unfold t_797 isOnB
  rw [(t_ofZ hnp r3 hz ht).1, Option.bind_some, rdI_n (by omega) (by omega), Option.bind_some]
  by_cases y : Int32.ofNat (zOn t z (bN (t.2.2.1 107 z))) < t.2.2.1 106 z
  · simp [y]
  · simp [y]
theorem t_isSu (hnp : np ≤ 50) (r3 : W3 h t np mx zm am rl nr na Z ZP A RW od) {z : Nat} (hz : z < 20) (ht : t.2.2.1 105 z = 1) : t_800 (Int32.ofNat z) t = some (if isSuB t z = true then 1 else 0) := by
  obtain ⟨n, n1, n2, _⟩ := zon_of hnp r3 hz ht
  unfold t_800 isSuB
  rw [(t_ofZ hnp r3 hz ht).1, (t_ofZ hnp r3 hz ht).2, n2, Option.bind_some, Option.bind_some]
  have l1 := zAl_le t z n
  have l2 := zOn_le t z n
  by_cases y1 : 0 < zAl t z n
  · rw [if_pos ((i_Llt (by omega) (by omega)).mpr y1)]
    by_cases y2 : zOn t z n = zAl t z n
    · rw [if_pos (by rw [y2]), if_pos (by simp [y1, y2])]
    · rw [if_neg (fun q => y2 ((i_inj (by omega) (by omega)).mp q)), if_neg (by simp [y2])]
  · rw [if_neg (fun q => y1 ((i_Llt (by omega) (by omega)).mp q)), if_neg (by simp [y1])]
/-! rows -/
def metB (t : TS) (q : Nat) : Bool := isOnB t (bN (t.2.2.1 114 q)) && (decide (t.2.2.1 115 q = -1) || isOnB t (bN (t.2.2.1 115 q)))
def surB (t : TS) (q : Nat) : Bool := metB t q && (isSuB t (bN (t.2.2.1 114 q)) || (!decide (t.2.2.1 115 q = -1) && isSuB t (bN (t.2.2.1 115 q))))
def calB (t : TS) (a : Nat) (su : Bool) : Nat → Bool
  | 0 => false
  | q + 1 => calB t a su q || (decide (t.2.2.1 116 q = Int32.ofNat a) && (if su then surB t q else metB t q))
theorem calB_suc (t : TS) (a : Nat) (su : Bool) (q : Nat) : calB t a su (q + 1) = (calB t a su q || (decide (t.2.2.1 116 q = Int32.ofNat a) && (if su then surB t q else metB t q))) := rfl
theorem row_of (r3 : W3 h t np mx zm am rl nr na Z ZP A RW od) {q : Nat} (hq : q < nr) : h (RW q) = some (rowK t Z A q) ∧ (t.2.2.1 114 q = Int32.ofNat (bN (t.2.2.1 114 q)) ∧ bN (t.2.2.1 114 q) < 20 ∧ t.2.2.1 105 (bN (t.2.2.1 114 q)) = 1) ∧ (t.2.2.1 115 q = -1 ∨ (t.2.2.1 115 q = Int32.ofNat (bN (t.2.2.1 115 q)) ∧ bN (t.2.2.1 115 q) < 20 ∧ t.2.2.1 105 (bN (t.2.2.1 115 q)) = 1)) ∧ t.2.2.1 116 q = Int32.ofNat (bN (t.2.2.1 116 q)) ∧ bN (t.2.2.1 116 q) < 20 ∧ t.2.2.1 109 (bN (t.2.2.1 116 q)) = 1 := by
  obtain ⟨_, _, _, _, _, _, _, _, r13, _⟩ := r3
  obtain ⟨a1, a2, ⟨a3, a4⟩, a5, a6, a7⟩ := r13 q hq
  have b3 := bel_n a3 (by omega)
  have b6 := bel_n a6 (by omega)
  refine ⟨a1, ⟨b3.1, b3.2, a4⟩, ?_, b6.1, b6.2, a7⟩
  rcases a5 with y | ⟨y1, y2⟩
  · exact Or.inl y
  · have b5 := bel_n y1 (by omega)
    exact Or.inr ⟨b5.1, b5.2, y2⟩
theorem c_met {B : Nat} (r : R7b s.1 t np sz mx zm am rl nr na ec P Z ZP A RW od B) {q : Nat} (hq : q < nr) : c_506 151 (RW q) s = some (if metB t q = true then 1 else 0) := by
  obtain ⟨a1, ⟨a2, a3, a4⟩, a5, _⟩ := row_of r.2.2.2.1 hq
  have r0 := r.1.1
  unfold c_506 metB
  rw [xN_o (b := Z (bN (t.2.2.1 114 q))) a1 rfl rfl, Option.bind_some, if_pos (isK_t r0 rfl), c_isOn r a3 a4, Option.bind_some]
  cases isOnB t (bN (t.2.2.1 114 q)) with
  | false => simp
  | true =>
    rw [if_pos rfl, if_neg (by decide)]
    rcases a5 with y | ⟨y1, y2, y3⟩
    · rw [xR_z a1 rfl (by show some (if t.2.2.1 115 q = -1 then Value.null else _) = _; rw [if_pos y]), Option.bind_some, if_pos rfl]
      simp [y]
    · have hne : ¬ t.2.2.1 115 q = -1 := by rw [y1]; exact i_ne1 (by omega)
      have hv : (rowK t Z A q).2.2.2[1]? = some (.ref (Z (bN (t.2.2.1 115 q)))) := by
        show some (if t.2.2.1 115 q = -1 then Value.null else _) = _
        rw [if_neg hne]
      rw [xR_o a1 rfl hv, Option.bind_some, if_neg (by simp), xN_o a1 rfl hv, Option.bind_some, if_pos (isK_t r0 rfl), c_isOn r y2 y3, Option.bind_some]
      cases isOnB t (bN (t.2.2.1 115 q)) <;> simp [hne]
theorem c_sur {B : Nat} (r : R7b s.1 t np sz mx zm am rl nr na ec P Z ZP A RW od B) {q : Nat} (hq : q < nr) : c_505 151 (RW q) s = some (if surB t q = true then 1 else 0) := by
  obtain ⟨a1, ⟨a2, a3, a4⟩, a5, _⟩ := row_of r.2.2.2.1 hq
  have r0 := r.1.1
  unfold c_505 surB
  rw [if_pos (isK_t r0 rfl), c_met r hq, Option.bind_some]
  cases metB t q with
  | false => simp
  | true =>
    rw [if_pos rfl, if_neg (by decide), xN_o (b := Z (bN (t.2.2.1 114 q))) a1 rfl rfl, Option.bind_some, if_pos (isK_t r0 rfl), c_isSu r a3 a4, Option.bind_some]
    cases isSuB t (bN (t.2.2.1 114 q)) with
    | true => simp
    | false =>
      simp only [Bool.false_eq_true, if_false, if_true]
      rcases a5 with y | ⟨y1, y2, y3⟩
      · rw [xR_z a1 rfl (by show some (if t.2.2.1 115 q = -1 then Value.null else _) = _; rw [if_pos y]), Option.bind_some, if_pos rfl]
        simp [y]
      · have hne : ¬ t.2.2.1 115 q = -1 := by rw [y1]; exact i_ne1 (by omega)
        have hv : (rowK t Z A q).2.2.2[1]? = some (.ref (Z (bN (t.2.2.1 115 q)))) := by
          show some (if t.2.2.1 115 q = -1 then Value.null else _) = _
          rw [if_neg hne]
        rw [xR_o a1 rfl hv, Option.bind_some, if_neg (by simp), xN_o a1 rfl hv, Option.bind_some, if_pos (isK_t r0 rfl), c_isSu r y2 y3, Option.bind_some]
        cases isSuB t (bN (t.2.2.1 115 q)) <;> simp [hne]
theorem t_met (hnp : np ≤ 50) (hnr : nr ≤ 50) (r3 : W3 h t np mx zm am rl nr na Z ZP A RW od) {q : Nat} (hq : q < nr) : t_796 (Int32.ofNat q) t = some (if metB t q = true then 1 else 0) := by
  obtain ⟨a1, ⟨a2, a3, a4⟩, a5, _⟩ := row_of r3 hq
  have i1 := t_isOn hnp r3 a3 a4
  rw [← a2] at i1
  unfold t_796 metB
  rw [rdI_n (by omega) (by omega), Option.bind_some, i1, Option.bind_some, rdI_n (by omega) (by omega), Option.bind_some]
  cases isOnB t (bN (t.2.2.1 114 q)) with
  | false => simp
  | true =>
    rw [if_pos rfl, if_neg (by decide)]
    rcases a5 with y | ⟨y1, y2, y3⟩
    · rw [y]; simp
    · have hne : ¬ t.2.2.1 115 q = -1 := by rw [y1]; exact i_ne1 (by omega)
      have hlt : ¬ t.2.2.1 115 q < 0 := by rw [y1]; exact i_nlt0 (by omega)
      have i2 := t_isOn hnp r3 y2 y3
      rw [← y1] at i2
      rw [if_neg hlt, Option.bind_some, i2, Option.bind_some]
      cases isOnB t (bN (t.2.2.1 115 q)) <;> simp [hne]
theorem c_called {B : Nat} (r : R7b s.1 t np sz mx zm am rl nr na ec P Z ZP A RW od B) {a : Nat} (ha : a < 20) (hta : t.2.2.1 109 a = 1) (su : Bool) : c_504 151 (A a) (if su then 1 else 0) s = some (if calB t a su nr = true then 1 else 0) := by
  have r0 := r.1.1
  have r' := r
  obtain ⟨_, _, _, ⟨w1, _, _, _, ⟨mr, w9⟩, w10, w11, _⟩, ⟨w4, w4'⟩, _⟩ := r'
  suffices g : Tr (c_504 151 (A a) (if su then 1 else 0) s) (fun x => x = if calB t a su nr = true then 1 else 0) by
    obtain ⟨x, h1, h2⟩ := g
    rw [h1, h2]
  unfold c_504
  have cm : ∀ q b, q ≤ nr → b ≤ q → calB t a su b = true → calB t a su q = true := by
    intro q
    induction q with
    | zero => intro b _ hb h; rw [show b = 0 by omega] at h; exact h
    | succ q ih =>
      intro b h1 h2 h3
      by_cases y : b = q + 1
      · rw [← y]; exact h3
      · rw [calB_suc, ih b (by omega) (by omega) h3]; rfl
  refine Tr.bd (P := fun x => x = if calB t a su nr = true then 1 else 0) (wh_cnt nr (fun i st => st = ((if calB t a su i = true then 1 else 0), Int32.ofNat i)) ?_ ?_ rfl) ?_
  · rintro i _ hi rfl
    obtain ⟨a1, _, _, a6, a7, a8⟩ := row_of r.2.2.2.1 hi
    dsimp only
    rw [xN_o (b := mx) r0 rfl rfl, Option.bind_some, xN_o (b := rl) w1 rfl rfl, Option.bind_some, if_pos (isK_t w9 rfl), alSize_r w9, Option.bind_some, if_pos ((i_lt (by omega) (by omega)).mpr hi)]
    cases hc : calB t a su i with
    | true =>
      refine Or.inl ⟨1, by simp, ?_⟩
      rw [cm nr i (Nat.le_refl _) (by omega) hc]; rfl
    | false =>
      refine Or.inr ⟨((if calB t a su (i + 1) = true then 1 else 0), Int32.ofNat (i + 1)), ?_, rfl⟩
      simp only [Bool.false_eq_true, if_false, if_true]
      rw [Option.bind_some, xN_o (b := rl) w1 rfl rfl, Option.bind_some, if_pos (isK_t w9 rfl), alGet_r w9 hi (by omega), Option.bind_some, toN_o a1 rfl, Option.bind_some, xR_o (b := A (bN (t.2.2.1 116 i))) a1 rfl rfl, Option.bind_some, i_suc]
      rw [calB_suc, hc, Bool.false_or]
      by_cases y : bN (t.2.2.1 116 i) = a
      · have e116 : t.2.2.1 116 i = Int32.ofNat a := by rw [← y]; exact a6
        rw [if_pos (by rw [y]), if_pos (isK_t r0 rfl), if_pos (isK_t r0 rfl), c_met r hi, c_sur r hi, Option.bind_some, Option.bind_some, e116]
        cases su with
        | true => cases surB t i <;> simp
        | false => cases metB t i <;> simp
      · have hne : ¬ some (A (bN (t.2.2.1 116 i))) = some (A a) := fun z => y (w4' _ _ a7 ha a8 hta (Option.some.inj z))
        have hne2 : ¬ t.2.2.1 116 i = Int32.ofNat a := fun z => y (by rw [z]; exact i_clamp (by omega))
        have hA := (w4 _ a7 a8).1
        rw [if_neg hne, if_pos (by show nst s (.ref _) = true; unfold nst; simp only [hA]; rfl), Option.bind_some]
        simp [hne2]
  · rintro _ rfl
    refine ⟨_, ?_, rfl⟩
    dsimp only
    rw [xN_o (b := mx) r0 rfl rfl, Option.bind_some, xN_o (b := rl) w1 rfl rfl, Option.bind_some, if_pos (isK_t w9 rfl), alSize_r w9, Option.bind_some, if_neg (by rw [i_lt (by omega) (by omega)]; omega)]
  · rintro _ rfl
    refine ⟨_, if_pos ?_, rfl⟩
    exact fit01 (by unfold v01; cases calB t a su nr <;> simp)
theorem t_called (hnp : np ≤ 50) (r3 : W3 h t np mx zm am rl nr na Z ZP A RW od) {a : Nat} (ha : a < 20) (su : Bool) : t_795 (Int32.ofNat a) (if su then 1 else 0) t = some (if calB t a su nr = true then 1 else 0) := by
  have r3' := r3
  obtain ⟨_, _, _, _, _, w10, w11, _⟩ := r3'
  suffices g : Tr (t_795 (Int32.ofNat a) (if su then 1 else 0) t) (fun x => x = if calB t a su nr = true then 1 else 0) by
    obtain ⟨x, h1, h2⟩ := g
    rw [h1, h2]
  unfold t_795
  refine Tr.bd (P := fun x => x = if calB t a su nr = true then 1 else 0) (wh_cnt nr (fun i st => st = ((if calB t a su i = true then 1 else 0), Int32.ofNat i)) ?_ ?_ rfl) ?_
  · rintro i _ hi rfl
    obtain ⟨a1, ⟨b1, b2, b3⟩, b5, a6, a7, a8⟩ := row_of r3 hi
    have i1 := t_isSu hnp r3 b2 b3
    rw [← b1] at i1
    refine Or.inr ⟨_, ?_, rfl⟩
    dsimp only
    rw [w10, if_pos ((i_lt (by omega) (by omega)).mpr hi), rdI_n (by omega) (by omega), Option.bind_some, t_met hnp w11 r3 hi, Option.bind_some, i_suc]
    have e21 : (if t.2.2.1 116 i = Int32.ofNat a then (if (if metB t i = true then (1 : Int32) else 0) = 0 then some (0 : Int32) else some 1) else some 0) = some (if (decide (t.2.2.1 116 i = Int32.ofNat a) && metB t i) = true then 1 else 0) := by
      by_cases y : t.2.2.1 116 i = Int32.ofNat a <;> cases metB t i <;> simp [y]
    rw [e21, Option.bind_some, rdI_n (by omega) (by omega), Option.bind_some, i1, Option.bind_some, rdI_n (by omega) (by omega), Option.bind_some]
    have e46 : (if (if isSuB t (bN (t.2.2.1 114 i)) = true then (1 : Int32) else 0) = 0 then (if t.2.2.1 115 i < 0 then some (0 : Int32) else Option.bind (some (t.2.2.1 115 i)) (fun x6 => Option.bind (t_800 x6 t) (fun x7 => if x7 = 0 then some 0 else some 1))) else some 1) = some (if (isSuB t (bN (t.2.2.1 114 i)) || (!decide (t.2.2.1 115 i = -1) && isSuB t (bN (t.2.2.1 115 i)))) = true then 1 else 0) := by
      cases isSuB t (bN (t.2.2.1 114 i)) with
      | true => simp
      | false =>
        simp only [Bool.false_eq_true, if_false, if_true]
        rcases b5 with y | ⟨y1, y2, y3⟩
        · rw [y]; simp
        · have hne : ¬ t.2.2.1 115 i = -1 := by rw [y1]; exact i_ne1 (by omega)
          have hlt : ¬ t.2.2.1 115 i < 0 := by rw [y1]; exact i_nlt0 (by omega)
          have i2 := t_isSu hnp r3 y2 y3
          rw [← y1] at i2
          rw [if_neg hlt, Option.bind_some, i2, Option.bind_some]
          cases isSuB t (bN (t.2.2.1 115 i)) <;> simp [hne]
    rw [e46, calB_suc]
    unfold surB
    cases calB t a su i <;> cases decide (t.2.2.1 116 i = Int32.ofNat a) <;> cases metB t i <;> cases su <;> cases (isSuB t (bN (t.2.2.1 114 i)) || (!decide (t.2.2.1 115 i = -1) && isSuB t (bN (t.2.2.1 115 i)))) <;> simp
  · rintro _ rfl
    refine ⟨_, ?_, rfl⟩
    dsimp only
    rw [w10, if_neg (by rw [i_lt (by omega) (by omega)]; omega)]
  · rintro _ rfl
    refine ⟨_, if_pos ?_, rfl⟩
    cases calB t a su nr <;> simp
end
