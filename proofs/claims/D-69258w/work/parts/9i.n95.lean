/-! the plan: the pieces of a line, in their order -/
section
variable {T : TS} {L : PLn} {nl nr : Nat} {st ln : Nat → Nat} {lab : Int → Int → Int} {nm : Nat → Int32}
noncomputable def plst (L : PLn) (nl l : Nat) : List Nat := (List.range (nP L nl)).filter (fun p => decide (kL L nl p = l))
theorem plst_m {l p : Nat} : p ∈ plst L nl l ↔ p < nP L nl ∧ kL L nl p = l := by
  unfold plst
  rw [List.mem_filter, List.mem_range, decide_eq_true_iff]
theorem plst_pw (l : Nat) : (plst L nl l).Pairwise (· < ·) := List.pairwise_lt_range.sublist List.filter_sublist
theorem plst_at {l i : Nat} (h : i < (plst L nl l).length) : (plst L nl l).getD i 0 < nP L nl ∧ kL L nl ((plst L nl l).getD i 0) = l := by
  rw [getD_lt h]
  exact plst_m.mp (List.getElem_mem h)
theorem k_ord {p q : Nat} (hp : p < nP L nl) (hq : q < nP L nl) (hpq : p < q) (e : kL L nl p = kL L nl q) : kB L nl p ≤ kAn L nl q := by
  have h : kL L nl p < kL L nl q ∨ (kL L nl p = kL L nl q ∧ kB L nl p ≤ kAn L nl q) := by
    have := List.pairwise_iff_getElem.mp (PC_pw (L := L) (nl := nl) nl) p q hp hq hpq
    unfold kL kAn kB
    rw [List.getD_eq_getElem?_getD, List.getElem?_eq_getElem hp, List.getD_eq_getElem?_getD, List.getElem?_eq_getElem hq]
    exact this
  omega
theorem plst_ix {l p : Nat} (hp : p < nP L nl) (h : kL L nl p = l) : ∃ j, j < (plst L nl l).length ∧ (plst L nl l).getD j 0 = p := by
  obtain ⟨j, hj, e⟩ := List.getElem_of_mem (plst_m.mpr ⟨hp, h⟩)
  exact ⟨j, hj, by rw [getD_lt hj]; exact e⟩
theorem plst_0 {l : Nat} (hl : l < nl) (hN : 0 < pN L l) : 0 < (plst L nl l).length ∧ kAn L nl ((plst L nl l).getD 0 0) = 0 := by
  obtain ⟨p, h1, h2, h3, h4⟩ := k_cov hl hN
  obtain ⟨j, hj, e⟩ := plst_ix h1 h2
  refine ⟨by omega, ?_⟩
  by_cases z : j = 0
  · rw [z] at e
    rw [e]; omega
  · have lt := pw_lt (plst_pw l) (show 0 < j by omega) hj
    obtain ⟨a1, a2⟩ := plst_at (show 0 < (plst L nl l).length by omega)
    rw [e] at lt
    have := k_ord a1 h1 lt (a2.trans h2.symm)
    have := (k_in a1).2.1
    omega
theorem plst_s {l i : Nat} (hl : l < nl) (hi : i + 1 < (plst L nl l).length) : kAn L nl ((plst L nl l).getD (i + 1) 0) = kB L nl ((plst L nl l).getD i 0) := by
  obtain ⟨a1, a2⟩ := plst_at (show i < (plst L nl l).length by omega)
  obtain ⟨b1, b2⟩ := plst_at hi
  have lt := pw_lt (plst_pw (L := L) (nl := nl) l) (show i < i + 1 by omega) hi
  have o1 := k_ord a1 b1 lt (a2.trans b2.symm)
  have ka := k_in a1
  have kb := k_in b1
  rw [a2] at ka
  rw [b2] at kb
  obtain ⟨r, h1, h2, h3, h4⟩ := k_cov hl (show kB L nl ((plst L nl l).getD i 0) < pN L l by omega)
  obtain ⟨j, hj, e⟩ := plst_ix h1 h2
  by_cases z : j ≤ i
  · by_cases y : j = i
    · rw [y] at e
      rw [e] at h3 h4
      omega
    · have lt2 := pw_lt (plst_pw (L := L) (nl := nl) l) (show j < i by omega) (show i < (plst L nl l).length by omega)
      rw [e] at lt2
      have := k_ord h1 a1 lt2 (h2.trans a2.symm)
      omega
  · by_cases y : j = i + 1
    · rw [y] at e
      rw [e] at o1 ⊢
      omega
    · have lt2 := pw_lt (plst_pw (L := L) (nl := nl) l) (show i + 1 < j by omega) hj
      rw [e] at lt2
      have := k_ord b1 h1 lt2 (b2.trans h2.symm)
      omega
theorem plst_e {l i : Nat} (hl : l < nl) (hi : i + 1 = (plst L nl l).length) : kB L nl ((plst L nl l).getD i 0) = pN L l := by
  obtain ⟨a1, a2⟩ := plst_at (show i < (plst L nl l).length by omega)
  have ka := k_in a1
  rw [a2] at ka
  by_cases w : kB L nl ((plst L nl l).getD i 0) = pN L l
  · exact w
  obtain ⟨r, h1, h2, h3, h4⟩ := k_cov hl (show kB L nl ((plst L nl l).getD i 0) < pN L l by omega)
  obtain ⟨j, hj, e⟩ := plst_ix h1 h2
  by_cases y : j = i
  · rw [y] at e
    rw [e] at h3 h4
    omega
  · have lt2 := pw_lt (plst_pw (L := L) (nl := nl) l) (show j < i by omega) (show i < (plst L nl l).length by omega)
    rw [e] at lt2
    have := k_ord h1 a1 lt2 (h2.trans a2.symm)
    omega
theorem t_pieceOf (F : FT T L nl nr st ln lab nm) {l n : Nat} (hl : l < 1000) (hn : n < 1000) : t_722 (Int32.ofNat l) (Int32.ofNat n) T = some (if n < (plst L nl l).length then Int32.ofNat ((plst L nl l).getD n 0) else -1) := by
  have hle := FT_le F
  obtain ⟨ps, tg⟩ := F.2.2.2.2.1
  have r2 : ∀ p, p < nP L nl → rdI T 68 460 (Int32.ofNat p) = some (Int32.ofNat (kL L nl p)) := fun p hp => by
    rw [rdI_n (by omega) (by decide), (tg.1.2.2.2.2.2 p hp).1]
  have kb : ∀ p, p < nP L nl → kL L nl p < 20 := fun p hp => by
    have := (k_in hp).1
    have := F.1.1
    omega
  unfold t_722
  rw [FT_130 F]
  refine tr_eq (Tr.bd (P := fun x => (n < (plst L nl l).length ∧ x = .inr (Int32.ofNat ((plst L nl l).getD n 0))) ∨ (¬ n < (plst L nl l).length ∧ x = .inl ())) (Tr.bd (P := fun x => (n < (plst L nl l).length ∧ x = .inl (Int32.ofNat ((plst L nl l).getD n 0))) ∨ (¬ n < (plst L nl l).length ∧ x = .inr (.inl ()))) (wh_cnt (nP L nl) (fun k (a : Int32 × Int32) => ((List.range k).filter (fun p => decide (kL L nl p = l))).length ≤ n ∧ a = (Int32.ofNat (n - ((List.range k).filter (fun p => decide (kL L nl p = l))).length), Int32.ofNat k)) ?_ ?_ ⟨Nat.zero_le _, rfl⟩) ?_) ?_)
  · rintro k a hk ⟨hc, rfl⟩
    dsimp only
    rw [if_pos ((i_lt (by omega) (by omega)).mpr hk), r2 k hk, Option.bind_some]
    have hb := kb k hk
    have eL : Int32.ofNat (kL L nl k) = Int32.ofNat l ↔ kL L nl k = l := i_inj (by omega) (by omega)
    have ef := flt_s (p := fun p => decide (kL L nl p = l)) (k := k)
    by_cases w : kL L nl k = l
    · rw [if_pos (eL.mpr w)]
      rw [if_pos (decide_eq_true w)] at ef
      obtain ⟨f1, f2⟩ := flt_at (p := fun p => decide (kL L nl p = l)) hk (decide_eq_true w)
      by_cases y : n = ((List.range k).filter (fun p => decide (kL L nl p = l))).length
      · rw [← y] at f1 f2
        rw [← y, Nat.sub_self, if_pos (show Int32.ofNat 0 = 0 from rfl)]
        left
        exact ⟨_, rfl, Or.inl ⟨f1, by unfold plst; rw [f2]⟩⟩
      · rw [if_neg (fun z => by have := (i_inj (k := 0) (by omega) (by omega)).mp z; omega)]
        right
        refine ⟨_, rfl, by omega, ?_⟩
        rw [ef, i_suc, i_subL (by omega), Nat.sub_sub]
    · rw [if_neg (fun z => w (eL.mp z))]
      rw [if_neg (fun z => w (of_decide_eq_true z))] at ef
      right
      refine ⟨_, rfl, by omega, ?_⟩
      rw [ef, i_suc]
      rfl
  · rintro a ⟨hc, rfl⟩
    dsimp only
    rw [if_neg (fun z => by have := (i_lt (by omega) (by omega)).mp z; omega)]
    refine ⟨_, rfl, Or.inr ⟨by show ¬ n < ((List.range (nP L nl)).filter (fun p => decide (kL L nl p = l))).length; omega, rfl⟩⟩
  · rintro x (⟨h, rfl⟩ | ⟨h, rfl⟩)
    · exact ⟨_, rfl, Or.inl ⟨h, rfl⟩⟩
    · exact ⟨_, rfl, Or.inr ⟨h, rfl⟩⟩
  · rintro x (⟨h, rfl⟩ | ⟨h, rfl⟩)
    · exact ⟨_, rfl, by rw [if_pos h]⟩
    · exact ⟨_, rfl, by rw [if_neg h]⟩
end
