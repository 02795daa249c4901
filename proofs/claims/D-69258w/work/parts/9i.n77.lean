/-! the plan's readers: the reference's rings and sums -/
section
variable {T : TS} {L : PLn} {nl nr : Nat} {st ln : Nat → Nat} {lab : Int → Int → Int} {nm : Nat → Int32}
theorem flt_at {p : Nat → Bool} {k n : Nat} (hk : k < n) (hp : p k = true) : ((List.range k).filter p).length < ((List.range n).filter p).length ∧ ((List.range n).filter p).getD ((List.range k).filter p).length 0 = k := by
  induction n with
  | zero => omega
  | succ n ih =>
    rw [List.range_succ, List.filter_append, List.length_append]
    by_cases z : k = n
    · rw [z] at hp
      rw [z, List.filter_cons_of_pos hp]
      refine ⟨by show _ < _ + 1; omega, ?_⟩
      rw [List.getD_eq_getElem?_getD, List.getElem?_append_right (Nat.le_refl _), Nat.sub_self]
      rfl
    · obtain ⟨h1, h2⟩ := ih (by omega)
      exact ⟨by omega, by rw [getD_app h1]; exact h2⟩
theorem flt_s {p : Nat → Bool} {k : Nat} : ((List.range (k + 1)).filter p).length = ((List.range k).filter p).length + (if p k = true then 1 else 0) := by
  rw [List.range_succ, List.filter_append, List.length_append]
  by_cases z : p k = true
  · rw [List.filter_cons_of_pos z, if_pos z]; rfl
  · rw [List.filter_cons_of_neg z, if_neg z]; rfl
theorem LL_lt (F : FT T L nl nr st ln lab nm) (s : Nat) : gLL (gS L nl) lab s = -1 ∨ ∃ n : Nat, gLL (gS L nl) lab s = n ∧ n < spn L nl st ln nr := by
  obtain ⟨i, j, e⟩ := LL_cell (gS L nl) lab s
  rw [← e]
  exact F.2.2.2.1.lt F.1 F.2.1 i j
theorem LL_eq (F : FT T L nl nr st ln lab nm) {s j : Nat} (hj : j < spn L nl st ln nr) : Int32.ofInt (gLL (gS L nl) lab s) = Int32.ofNat j ↔ gLL (gS L nl) lab s = j := by
  have h1 := nP_le F.1
  have h2 := F.2.2.1
  have h3 := spn_le (L := L) (nl := nl) (st := st) (ln := ln) nr
  refine ofI_eq ?_ ?_ ?_ <;> rcases LL_lt F s with h | ⟨n, h, _⟩ <;> omega
theorem LL_n (F : FT T L nl nr st ln lab nm) {s : Nat} : Int32.ofInt (gLL (gS L nl) lab s) < 0 ↔ gLL (gS L nl) lab s = -1 := by
  have h1 := nP_le F.1
  have h2 := F.2.2.1
  have h3 := spn_le (L := L) (nl := nl) (st := st) (ln := ln) nr
  have e := LL_lt F s
  have := ofI_lt (a := gLL (gS L nl) lab s) (b := 0) (by omega) (by omega) (by omega) (by omega)
  exact this.trans (by omega)
theorem t_lf (F : FT T L nl nr st ln lab nm) {s : Nat} (hs : s < 2 * nP L nl) : t_702 (Int32.ofNat s) T = some (Int32.ofInt (gLL (gS L nl) lab s)) := by
  obtain ⟨ps, h⟩ := F.2.2.2.2.1
  exact t_lft F.1 F.2.2.2.1.1 h hs
theorem t_rt (F : FT T L nl nr st ln lab nm) {s : Nat} (hs : s < 2 * nP L nl) : t_712 (Int32.ofNat s) T = some (Int32.ofInt (gLL (gS L nl) lab (bkS s))) := by
  obtain ⟨ps, h⟩ := F.2.2.2.2.1
  exact t_rgt F.1 F.2.2.2.1.1 h hs
/-- a side's length -/
noncomputable def sln (L : PLn) (nl s : Nat) : Nat := kB L nl (s / 2) - kAn L nl (s / 2)
theorem t_ln (F : FT T L nl nr st ln lab nm) {s : Nat} (hs : s < 2 * nP L nl) : t_714 (Int32.ofNat s) T = some (Int32.ofInt (sln L nl s)) := by
  obtain ⟨ps, h⟩ := F.2.2.2.2.1
  rw [t_len F.1 h.1 hs, ← i_ofI]
  rfl
theorem FT_130 (F : FT T L nl nr st ln lab nm) : T.1 130 = Int32.ofNat (nP L nl) := by
  obtain ⟨ps, h⟩ := F.2.2.2.2.1
  exact h.1.2.2.2.1
theorem FT_117 (F : FT T L nl nr st ln lab nm) : T.1 117 = Int32.ofNat (spn L nl st ln nr) := F.2.2.2.2.2.2.1
theorem FT_le (F : FT T L nl nr st ln lab nm) : nP L nl ≤ 400 ∧ nr ≤ nP L nl ∧ spn L nl st ln nr ≤ nr := ⟨nP_le F.1, F.2.2.1, spn_le nr⟩
theorem FT_rg (F : FT T L nl nr st ln lab nm) : T.1 135 = Int32.ofNat nr ∧ ∀ k, k < nr → rdI T 72 460 (Int32.ofNat k) = some (Int32.ofNat (st k)) ∧ rdI T 73 460 (Int32.ofNat k) = some (Int32.ofNat (ln k)) := by
  have hle := FT_le F
  obtain ⟨h1, h2⟩ := F.2.2.2.2.2.1
  refine ⟨h1, fun k hk => ?_⟩
  rw [rdI_n (by omega) (by omega), rdI_n (by omega) (by omega), (h2 k hk).1, (h2 k hk).2]
  exact ⟨rfl, rfl⟩
theorem st_lt (F : FT T L nl nr st ln lab nm) {k : Nat} (hk : k < nr) : st k < 2 * nP L nl := (F.2.1.1 k hk).1
/-- the ring by its number -/
theorem t_rgO (F : FT T L nl nr st ln lab nm) (h9 : T.1 109 = 1) {j : Nat} (hj : j < spn L nl st ln nr) (v : Int32) : t_710 (Int32.ofNat j) v T = some (if inB v (Int32.ofNat (rgl L nl nr st ln lab j).length) = true then Int32.ofNat ((rgl L nl nr st ln lab j).getD v.toNatClampNeg 0) else -1) := by
  have hle := FT_le F
  obtain ⟨r1, r2⟩ := FT_rg F
  have rle : (rgl L nl nr st ln lab j).length ≤ nr := by
    rw [rgl_eq F.1 F.2.1 F.2.2.2.1 hj]
    exact Nat.le_trans (List.length_filter_le _ _) (by rw [List.length_range]; exact Nat.le_refl _)
  have is1 := (t_sp1 h9 (FT_117 F) (Int32.ofNat j)).trans (by rw [if_pos (inB_of hj (by omega))])
  unfold t_710
  rw [r1]
  by_cases neg : v < 0
  · rw [if_neg (fun z => by
      obtain ⟨k, _, e⟩ := inB_nat _ (by omega) z
      rw [e] at neg
      exact i_nlt0 (by omega) neg)]
    have hnr : 0 < nr := by omega
    refine tr_eq (Tr.bd (P := fun x => x = .inl ()) (Tr.bd (P := fun x => x = .inr (.inl ())) (wh_cnt 0 (fun k a => a = (v, Int32.ofNat 0)) (fun k a hk => absurd hk (Nat.not_lt_zero _)) ?_ rfl) ?_) ?_)
    · rintro a rfl
      dsimp only
      rw [if_pos ((i_lt (by omega) (by omega)).mpr hnr), is1, Option.bind_some, if_neg (by decide), if_pos neg]
      exact ⟨_, rfl, rfl⟩
    · rintro x rfl
      exact ⟨_, rfl, rfl⟩
    · rintro x rfl
      exact ⟨_, rfl, rfl⟩
  · have eq := rgl_eq F.1 F.2.1 F.2.2.2.1 hj
    obtain ⟨n, hn, rfl⟩ : ∃ n, n < 2147483648 ∧ v = Int32.ofNat n := by
      refine ⟨v.toNatClampNeg, ?_, ?_⟩
      · have := Int32.toInt_lt v
        show v.toInt.toNat < _
        omega
      · rw [Int32.lt_iff_toInt_lt] at neg
        have e0 : (0 : Int32).toInt = 0 := rfl
        apply Int32.toInt_inj.mp
        have := Int32.toInt_lt v
        rw [Int32.toInt_ofNat_of_lt (by show v.toInt.toNat < _; omega)]
        show v.toInt = (v.toInt.toNat : Int)
        omega
    rw [i_clamp hn]
    have iB : inB (Int32.ofNat n) (Int32.ofNat (rgl L nl nr st ln lab j).length) = true ↔ n < (rgl L nl nr st ln lab j).length := by
      constructor
      · intro z
        obtain ⟨k, hk, e⟩ := inB_nat _ (by omega) z
        have := (i_inj hn (by omega)).mp e
        omega
      · exact fun z => inB_of z (by omega)
    refine tr_eq (Tr.bd (P := fun x => (n < (rgl L nl nr st ln lab j).length ∧ x = .inr (Int32.ofNat ((rgl L nl nr st ln lab j).getD n 0))) ∨ (¬ n < (rgl L nl nr st ln lab j).length ∧ x = .inl ())) (Tr.bd (P := fun x => (n < (rgl L nl nr st ln lab j).length ∧ x = .inl (Int32.ofNat ((rgl L nl nr st ln lab j).getD n 0))) ∨ (¬ n < (rgl L nl nr st ln lab j).length ∧ x = .inr (.inl ()))) (wh_cnt nr (fun k (a : Int32 × Int32) => ((List.range k).filter (fun k => decide (fcS L nl st lab k = j))).length ≤ n ∧ a = (Int32.ofNat (n - ((List.range k).filter (fun k => decide (fcS L nl st lab k = j))).length), Int32.ofNat k)) ?_ ?_ ⟨Nat.zero_le _, rfl⟩) ?_) ?_)
    · rintro k a hk ⟨hc, rfl⟩
      dsimp only
      rw [if_pos ((i_lt (by omega) (by omega)).mpr hk), is1, Option.bind_some, if_neg (by decide), if_neg neg, (r2 k hk).1, Option.bind_some, t_lf F (st_lt F hk), Option.bind_some]
      have eL := LL_eq F (s := st k) hj
      have ef := flt_s (p := fun k => decide (fcS L nl st lab k = j)) (k := k)
      by_cases w : fcS L nl st lab k = j
      · rw [if_pos (eL.mpr w)]
        rw [if_pos (decide_eq_true w)] at ef
        obtain ⟨f1, f2⟩ := flt_at (p := fun k => decide (fcS L nl st lab k = j)) hk (decide_eq_true w)
        by_cases y : n = ((List.range k).filter (fun k => decide (fcS L nl st lab k = j))).length
        · rw [← y] at f1 f2
          rw [← y, Nat.sub_self, if_pos (show Int32.ofNat 0 = 0 from rfl)]
          left
          refine ⟨_, rfl, Or.inl ⟨by rw [eq]; exact f1, ?_⟩⟩
          rw [eq, f2]
        · rw [if_neg (fun z => by have := (i_inj (k := 0) (by omega) (by omega)).mp z; omega)]
          right
          refine ⟨_, rfl, by omega, ?_⟩
          rw [ef, i_suc, i_subL (by omega), Nat.sub_sub]
      · rw [if_neg (fun z => w (eL.mp z))]
        rw [if_neg (fun z => w (of_decide_eq_true z))] at ef
        right
        refine ⟨_, rfl, by omega, ?_⟩
        rw [ef, i_suc]
        rfl
    · rintro a ⟨hc, rfl⟩
      dsimp only
      rw [if_neg (fun z => by have := (i_lt (by omega) (by omega)).mp z; omega)]
      refine ⟨_, rfl, Or.inr ⟨by rw [eq]; omega, rfl⟩⟩
    · rintro x (⟨h, rfl⟩ | ⟨h, rfl⟩)
      · exact ⟨_, rfl, Or.inl ⟨h, rfl⟩⟩
      · exact ⟨_, rfl, Or.inr ⟨h, rfl⟩⟩
    · rintro x (⟨h, rfl⟩ | ⟨h, rfl⟩)
      · exact ⟨_, rfl, by rw [if_pos (iB.mpr h)]⟩
      · exact ⟨_, rfl, by rw [if_neg (fun z => h (iB.mp z))]⟩
theorem t_sdN (F : FT T L nl nr st ln lab nm) (h9 : T.1 109 = 1) {j : Nat} (hj : j < spn L nl st ln nr) (v : Int32) : t_709 (Int32.ofNat j) v T = some (if inB v (Int32.ofNat (rgl L nl nr st ln lab j).length) = true then Int32.ofNat (ln ((rgl L nl nr st ln lab j).getD v.toNatClampNeg 0)) else 0) := by
  have hle := FT_le F
  have rle : (rgl L nl nr st ln lab j).length ≤ nr := by
    rw [rgl_eq F.1 F.2.1 F.2.2.2.1 hj]
    exact Nat.le_trans (List.length_filter_le _ _) (by rw [List.length_range]; exact Nat.le_refl _)
  unfold t_709
  rw [t_rgO F h9 hj, Option.bind_some]
  by_cases z : inB v (Int32.ofNat (rgl L nl nr st ln lab j).length) = true
  · obtain ⟨n, hn, rfl⟩ := inB_nat _ (by omega) z
    have hk : (rgl L nl nr st ln lab j).getD n 0 < nr := by
      rw [getD_lt hn]
      exact rgl_lt hj (List.getElem_mem hn)
    rw [if_pos z, if_pos z, i_clamp (by omega), if_neg (i_nlt0 (by omega)), ((FT_rg F).2 _ hk).2, Option.bind_some]
  · rw [if_neg z, if_neg z, if_pos (by decide)]
end
