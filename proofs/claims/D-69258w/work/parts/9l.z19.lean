/-! the house: measure -/
section
variable {T : TS} {L : PLn} {nl nr : Nat} {st ln : Nat → Nat} {lab : Int → Int → Int} {nm : Nat → Int32}
theorem gsm_k {l : List Nat} : gsm (fun _ => 24) l = 24 * (l.length : Int) := by
  induction l with
  | nil => rfl
  | cons a l ih =>
    show 24 + gsm (fun _ => 24) l = _
    rw [ih, List.length_cons]
    omega
/-- a space's sizes are not large -/
theorem sz_b (F : FT T L nl nr st ln lab nm) {j : Nat} (hj : j < spn L nl st ln nr) (v2 : Int32) : ∃ n : Nat, n ≤ 100000 ∧ t_713 (Int32.ofNat j) v2 T = some (Int32.ofNat n) := by
  rw [t_size F hj]
  by_cases a : v2 = 0
  · have := arL_b (lab := lab) j
    refine ⟨(arL lab j).toNat, by omega, ?_⟩
    rw [if_pos a, ← i_ofI, show ((arL lab j).toNat : Int) = arL lab j by omega]
  · by_cases b : v2 = 1
    · have hP := nP_le F.1
      rw [if_neg a, if_pos b, rgl_eq F.1 F.2.1 F.2.2.2.1 hj, ← rg_sumF F.1 F.2.1 F.2.2.2.1.1]
      have h0 : 0 ≤ gsm (fun q => if gLL (gS L nl) lab q = (j : Int) then (sln L nl q : Int) else 0) (List.range (2 * nP L nl)) := sm_nn (fun q _ => by split <;> omega)
      have h1 : gsm (fun q => if gLL (gS L nl) lab q = (j : Int) then (sln L nl q : Int) else 0) (List.range (2 * nP L nl)) ≤ gsm (fun _ => 24) (List.range (2 * nP L nl)) := by
        refine sm_le (fun q hq => ?_)
        have hq := List.mem_range.mp hq
        have hk := k_in (L := L) (nl := nl) (p := q / 2) (by omega)
        have h24 : kB L nl (q / 2) ≤ 24 := by
          have bh := a_lt F.1 hk.1 hk.2.2.1
          unfold aX aY at bh
          by_cases w : pFl L (kL L nl (q / 2)) = true
          · rw [if_pos w, if_pos w] at bh; omega
          · rw [if_neg w, if_neg w] at bh; omega
        split
        · unfold sln; omega
        · omega
      rw [gsm_k, List.length_range] at h1
      generalize hz : gsm (fun q => if gLL (gS L nl) lab q = (j : Int) then (sln L nl q : Int) else 0) (List.range (2 * nP L nl)) = z at h0 h1 ⊢
      exact ⟨z.toNat, by omega, by rw [← i_ofI, show (z.toNat : Int) = z by omega]⟩
    · rw [if_neg a, if_neg b]
      refine ⟨_, ?_, rfl⟩
      have h120 := nr_120 F.1 F.2.1 F.2.2.2.1.1
      rw [rgl_eq F.1 F.2.1 F.2.2.2.1 hj]
      have := List.length_filter_le (fun k => decide (fcS L nl st lab k = (j : Int))) (List.range nr)
      rw [List.length_range] at this
      omega
end
