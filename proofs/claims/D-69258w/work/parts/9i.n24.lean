/-! the plan: areas in common, by units -/
theorem sm_pick (f : Nat → Int) (u n : Nat) : gsm (fun c => if u = c + 1 then f c else 0) (List.range n) = if 1 ≤ u ∧ u ≤ n then f (u - 1) else 0 := by
  induction n with
  | zero => rw [if_neg (by omega)]; rfl
  | succ n ih =>
    rw [List.range_succ, sm_app, ih]
    show _ + ((if u = n + 1 then f n else 0) + 0) = _
    by_cases h : u = n + 1
    · rw [if_neg (by omega), if_pos h, if_pos (by omega), h]; simp
    · rw [if_neg h]
      by_cases h2 : 1 ≤ u ∧ u ≤ n
      · rw [if_pos h2, if_pos (by omega)]; omega
      · rw [if_neg h2, if_neg (by omega)]; rfl
/-- sums over pairs of columns, by units -/
theorem sm_hist (F : Nat → Nat → Int) (u v : Nat → Nat) (n m : Nat) (l : List Nat) : gsm (fun c => gsm (fun d => F c d * gsm (fun i => if u i = c + 1 ∧ v i = d + 1 then 1 else 0) l) (List.range m)) (List.range n) = gsm (fun i => if (1 ≤ u i ∧ u i ≤ n) ∧ 1 ≤ v i ∧ v i ≤ m then F (u i - 1) (v i - 1) else 0) l := by
  induction l with
  | nil =>
    refine sm_zero (fun c _ => sm_zero (fun d _ => ?_))
    show F c d * 0 = 0
    omega
  | cons i l ih =>
    have e : ∀ c d : Nat, F c d * gsm (fun i => if u i = c + 1 ∧ v i = d + 1 then 1 else 0) (i :: l) = (if u i = c + 1 then (if v i = d + 1 then F c d else 0) else 0) + F c d * gsm (fun i => if u i = c + 1 ∧ v i = d + 1 then 1 else 0) l := by
      intro c d
      show F c d * ((if u i = c + 1 ∧ v i = d + 1 then 1 else 0) + _) = _
      rw [Int.mul_add]
      congr 1
      by_cases h1 : u i = c + 1 <;> by_cases h2 : v i = d + 1 <;> simp [h1, h2]
    have e2 : (fun c => gsm (fun d => F c d * gsm (fun i => if u i = c + 1 ∧ v i = d + 1 then 1 else 0) (i :: l)) (List.range m)) = fun c => (if u i = c + 1 then (if 1 ≤ v i ∧ v i ≤ m then F c (v i - 1) else 0) else 0) + gsm (fun d => F c d * gsm (fun i => if u i = c + 1 ∧ v i = d + 1 then 1 else 0) l) (List.range m) := by
      funext c
      rw [sm_congr (fun d _ => e c d), sm_add]
      congr 1
      by_cases h1 : u i = c + 1
      · rw [if_pos h1, ← sm_pick]
        refine sm_congr (fun d _ => ?_)
        rw [if_pos h1]
      · rw [if_neg h1]
        refine sm_zero (fun d _ => ?_)
        rw [if_neg h1]
    rw [e2, sm_add, ih, sm_pick]
    show _ = (if (1 ≤ u i ∧ u i ≤ n) ∧ 1 ≤ v i ∧ v i ≤ m then F (u i - 1) (v i - 1) else 0) + _
    congr 1
    by_cases h1 : 1 ≤ u i ∧ u i ≤ n
    · rw [if_pos h1]
      by_cases h2 : 1 ≤ v i ∧ v i ≤ m
      · rw [if_pos h2, if_pos ⟨h1, h2⟩]
      · rw [if_neg h2, if_neg (fun z => h2 z.2)]
    · rw [if_neg h1, if_neg (fun z => h1 z.1)]
/-- what two stretches have in common -/
def shF (a b c d : Nat) : Nat := min b d - max a c
theorem shF_sum {a b c d : Nat} (hb : b ≤ 24) : (shF a b c d : Int) = gsm (fun i : Nat => if (a ≤ i ∧ i < b) ∧ c ≤ i ∧ i < d then 1 else 0) (List.range 24) := by
  by_cases h : max a c ≤ min b d
  · have := sm_iv ((max a c : Nat) : Int) ((min b d : Nat) : Int) (by omega) (by omega) 24
    unfold shF
    rw [sm_congr (h := fun i : Nat => if ((max a c : Nat) : Int) ≤ (i : Int) ∧ (i : Int) < ((min b d : Nat) : Int) then 1 else 0) (fun i _ => ?_), this]
    · split
      · omega
      · split <;> omega
    · by_cases z : (a ≤ i ∧ i < b) ∧ c ≤ i ∧ i < d
      · rw [if_pos z, if_pos (by omega)]
      · rw [if_neg z, if_neg (by omega)]
  · unfold shF
    rw [sm_zero (fun i _ => if_neg (by omega))]
    omega
theorem colO_iff {xs : List Nat} (hp : xs.Pairwise (· < ·)) {c i : Nat} (hc : c + 1 < xs.length) : colO xs (i : Nat) = c + 1 ↔ xs.getD c 0 ≤ i ∧ i < xs.getD (c + 1) 0 := by
  have h1 := colO_at hp (i : Int) (show c < xs.length by omega)
  have h2 := colO_at hp (i : Int) hc
  omega
section
variable {L Lo : PLn} {nl no : Nat} {lab labo : Int → Int → Int}
/-- how many units two spaces have in common -/
def cmA (labo lab : Int → Int → Int) (o s : Nat) : Int := gsB (fun i j => if labo i j = o ∧ lab i j = s then 1 else 0)
theorem cmA_nn (o s : Nat) : 0 ≤ cmA labo lab o s := sm_nn (fun a _ => sm_nn (fun b _ => by dsimp only; split <;> omega))
theorem cmA_le (o s : Nat) : cmA labo lab o s ≤ 576 := by
  have h : ∀ a b : Nat, (if labo a b = o ∧ lab a b = s then (1 : Int) else 0) ≤ 1 := fun a b => by split <;> omega
  refine Int.le_trans (sm_le (fun a _ => sm_le (fun b _ => h a b))) ?_
  decide
/-- units beyond the grid lie outside -/
theorem lab_out (hg : gdL L nl) (G : gLab (gS L nl) (2 * nP L nl) lab) {i j : Int} (h : colO (edX L nl) i = 0 ∨ colO (edX L nl) i = (edX L nl).length ∨ colO (edY L nl) j = 0 ∨ colO (edY L nl) j = (edY L nl).length) : lab i j = lab (-1) (-1) := by
  have tx : ∀ i' , colO (edX L nl) i = colO (edX L nl) i' → lab i j = lab i' j := by
    intro i' e
    have := Tok_xx (L := L) (nl := nl) (T := fun a b => lab a b = lab i j) ⟨fun a b hn => by dsimp only; rw [G.1 a b hn], fun a b hn => by dsimp only; rw [G.2.1 a b hn]⟩ j e
    exact (this.mp rfl).symm
  have ty : ∀ j' , colO (edY L nl) j = colO (edY L nl) j' → lab i j = lab i j' := by
    intro j' e
    have := Tok_yy (L := L) (nl := nl) (T := fun a b => lab a b = lab i j) ⟨fun a b hn => by dsimp only; rw [G.1 a b hn], fun a b hn => by dsimp only; rw [G.2.1 a b hn]⟩ i e
    exact (this.mp rfl).symm
  have geo := gS_geo hg G
  have b1 : ∀ xs : List Nat, (∀ x ∈ xs, x < 25) → colO xs 24 = xs.length := by
    intro xs hx
    unfold colO
    rw [List.filter_eq_self.mpr (fun x hm => by have := hx x hm; simp; omega)]
  rcases h with h | h | h | h
  · rw [tx (-1) (h.trans (colO_0 (fun x _ => by omega)).symm)]
    exact geo.out (Or.inl (by omega))
  · rw [tx 24 (h.trans (b1 _ (edX_lt hg (Nat.le_refl nl))).symm)]
    exact geo.out (Or.inr (Or.inl (by omega)))
  · rw [ty (-1) (h.trans (colO_0 (fun x _ => by omega)).symm)]
    exact geo.out (Or.inr (Or.inr (Or.inl (by omega))))
  · rw [ty 24 (h.trans (b1 _ (edY_lt hg (Nat.le_refl nl))).symm)]
    exact geo.out (Or.inr (Or.inr (Or.inr (by omega))))
theorem lab_gOf (hg : gdL L nl) (G : gLab (gS L nl) (2 * nP L nl) lab) {i j i' j' : Int} (e1 : colO (edX L nl) i = colO (edX L nl) i') (e2 : colO (edY L nl) j = colO (edY L nl) j') : lab i j = lab i' j' := by
  have tk : ∀ v, Tok L nl (fun a b => lab a b = v) := fun v => ⟨fun a b hn => by dsimp only; rw [G.1 a b hn], fun a b hn => by dsimp only; rw [G.2.1 a b hn]⟩
  have a := (Tok_xx (tk (lab i j)) j e1).mp rfl
  have b := (Tok_yy (tk (lab i' j)) i' e2).mp rfl
  exact a.symm.trans b.symm
/-- the sum over the grids of both is the number of units -/
theorem cmA_sum (hg : gdL L nl) (G : gLab (gS L nl) (2 * nP L nl) lab) (ho : lab (-1) (-1) = -1) (hgo : gdL Lo no) (Go : gLab (gS Lo no) (2 * nP Lo no) labo) (hoo : labo (-1) (-1) = -1) (o s : Nat) :
    gsm (fun r => gsm (fun c => gsm (fun q => gsm (fun d => if lab (rep (edX L nl) (c + 1)) (rep (edY L nl) (r + 1)) = s ∧ labo (rep (edX Lo no) (d + 1)) (rep (edY Lo no) (q + 1)) = o then (shF ((edY L nl).getD r 0) ((edY L nl).getD (r + 1) 0) ((edY Lo no).getD q 0) ((edY Lo no).getD (q + 1) 0) : Int) * (shF ((edX L nl).getD c 0) ((edX L nl).getD (c + 1) 0) ((edX Lo no).getD d 0) ((edX Lo no).getD (d + 1) 0) : Int) else 0) (List.range ((edX Lo no).length - 1))) (List.range ((edY Lo no).length - 1))) (List.range ((edX L nl).length - 1))) (List.range ((edY L nl).length - 1)) = cmA labo lab o s := by
  -- the inner two, over columns
  have inner : ∀ r q, r < (edY L nl).length - 1 → q < (edY Lo no).length - 1 → gsm (fun c => gsm (fun d => if lab (rep (edX L nl) (c + 1)) (rep (edY L nl) (r + 1)) = s ∧ labo (rep (edX Lo no) (d + 1)) (rep (edY Lo no) (q + 1)) = o then (shF ((edX L nl).getD c 0) ((edX L nl).getD (c + 1) 0) ((edX Lo no).getD d 0) ((edX Lo no).getD (d + 1) 0) : Int) else 0) (List.range ((edX Lo no).length - 1))) (List.range ((edX L nl).length - 1)) = gsm (fun i : Nat => if lab i (rep (edY L nl) (r + 1)) = s ∧ labo i (rep (edY Lo no) (q + 1)) = o then 1 else 0) (List.range 24) := by
    intro r q hr hq
    have e : gsm (fun c => gsm (fun d => if lab (rep (edX L nl) (c + 1)) (rep (edY L nl) (r + 1)) = s ∧ labo (rep (edX Lo no) (d + 1)) (rep (edY Lo no) (q + 1)) = o then (shF ((edX L nl).getD c 0) ((edX L nl).getD (c + 1) 0) ((edX Lo no).getD d 0) ((edX Lo no).getD (d + 1) 0) : Int) else 0) (List.range ((edX Lo no).length - 1))) (List.range ((edX L nl).length - 1)) = gsm (fun c => gsm (fun d => (if lab (rep (edX L nl) (c + 1)) (rep (edY L nl) (r + 1)) = s ∧ labo (rep (edX Lo no) (d + 1)) (rep (edY Lo no) (q + 1)) = o then (1 : Int) else 0) * gsm (fun i : Nat => if colO (edX L nl) i = c + 1 ∧ colO (edX Lo no) i = d + 1 then 1 else 0) (List.range 24)) (List.range ((edX Lo no).length - 1))) (List.range ((edX L nl).length - 1)) := by
      refine sm_congr (fun c hc => sm_congr (fun d hd => ?_))
      have hc := List.mem_range.mp hc
      have hd := List.mem_range.mp hd
      have ex : (shF ((edX L nl).getD c 0) ((edX L nl).getD (c + 1) 0) ((edX Lo no).getD d 0) ((edX Lo no).getD (d + 1) 0) : Int) = gsm (fun i : Nat => if colO (edX L nl) i = c + 1 ∧ colO (edX Lo no) i = d + 1 then 1 else 0) (List.range 24) := by
        have := edX_at hg (show c + 1 < (edX L nl).length by omega)
        rw [shF_sum (by omega)]
        refine sm_congr (fun i _ => ?_)
        have h1 := colO_iff (edX_pw L nl) (c := c) (i := i) (by omega)
        have h2 := colO_iff (edX_pw Lo no) (c := d) (i := i) (by omega)
        by_cases z : colO (edX L nl) i = c + 1 ∧ colO (edX Lo no) i = d + 1
        · rw [if_pos z, if_pos ⟨h1.mp z.1, h2.mp z.2⟩]
        · rw [if_neg z, if_neg (fun w => z ⟨h1.mpr w.1, h2.mpr w.2⟩)]
      rw [← ex]
      split <;> omega
    rw [e, sm_hist]
    refine sm_congr (fun i _ => ?_)
    have l1 := colO_le (edX L nl) (i : Nat)
    have l2 := colO_le (edX Lo no) (i : Nat)
    by_cases z : (1 ≤ colO (edX L nl) i ∧ colO (edX L nl) i ≤ (edX L nl).length - 1) ∧ 1 ≤ colO (edX Lo no) i ∧ colO (edX Lo no) i ≤ (edX Lo no).length - 1
    · rw [if_pos z]
      have a1 : lab (rep (edX L nl) (colO (edX L nl) i - 1 + 1)) (rep (edY L nl) (r + 1)) = lab i (rep (edY L nl) (r + 1)) := by
        refine lab_gOf hg G ?_ rfl
        rw [show colO (edX L nl) i - 1 + 1 = colO (edX L nl) i by omega, colO_rep (edX_pw L nl) l1]
      have a2 : labo (rep (edX Lo no) (colO (edX Lo no) i - 1 + 1)) (rep (edY Lo no) (q + 1)) = labo i (rep (edY Lo no) (q + 1)) := by
        refine lab_gOf hgo Go ?_ rfl
        rw [show colO (edX Lo no) i - 1 + 1 = colO (edX Lo no) i by omega, colO_rep (edX_pw Lo no) l2]
      rw [a1, a2]
    · rw [if_neg z, if_neg]
      rintro ⟨w1, w2⟩
      have b1 : colO (edX L nl) i = 0 ∨ colO (edX L nl) i = (edX L nl).length ∨ colO (edX Lo no) i = 0 ∨ colO (edX Lo no) i = (edX Lo no).length := by omega
      rcases b1 with b | b | b | b
      · rw [lab_out hg G (Or.inl b), ho] at w1; omega
      · rw [lab_out hg G (Or.inr (Or.inl b)), ho] at w1; omega
      · rw [lab_out hgo Go (Or.inl b), hoo] at w2; omega
      · rw [lab_out hgo Go (Or.inr (Or.inl b)), hoo] at w2; omega
  have step : ∀ r, r < (edY L nl).length - 1 → gsm (fun c => gsm (fun q => gsm (fun d => if lab (rep (edX L nl) (c + 1)) (rep (edY L nl) (r + 1)) = s ∧ labo (rep (edX Lo no) (d + 1)) (rep (edY Lo no) (q + 1)) = o then (shF ((edY L nl).getD r 0) ((edY L nl).getD (r + 1) 0) ((edY Lo no).getD q 0) ((edY Lo no).getD (q + 1) 0) : Int) * (shF ((edX L nl).getD c 0) ((edX L nl).getD (c + 1) 0) ((edX Lo no).getD d 0) ((edX Lo no).getD (d + 1) 0) : Int) else 0) (List.range ((edX Lo no).length - 1))) (List.range ((edY Lo no).length - 1))) (List.range ((edX L nl).length - 1)) = gsm (fun q => gsm (fun i : Nat => if lab i (rep (edY L nl) (r + 1)) = s ∧ labo i (rep (edY Lo no) (q + 1)) = o then 1 else 0) (List.range 24) * gsm (fun j : Nat => if colO (edY L nl) j = r + 1 ∧ colO (edY Lo no) j = q + 1 then 1 else 0) (List.range 24)) (List.range ((edY Lo no).length - 1)) := by
    intro r hr
    rw [sm_swap]
    refine sm_congr (fun q hq => ?_)
    have hq := List.mem_range.mp hq
    rw [← inner r q hr hq]
    have ey : (shF ((edY L nl).getD r 0) ((edY L nl).getD (r + 1) 0) ((edY Lo no).getD q 0) ((edY Lo no).getD (q + 1) 0) : Int) = gsm (fun j : Nat => if colO (edY L nl) j = r + 1 ∧ colO (edY Lo no) j = q + 1 then 1 else 0) (List.range 24) := by
      have := edY_at hg (show r + 1 < (edY L nl).length by omega)
      rw [shF_sum (by omega)]
      refine sm_congr (fun i _ => ?_)
      have h1 := colO_iff (edY_pw L nl) (c := r) (i := i) (by omega)
      have h2 := colO_iff (edY_pw Lo no) (c := q) (i := i) (by omega)
      by_cases z : colO (edY L nl) i = r + 1 ∧ colO (edY Lo no) i = q + 1
      · rw [if_pos z, if_pos ⟨h1.mp z.1, h2.mp z.2⟩]
      · rw [if_neg z, if_neg (fun w => z ⟨h1.mpr w.1, h2.mpr w.2⟩)]
    rw [← ey, Int.mul_comm, ← sm_mul]
    refine sm_congr (fun c _ => ?_)
    rw [← sm_mul]
    refine sm_congr (fun d _ => ?_)
    split
    · rfl
    · omega
  rw [sm_congr (fun r hr => step r (List.mem_range.mp hr)), sm_hist (fun r q => gsm (fun i : Nat => if lab i (rep (edY L nl) (r + 1)) = s ∧ labo i (rep (edY Lo no) (q + 1)) = o then 1 else 0) (List.range 24)) (fun j : Nat => colO (edY L nl) j) (fun j : Nat => colO (edY Lo no) j)]
  unfold cmA gsB
  rw [sm_swap]
  refine sm_congr (fun j _ => ?_)
  have l1 := colO_le (edY L nl) (j : Nat)
  have l2 := colO_le (edY Lo no) (j : Nat)
  by_cases z : (1 ≤ colO (edY L nl) j ∧ colO (edY L nl) j ≤ (edY L nl).length - 1) ∧ 1 ≤ colO (edY Lo no) j ∧ colO (edY Lo no) j ≤ (edY Lo no).length - 1
  · rw [if_pos z]
    refine sm_congr (fun i _ => ?_)
    have a1 : lab i (rep (edY L nl) (colO (edY L nl) j - 1 + 1)) = lab i j := by
      refine lab_gOf hg G rfl ?_
      rw [show colO (edY L nl) j - 1 + 1 = colO (edY L nl) j by omega, colO_rep (edY_pw L nl) l1]
    have a2 : labo i (rep (edY Lo no) (colO (edY Lo no) j - 1 + 1)) = labo i j := by
      refine lab_gOf hgo Go rfl ?_
      rw [show colO (edY Lo no) j - 1 + 1 = colO (edY Lo no) j by omega, colO_rep (edY_pw Lo no) l2]
    rw [a1, a2]
    by_cases w : lab i j = s <;> by_cases y : labo i j = o <;> simp [w, y]
  · rw [if_neg z]
    symm
    refine sm_zero (fun i _ => if_neg ?_)
    rintro ⟨w2, w1⟩
    have b1 : colO (edY L nl) j = 0 ∨ colO (edY L nl) j = (edY L nl).length ∨ colO (edY Lo no) j = 0 ∨ colO (edY Lo no) j = (edY Lo no).length := by omega
    rcases b1 with b | b | b | b
    · rw [lab_out hg G (Or.inr (Or.inr (Or.inl b))), ho] at w1; omega
    · rw [lab_out hg G (Or.inr (Or.inr (Or.inr b))), ho] at w1; omega
    · rw [lab_out hgo Go (Or.inr (Or.inr (Or.inl b))), hoo] at w2; omega
    · rw [lab_out hgo Go (Or.inr (Or.inr (Or.inr b))), hoo] at w2; omega
end
