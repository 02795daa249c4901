/-! the plan: areas in common, by the edges of both plans together -/
theorem sm_hist1 (G : Nat → Int) (u : Nat → Nat) (n : Nat) (l : List Nat) : gsm (fun k => G k * gsm (fun i => if u i = k + 1 then 1 else 0) l) (List.range n) = gsm (fun i => if 1 ≤ u i ∧ u i ≤ n then G (u i - 1) else 0) l := by
  have := sm_hist (fun c _ => G c) u (fun _ => 1) n 1 l
  have e1 : ∀ c, gsm (fun d : Nat => G c * gsm (fun i => if u i = c + 1 ∧ (1 : Nat) = d + 1 then 1 else 0) l) (List.range 1) = G c * gsm (fun i => if u i = c + 1 then 1 else 0) l := by
    intro c
    show G c * gsm (fun i => if u i = c + 1 ∧ (1 : Nat) = 0 + 1 then 1 else 0) l + 0 = _
    rw [Int.add_zero]
    congr 1
    exact sm_congr (fun i _ => by simp)
  rw [sm_congr (fun c _ => e1 c)] at this
  rw [this]
  exact sm_congr (fun i _ => by simp)
section
variable {L Lo : PLn} {nl no : Nat} {lab labo : Int → Int → Int} {mx my : List Nat}
/-- all edges of both -/
def mgX (L Lo : PLn) (nl no : Nat) (mx : List Nat) : Prop := mx.Pairwise (· < ·) ∧ ∀ q, q ∈ mx ↔ q ∈ edX Lo no ∨ q ∈ edX L nl
def mgY (L Lo : PLn) (nl no : Nat) (my : List Nat) : Prop := my.Pairwise (· < ·) ∧ ∀ q, q ∈ my ↔ q ∈ edY Lo no ∨ q ∈ edY L nl
theorem col_sub {xs ms : List Nat} (hm : ms.Pairwise (· < ·)) (hs : ∀ q ∈ xs, q ∈ ms) {i : Int} {j : Int} (h : colO ms i = colO ms j) : colO xs i = colO xs j := by
  unfold colO
  congr 1
  refine List.filter_congr (fun x hx => decide_eq_decide.mpr ?_)
  obtain ⟨k, hk, e⟩ := List.getElem_of_mem (hs x hx)
  rw [← getD_lt hk] at e
  have a := colO_at hm i hk
  have b := colO_at hm j hk
  rw [e] at a b
  rw [a, b, h]
theorem col_out {xs ms : List Nat} (hm : ms.Pairwise (· < ·)) (hs : ∀ q ∈ xs, q ∈ ms) {i : Int} : (colO ms i = 0 → colO xs i = 0) ∧ (colO ms i = ms.length → colO xs i = xs.length) := by
  constructor
  · intro h
    refine colO_0 (fun x hx => ?_)
    obtain ⟨k, hk, e⟩ := List.getElem_of_mem (hs x hx)
    rw [← getD_lt hk] at e
    have a := colO_at hm i hk
    omega
  · intro h
    unfold colO
    rw [List.filter_eq_self.mpr]
    intro x hx
    obtain ⟨k, hk, e⟩ := List.getElem_of_mem (hs x hx)
    rw [← getD_lt hk] at e
    have a := colO_at hm i hk
    rw [decide_eq_true_eq]
    omega
/-- the sum over consecutive edges is the number of units -/
theorem cmA_mg (hg : gdL L nl) (G : gLab (gS L nl) (2 * nP L nl) lab) (ho : lab (-1) (-1) = -1) (hgo : gdL Lo no) (Go : gLab (gS Lo no) (2 * nP Lo no) labo) (hoo : labo (-1) (-1) = -1) (hx : mgX L Lo nl no mx) (hy : mgY L Lo nl no my) (o s : Nat) :
    gsm (fun k => gsm (fun l => if labo (mx.getD k 0 : Nat) (my.getD l 0 : Nat) = o ∧ lab (mx.getD k 0 : Nat) (my.getD l 0 : Nat) = s then ((mx.getD (k + 1) 0 : Int) - mx.getD k 0) * ((my.getD (l + 1) 0 : Int) - my.getD l 0) else 0) (List.range (my.length - 1))) (List.range (mx.length - 1)) = cmA labo lab o s := by
  have bx : ∀ k, k < mx.length → mx.getD k 0 < 25 := fun k hk => by
    rcases (hx.2 (mx.getD k 0)).mp (by rw [getD_lt hk]; exact List.getElem_mem hk) with h | h
    · exact edX_lt hgo (Nat.le_refl _) _ h
    · exact edX_lt hg (Nat.le_refl _) _ h
  have by' : ∀ k, k < my.length → my.getD k 0 < 25 := fun k hk => by
    rcases (hy.2 (my.getD k 0)).mp (by rw [getD_lt hk]; exact List.getElem_mem hk) with h | h
    · exact edY_lt hgo (Nat.le_refl _) _ h
    · exact edY_lt hg (Nat.le_refl _) _ h
  have wid : ∀ (ms : List Nat), ms.Pairwise (· < ·) → (∀ k, k < ms.length → ms.getD k 0 < 25) → ∀ k, k < ms.length - 1 → ((ms.getD (k + 1) 0 : Int) - ms.getD k 0) = gsm (fun i : Nat => if colO ms i = k + 1 then 1 else 0) (List.range 24) := by
    intro ms hm hb k hk
    have h1 := hb (k + 1) (by omega)
    have h2 := pw_lt hm (show k < k + 1 by omega) (by omega)
    have := sm_iv (ms.getD k 0 : Nat) (ms.getD (k + 1) 0 : Nat) (by omega) (by omega) 24
    rw [sm_congr (h := fun i : Nat => if ((ms.getD k 0 : Nat) : Int) ≤ (i : Int) ∧ (i : Int) < ((ms.getD (k + 1) 0 : Nat) : Int) then 1 else 0) (fun i _ => ?_), this]
    · split
      · omega
      · split <;> omega
    · have e := colO_iff hm (c := k) (i := i) (by omega)
      by_cases z : colO ms i = k + 1
      · rw [if_pos z, if_pos (by have := e.mp z; omega)]
      · rw [if_neg z, if_neg (fun w => z (e.mpr (by omega)))]
  have e1 : ∀ k, k < mx.length - 1 → gsm (fun l => if labo (mx.getD k 0 : Nat) (my.getD l 0 : Nat) = o ∧ lab (mx.getD k 0 : Nat) (my.getD l 0 : Nat) = s then ((mx.getD (k + 1) 0 : Int) - mx.getD k 0) * ((my.getD (l + 1) 0 : Int) - my.getD l 0) else 0) (List.range (my.length - 1)) = gsm (fun j : Nat => if 1 ≤ colO my j ∧ colO my j ≤ my.length - 1 then (if labo (mx.getD k 0 : Nat) (my.getD (colO my j - 1) 0 : Nat) = o ∧ lab (mx.getD k 0 : Nat) (my.getD (colO my j - 1) 0 : Nat) = s then 1 else 0) else 0) (List.range 24) * gsm (fun i : Nat => if colO mx i = k + 1 then 1 else 0) (List.range 24) := by
    intro k hk
    rw [← wid mx hx.1 bx k hk, ← sm_hist1 (fun l => if labo (mx.getD k 0 : Nat) (my.getD l 0 : Nat) = o ∧ lab (mx.getD k 0 : Nat) (my.getD l 0 : Nat) = s then 1 else 0) (fun j : Nat => colO my j), Int.mul_comm, ← sm_mul]
    refine sm_congr (fun l hl => ?_)
    have hl := List.mem_range.mp hl
    rw [← wid my hy.1 by' l hl]
    split
    · rw [Int.one_mul]
    · simp
  rw [sm_congr (fun k hk => e1 k (List.mem_range.mp hk)), sm_hist1 (fun k => gsm (fun j : Nat => if 1 ≤ colO my j ∧ colO my j ≤ my.length - 1 then (if labo (mx.getD k 0 : Nat) (my.getD (colO my j - 1) 0 : Nat) = o ∧ lab (mx.getD k 0 : Nat) (my.getD (colO my j - 1) 0 : Nat) = s then 1 else 0) else 0) (List.range 24)) (fun i : Nat => colO mx i)]
  unfold cmA gsB
  refine sm_congr (fun i _ => ?_)
  have lx := colO_le mx (i : Nat)
  have outX : colO mx i = 0 ∨ colO mx i = mx.length → ∀ j, lab i j = -1 ∧ labo i j = -1 := by
    intro h j
    have a := col_out hx.1 (xs := edX L nl) (fun q hq => (hx.2 q).mpr (Or.inr hq)) (i := i)
    have b := col_out hx.1 (xs := edX Lo no) (fun q hq => (hx.2 q).mpr (Or.inl hq)) (i := i)
    rcases h with h | h
    · exact ⟨by rw [lab_out hg G (Or.inl (a.1 h)), ho], by rw [lab_out hgo Go (Or.inl (b.1 h)), hoo]⟩
    · exact ⟨by rw [lab_out hg G (Or.inr (Or.inl (a.2 h))), ho], by rw [lab_out hgo Go (Or.inr (Or.inl (b.2 h))), hoo]⟩
  by_cases z : 1 ≤ colO mx i ∧ colO mx i ≤ mx.length - 1
  · rw [if_pos z]
    refine sm_congr (fun j _ => ?_)
    have ly := colO_le my (j : Nat)
    by_cases w : 1 ≤ colO my j ∧ colO my j ≤ my.length - 1
    · rw [if_pos w]
      have cx := (colO_in hx.1 (k := colO mx i - 1) (by omega)).2
      have cy := (colO_in hy.1 (k := colO my j - 1) (by omega)).2
      have e1 : lab (mx.getD (colO mx i - 1) 0 : Nat) (my.getD (colO my j - 1) 0 : Nat) = lab i j := lab_gOf hg G (col_sub hx.1 (fun q hq => (hx.2 q).mpr (Or.inr hq)) (by rw [cx]; omega)) (col_sub hy.1 (fun q hq => (hy.2 q).mpr (Or.inr hq)) (by rw [cy]; omega))
      have e2 : labo (mx.getD (colO mx i - 1) 0 : Nat) (my.getD (colO my j - 1) 0 : Nat) = labo i j := lab_gOf hgo Go (col_sub hx.1 (fun q hq => (hx.2 q).mpr (Or.inl hq)) (by rw [cx]; omega)) (col_sub hy.1 (fun q hq => (hy.2 q).mpr (Or.inl hq)) (by rw [cy]; omega))
      rw [e1, e2]
    · rw [if_neg w]
      symm
      refine if_neg ?_
      rintro ⟨y1, y2⟩
      have a := col_out hy.1 (xs := edY L nl) (fun q hq => (hy.2 q).mpr (Or.inr hq)) (i := j)
      rcases (show colO my j = 0 ∨ colO my j = my.length by omega) with h | h
      · rw [lab_out hg G (Or.inr (Or.inr (Or.inl (a.1 h)))), ho] at y2; omega
      · rw [lab_out hg G (Or.inr (Or.inr (Or.inr (a.2 h)))), ho] at y2; omega
  · rw [if_neg z]
    symm
    refine sm_zero (fun j _ => if_neg ?_)
    rintro ⟨y1, y2⟩
    have := (outX (by omega) j).1
    omega
end
