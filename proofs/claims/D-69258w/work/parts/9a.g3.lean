/-! what rings go round, in numbers -/
def gsB (f : Int → Int → Int) : Int := gsm (fun a => gsm (fun b => f a b) (List.range 24)) (List.range 24)
def gtrn (g : SD) (R : List Nat) : Int := gsm (fun s => gx0 g s * gy1 g s - gx1 g s * gy0 g s) R
theorem sm_le {f h : Nat → Int} {l : List Nat} (e : ∀ s ∈ l, f s ≤ h s) : gsm f l ≤ gsm h l := by
  induction l with
  | nil => exact Int.le_refl _
  | cons s r ih =>
    have := e s (by simp)
    have := ih (fun q hq => e q (by simp [hq]))
    simp only [gsm]; omega
theorem sm_iv (lo hi : Int) (h0 : 0 ≤ lo) (h1 : lo ≤ hi) (n : Nat) : gsm (fun b => if lo ≤ (b : Int) ∧ (b : Int) < hi then 1 else 0) (List.range n) = if (n : Int) ≤ lo then 0 else if (n : Int) ≤ hi then n - lo else hi - lo := by
  induction n with
  | zero => simp [gsm]; omega
  | succ n ih =>
    rw [List.range_succ, sm_app, ih]
    simp only [gsm]
    repeat' split
    all_goals omega
theorem sm_fr (lo c : Int) (h0 : 0 ≤ lo) (n : Nat) : gsm (fun a => if lo ≤ (a : Int) then c else 0) (List.range n) = if (n : Int) ≤ lo then 0 else ((n : Int) - lo) * c := by
  induction n with
  | zero => rw [if_pos (by omega)]; rfl
  | succ n ih =>
    rw [List.range_succ, sm_app, ih]
    simp only [gsm]
    by_cases h1 : (n : Int) < lo
    · rw [if_pos (by omega), if_neg (by omega), if_pos (by omega)]; rfl
    · rw [if_pos (show lo ≤ (n : Int) by omega), if_neg (show ¬ ((n + 1 : Nat) : Int) ≤ lo by omega)]
      rw [show ((n + 1 : Nat) : Int) - lo = ((n : Int) - lo) + 1 by omega, Int.add_mul, Int.one_mul]
      by_cases h2 : (n : Int) ≤ lo
      · rw [if_pos h2, show (n : Int) - lo = 0 by omega, Int.zero_mul]; omega
      · rw [if_neg h2]; omega
theorem sB_le {f h : Int → Int → Int} (e : ∀ i j, f i j ≤ h i j) : gsB f ≤ gsB h := sm_le (fun a _ => sm_le (fun b _ => e a b))
theorem sB_0 : gsB (fun _ _ => 0) = 0 := sm_zero (fun a _ => sm_zero (fun b _ => rfl))
theorem sB_sub (f h : Int → Int → Int) : gsB (fun i j => f i j - h i j) = gsB f - gsB h := by
  unfold gsB
  rw [← sm_sub]
  exact sm_congr (fun a _ => sm_sub _ _ _)
theorem sB_ge {f : Int → Int → Int} (e : ∀ i j, 0 ≤ f i j) {i j : Int} (h1 : 0 ≤ i) (h2 : i < 24) (h3 : 0 ≤ j) (h4 : j < 24) : f i j ≤ gsB f := by
  have a1 := sm_ge (f := fun a : Nat => gsm (fun b : Nat => f a b) (List.range 24)) (l := List.range 24) (fun a _ => sm_nn (fun b _ => e a b)) (a := i.toNat) (List.mem_range.mpr (by omega))
  have a2 := sm_ge (f := fun b : Nat => f (i.toNat : Int) b) (l := List.range 24) (fun b _ => e _ b) (a := j.toNat) (List.mem_range.mpr (by omega))
  rw [show ((i.toNat : Nat) : Int) = i by omega] at a1 a2
  rw [show ((j.toNat : Nat) : Int) = j by omega] at a2
  unfold gsB
  omega
theorem vz_in {g : SD} {s : Nat} (hs : gShape g s) (hb : 0 ≤ gy0 g s ∧ gy0 g s ≤ 24 ∧ 0 ≤ gy1 g s ∧ gy1 g s ≤ 24) (i : Int) : gsm (fun b => gvz g i b s) (List.range 24) = if gx0 g s ≤ i then gy0 g s - gy1 g s else 0 := by
  unfold gShape at hs
  rcases hs with ⟨hd, h1, h2⟩ | ⟨hd, h1, h2⟩ | ⟨hd, h1, h2⟩ | ⟨hd, h1, h2⟩
  · rw [sm_zero (fun b _ => by simp [gvz, hd])]
    split <;> omega
  · by_cases hx : gx0 g s ≤ i
    · rw [if_pos hx, sm_congr (h := fun b => (-1) * (if gy0 g s ≤ (b : Int) ∧ (b : Int) < gy1 g s then 1 else 0)) (fun b _ => ?_), sm_mul, sm_iv _ _ (by omega) (by omega)]
      · repeat' split
        all_goals omega
      · simp only [gvz, hd, hx]
        simp
        split <;> rfl
    · rw [if_neg hx, sm_zero]
      intro b _
      simp [gvz, hd, hx]
  · rw [sm_zero (fun b _ => by simp [gvz, hd])]
    split <;> omega
  · by_cases hx : gx0 g s ≤ i
    · rw [if_pos hx, sm_congr (h := fun b => (if gy1 g s ≤ (b : Int) ∧ (b : Int) < gy0 g s then 1 else 0)) (fun b _ => ?_), sm_iv _ _ (by omega) (by omega)]
      · repeat' split
        all_goals omega
      · simp only [gvz, hd, hx]
        simp
    · rw [if_neg hx, sm_zero]
      intro b _
      simp [gvz, hd, hx]
theorem sB_vz {g : SD} {s : Nat} (hs : gShape g s) (hx : 0 ≤ gx0 g s ∧ gx0 g s ≤ 24) (hb : 0 ≤ gy0 g s ∧ gy0 g s ≤ 24 ∧ 0 ≤ gy1 g s ∧ gy1 g s ≤ 24) : gsB (fun i j => gvz g i j s) = (gx0 g s - 24) * (gy1 g s - gy0 g s) := by
  unfold gsB
  rw [sm_congr (fun a _ => vz_in hs hb a), sm_fr _ _ (by omega)]
  split
  · rw [show gx0 g s - 24 = 0 by omega, Int.zero_mul]
  · rw [show gx0 g s - 24 = -(((24 : Nat) : Int) - gx0 g s) by omega, show gy1 g s - gy0 g s = -(gy0 g s - gy1 g s) by omega, Int.neg_mul_neg]
theorem sB_wn (g : SD) (R : List Nat) : gsB (gwn g R) = gsm (fun s => gsB (fun i j => gvz g i j s)) R := by
  unfold gsB gwn
  rw [sm_congr (fun a _ => sm_swap (fun b s => gvz g a b s) (List.range 24) R), sm_swap (fun a s => gsm (fun b => gvz g a b s) (List.range 24)) (List.range 24) R]
section TRN
variable {g : SD} {N : Nat} {nx : Nat → Nat} {lab : Int → Int → Int} {nr : Nat} {rg : Nat → List Nat} {fl : Nat → Int}
theorem Geo.area (G : Geo g N nx lab) {R : List Nat} {F : Int} (hR : RgF g N lab R F) : gtrn g R = 2 * gsB (gwn g R) := by
  have h1 : ∀ s ∈ R, gx0 g s * gy1 g s - gx1 g s * gy0 g s = 2 * (gx0 g s * (gy1 g s - gy0 g s)) - (gx1 g s * gy1 g s - gx0 g s * gy0 g s) := by
    intro s hs
    have := G.1 s (hR.2.1 s hs).1
    unfold gShape at this
    rcases this with ⟨hd, h1, h2⟩ | ⟨hd, h1, h2⟩ | ⟨hd, h1, h2⟩ | ⟨hd, h1, h2⟩ <;> rw [← h1, Int.mul_sub] <;> omega
  have h2 : ∀ s ∈ R, gsB (fun i j => gvz g i j s) = gx0 g s * (gy1 g s - gy0 g s) - 24 * (gy1 g s - gy0 g s) := by
    intro s hs
    have b1 := G.2.1 s (hR.2.1 s hs).1
    have b2 := G.box (hR.2.1 s hs).1
    rw [sB_vz (G.1 s (hR.2.1 s hs).1) ⟨b1.1, b1.2.1⟩ ⟨b1.2.2.1, b1.2.2.2, b2.2.2.1, b2.2.2.2⟩, Int.sub_mul]
  unfold gtrn
  have c1 := hR.2.2 (fun x y => x * y)
  have c2 := hR.2.2 (fun _ y => y)
  rw [sB_wn, sm_congr h1, sm_congr h2, sm_sub (fun s => 2 * (gx0 g s * (gy1 g s - gy0 g s))) (fun s => gx1 g s * gy1 g s - gx0 g s * gy0 g s), sm_sub (fun s => gx0 g s * (gy1 g s - gy0 g s)) (fun s => 24 * (gy1 g s - gy0 g s)), sm_mul, sm_mul]
  rw [c1, c2]
  omega
theorem Geo.inBox (G : Geo g N nx lab) {i j : Int} (h : lab i j ≠ lab (-1) (-1)) : 0 ≤ i ∧ i < 24 ∧ 0 ≤ j ∧ j < 24 := by
  apply Classical.byContradiction
  intro q
  exact h (G.out (by omega))
theorem Fam.pos (G : Geo g N nx lab) (hF : Fam g N lab nr rg fl) {k : Nat} (hk : k < nr) : 0 < gtrn g (rg k) ↔ glft g lab (rg k) (fl k) := by
  rw [G.area (hF.1 k hk).1]
  rcases Fam.or G hF hk with ⟨h1, h2, h3⟩ | ⟨h1, h2, h3⟩
  · refine ⟨fun _ => h1, fun _ => ?_⟩
    obtain ⟨i, j, h0⟩ := hF.cell hk
    have hb := G.inBox (i := i) (j := j) (by rw [h0]; exact h2)
    have := sB_ge (f := gwn g (rg k)) (fun a b => by have := h3 a b; omega) hb.1 hb.2.1 hb.2.2.1 hb.2.2.2
    have := h1 i j h0
    omega
  · refine ⟨fun q => ?_, fun q => absurd q h1⟩
    have := sB_le (f := gwn g (rg k)) (h := fun _ _ => 0) (fun a b => by have := h3 a b; omega)
    rw [sB_0] at this
    omega
/-- the least ring round a cell is its own -/
theorem Fam.at (G : Geo g N nx lab) (hF : Fam g N lab nr rg fl) (i j : Int) : (lab i j = lab (-1) (-1) → ∀ k, k < nr → gwn g (rg k) i j = 0) ∧
    (lab i j ≠ lab (-1) (-1) → ∃ k, k < nr ∧ glft g lab (rg k) (fl k) ∧ fl k = lab i j ∧ gwn g (rg k) i j = 1 ∧ ∀ k', k' < nr → glft g lab (rg k') (fl k') → k' ≠ k → gwn g (rg k') i j = 1 → gtrn g (rg k) < gtrn g (rg k')) := by
  constructor
  · intro h k hk
    rw [G.wcon (hF.1 k hk).1 h.symm]
    exact G.far (hF.1 k hk).1 (by omega)
  · intro h
    obtain ⟨k, hk, e, hl⟩ := Fam.left G hF h
    refine ⟨k, hk, hl, e, hl i j e.symm, ?_⟩
    intro k' hk' hl' hne hw
    obtain ⟨n1, n2⟩ := Fam.nest G hF hk hk' (Ne.symm hne) hl hl' e.symm hw
    rw [G.area (hF.1 k hk).1, G.area (hF.1 k' hk').1]
    obtain ⟨a, b, h0⟩ := hF.cell hk'
    have ho : fl k' ≠ lab (-1) (-1) := by
      rcases Fam.or G hF hk' with q | q
      · exact q.2.1
      · exact absurd hl' q.1
    have hb := G.inBox (i := a) (j := b) (by rw [h0]; exact ho)
    have := sB_ge (f := fun i j => gwn g (rg k') i j - gwn g (rg k) i j) (fun a b => by have := n1 a b; omega) hb.1 hb.2.1 hb.2.2.1 hb.2.2.2
    rw [sB_sub, n2 a b h0, hl' a b h0] at this
    have e1 : gsB (fun i j => gwn g (rg k') i j) = gsB (gwn g (rg k')) := rfl
    omega
theorem Fam.area (G : Geo g N nx lab) (hF : Fam g N lab nr rg fl) {F : Int} (ho : F ≠ lab (-1) (-1)) : gsm (fun k => if fl k = F then gtrn g (rg k) else 0) (List.range nr) = 2 * gsB (fun i j => if lab i j = F then 1 else 0) := by
  have h1 : gsB (fun i j => if lab i j = F then 1 else 0) = gsm (fun k => if fl k = F then gsB (gwn g (rg k)) else 0) (List.range nr) := by
    have h2 : (fun i j => if lab i j = F then (1 : Int) else 0) = fun i j => gsm (fun k => if fl k = F then gwn g (rg k) i j else 0) (List.range nr) := by
      funext i j
      rw [Fam.sum G hF F i j, if_neg (Ne.symm ho)]
      omega
    rw [h2]
    unfold gsB
    rw [sm_congr (fun a _ => sm_swap (fun b k => if fl k = F then gwn g (rg k) a b else 0) (List.range 24) (List.range nr)), sm_swap (fun a k => gsm (fun b => if fl k = F then gwn g (rg k) a b else 0) (List.range 24)) (List.range 24) (List.range nr)]
    refine sm_congr ?_
    intro k _
    by_cases e : fl k = F
    · simp only [if_pos e]
    · simp only [if_neg e]
      exact sm_zero (fun a _ => sm_zero (fun b _ => rfl))
  rw [h1, ← sm_mul]
  refine sm_congr ?_
  intro k hk
  by_cases e : fl k = F
  · simp only [if_pos e]
    exact G.area (hF.1 k (List.mem_range.mp hk)).1
  · simp only [if_neg e]; rfl
/-! least points -/
def glst (g : SD) (R : List Nat) (px py : Int) : Prop := (∃ s ∈ R, gx0 g s = px ∧ gy0 g s = py) ∧ ∀ s ∈ R, px < gx0 g s ∨ (px = gx0 g s ∧ py ≤ gy0 g s)
def grnd (nx : Nat → Nat) (R : List Nat) : Prop := (∀ s ∈ R, nx s ∈ R) ∧ ∀ s ∈ R, ∃ s' ∈ R, nx s' = s
theorem Geo.dir (G : Geo g N nx lab) {R : List Nat} {F : Int} (hR : RgF g N lab R F) (hr : grnd nx R) {px py : Int} (hl : glst g R px py) {s : Nat} (hs : s ∈ R) (hx : gx0 g s = px) (hy : gy0 g s = py) : gdr g s = 0 ∨ gdr g s = 1 := by
  have h1 := G.1 s (hR.2.1 s hs).1
  have h2 := G.2.2.2.2.2.2.1 s (hR.2.1 s hs).1
  have h3 := hl.2 _ (hr.1 s hs)
  unfold gShape at h1
  obtain ⟨_, e1, e2, _⟩ := h2
  rw [e1, e2] at h3
  omega
theorem Geo.w0 (G : Geo g N nx lab) {R : List Nat} {F : Int} (hR : RgF g N lab R F) {px py : Int} (hl : glst g R px py) (j : Int) : gwn g R (px - 1) j = 0 := by
  refine sm_zero ?_
  intro s hs
  have := hl.2 s hs
  unfold gvz
  rw [if_neg (by omega), if_neg (by omega)]
theorem Geo.lstL (G : Geo g N nx lab) {R : List Nat} {F : Int} (hR : RgF g N lab R F) (hr : grnd nx R) (hL : glft g lab R F) {px py : Int} (hl : glst g R px py) : lab px py = F := by
  obtain ⟨s, hs, hx, hy⟩ := hl.1
  have hF := (hR.2.1 s hs).2
  rcases G.dir hR hr hl hs hx hy with hd | hd
  · simpa [gLL, gqd, hd, hx, hy] using hF
  · have h1 : lab (px - 1) py = F := by simpa [gLL, gqd, hd, hx, hy] using hF
    have h2 := hL _ _ h1
    rw [G.w0 hR hl] at h2
    omega
/-- a ring that isn't round its face: where it begins there's a side upwards of it, or none at all -/
theorem Geo.lstR (G : Geo g N nx lab) {R : List Nat} {F : Int} (hR : RgF g N lab R F) (hr : grnd nx R) (h0 : ∀ i j, lab i j = F → gwn g R i j = 0) {px py : Int} (hl : glst g R px py) : lab (px - 1) py = F ∧ ((∃ s ∈ R, gx0 g s = px ∧ gy0 g s = py ∧ gdr g s = 1) ∨ ¬ glv g N px py 1) := by
  have up : ∀ s ∈ R, gx0 g s = px → gy0 g s = py → gdr g s = 1 → lab (px - 1) py = F ∧ ((∃ s ∈ R, gx0 g s = px ∧ gy0 g s = py ∧ gdr g s = 1) ∨ ¬ glv g N px py 1) := by
    intro s hs hx hy hd
    refine ⟨?_, Or.inl ⟨s, hs, hx, hy, hd⟩⟩
    have hF := (hR.2.1 s hs).2
    simpa [gLL, gqd, hd, hx, hy] using hF
  obtain ⟨s, hs, hx, hy⟩ := hl.1
  rcases G.dir hR hr hl hs hx hy with hd | hd
  · have hF : lab px py = F := by
      have hF := (hR.2.1 s hs).2
      simpa [gLL, gqd, hd, hx, hy] using hF
    obtain ⟨p, hp, hn⟩ := hr.2 s hs
    have hpN := (hR.2.1 p hp).1
    obtain ⟨_, e1, e2, ht⟩ := G.2.2.2.2.2.2.1 p hpN
    rw [hn] at e1 e2 ht
    have hsh := G.1 p hpN
    have hlp := hl.2 p hp
    unfold gShape at hsh
    have hdp : gdr g p = 2 ∨ gdr g p = 3 := by omega
    rcases hdp with hdp | hdp
    · rw [hdp, hd] at ht
      unfold gTurn at ht
      have hno : ¬ glv g N (gx1 g p) (gy1 g p) 1 := by
        rcases ht with ht | ⟨_, ht | ⟨_, ht | ⟨n3, _⟩⟩⟩
        · omega
        · omega
        · omega
        · exact n3
      have := G.opn hpN (e := 1) (by omega) hno
      rw [show gx1 g p = px by omega, show gy1 g p = py by omega] at this hno
      refine ⟨?_, Or.inr hno⟩
      have q : lab (px - 1) py = lab px py := by simpa [gqd] using this
      rw [q, hF]
    · -- it comes down to the point: then it goes up too
      have hc : ew3 g px py p = 1 := ew3_1.mpr ⟨hdp, by omega, Or.inr ⟨hdp, by omega, by omega⟩⟩
      have hd0 := wn_V (g := g) (R := R) px py
      rw [G.w0 hR hl, h0 _ _ hF] at hd0
      rcases G.s3 hR px py with ⟨x, y⟩ | ⟨x, _⟩
      · have := y p hp; omega
      · rcases G.s1 hR px py with ⟨x', _⟩ | ⟨x', r, hrr, hc'⟩
        · omega
        · have hc' := ew1_1.mp hc'
          have hlr := hl.2 r hrr
          have hcv := hc'.2
          unfold gcV at hcv
          exact up r hrr (by omega) (by omega) hc'.1
  · exact up s hs hx hy hd
theorem Fam.lstU (G : Geo g N nx lab) (hF : Fam g N lab nr rg fl) (hr : ∀ k, k < nr → grnd nx (rg k)) {k k' : Nat} (hk : k < nr) (hk' : k' < nr) (h : ¬ glft g lab (rg k) (fl k)) (h' : ¬ glft g lab (rg k') (fl k')) {px py : Int} (hl : glst g (rg k) px py) (hl' : glst g (rg k') px py) : k = k' := by
  have z : ∀ k, k < nr → ¬ glft g lab (rg k) (fl k) → ∀ i j, lab i j = fl k → gwn g (rg k) i j = 0 := by
    intro k hk h
    rcases Fam.or G hF hk with q | q
    · exact absurd q.1 h
    · exact q.2.1
  have u : ∀ s r, s < N → r < N → gx0 g s = px → gy0 g s = py → gx0 g r = px → gy0 g r = py → gdr g s = gdr g r → s = r := by
    intro s r hs hr a b c d e
    have h1 := G.1 s hs
    have h2 := G.1 r hr
    unfold gShape at h1 h2
    rcases h1 with h1 | h1 | h1 | h1
    · exact G.2.2.2.1 s r hs hr e px py (Or.inr ⟨⟨by omega, Or.inl ⟨by omega, by omega, by omega⟩⟩, ⟨by omega, Or.inl ⟨by omega, by omega, by omega⟩⟩⟩)
    · exact G.2.2.2.1 s r hs hr e px py (Or.inl ⟨⟨by omega, Or.inl ⟨by omega, by omega, by omega⟩⟩, ⟨by omega, Or.inl ⟨by omega, by omega, by omega⟩⟩⟩)
    · exact G.2.2.2.1 s r hs hr e (px - 1) py (Or.inr ⟨⟨by omega, Or.inr ⟨by omega, by omega, by omega⟩⟩, ⟨by omega, Or.inr ⟨by omega, by omega, by omega⟩⟩⟩)
    · exact G.2.2.2.1 s r hs hr e px (py - 1) (Or.inl ⟨⟨by omega, Or.inr ⟨by omega, by omega, by omega⟩⟩, ⟨by omega, Or.inr ⟨by omega, by omega, by omega⟩⟩⟩)
  have a := (G.lstR (hF.1 k hk).1 (hr k hk) (z k hk h) hl).2
  have a' := (G.lstR (hF.1 k' hk').1 (hr k' hk') (z k' hk' h') hl').2
  have n : ∀ k, k < nr → ∀ s ∈ rg k, s < N := fun k hk s hs => ((hF.1 k hk).1.2.1 s hs).1
  rcases a with ⟨s, hs, x, y, d⟩ | a
  · rcases a' with ⟨s', hs', x', y', d'⟩ | a'
    · have := u s s' (n k hk s hs) (n k' hk' s' hs') x y x' y' (d.trans d'.symm)
      subst this
      exact hF.2.2 k k' hk hk' s hs hs'
    · exact absurd ⟨s, n k hk s hs, x, y, d⟩ a'
  · rcases a' with ⟨s', hs', x', y', d'⟩ | a'
    · exact absurd ⟨s', n k' hk' s' hs', x', y', d'⟩ a
    · obtain ⟨s, hs, x, y⟩ := hl.1
      obtain ⟨s', hs', x', y'⟩ := hl'.1
      have d : gdr g s = 0 := by
        rcases G.dir (hF.1 k hk).1 (hr k hk) hl hs x y with q | q
        · exact q
        · exact absurd ⟨s, n k hk s hs, x, y, q⟩ a
      have d' : gdr g s' = 0 := by
        rcases G.dir (hF.1 k' hk').1 (hr k' hk') hl' hs' x' y' with q | q
        · exact q
        · exact absurd ⟨s', n k' hk' s' hs', x', y', q⟩ a
      have := u s s' (n k hk s hs) (n k' hk' s' hs') x y x' y' (d.trans d'.symm)
      subst this
      exact hF.2.2 k k' hk hk' s hs hs'
theorem Fam.lstO (G : Geo g N nx lab) (hF : Fam g N lab nr rg fl) (hr : ∀ k, k < nr → grnd nx (rg k)) {k k' : Nat} (hk : k < nr) (hk' : k' < nr) (h : glft g lab (rg k) (fl k)) (h' : ¬ glft g lab (rg k') (fl k')) (e : fl k = fl k') {px py qx qy : Int} (hl : glst g (rg k) px py) (hl' : glst g (rg k') qx qy) : px < qx := by
  have z : ∀ i j, lab i j = fl k' → gwn g (rg k') i j = 0 := by
    rcases Fam.or G hF hk' with q | q
    · exact absurd q.1 h'
    · exact q.2.1
  have h1 := (G.lstR (hF.1 k' hk').1 (hr k' hk') z hl').1
  have h2 := h (qx - 1) qy (h1.trans e.symm)
  apply Classical.byContradiction
  intro hn
  have : gwn g (rg k) (qx - 1) qy = 0 := by
    refine sm_zero ?_
    intro s hs
    have := hl.2 s hs
    unfold gvz
    rw [if_neg (by omega), if_neg (by omega)]
  omega
end TRN
/-! whether a cell is inside: by how many sides to its left -/
def gxr (g : SD) (i j : Int) : List Nat → Bool → Bool
  | [], b => b
  | s :: r, b => gxr g i j r (b ^^ decide (gvz g i j s ≠ 0))
theorem xrs_mod (g : SD) (i j : Int) (R : List Nat) (b : Bool) : (if gxr g i j R b = true then (1 : Int) else 0) % 2 = ((if b = true then 1 else 0) + gwn g R i j) % 2 := by
  induction R generalizing b with
  | nil => cases b <;> simp [gxr, gwn, gsm]
  | cons s r ih =>
    unfold gxr
    rw [ih]
    have hw : gwn g (s :: r) i j = gvz g i j s + gwn g r i j := rfl
    rw [hw]
    have hv : gvz g i j s = 0 ∨ gvz g i j s = 1 ∨ gvz g i j s = -1 := by
      unfold gvz; split
      · simp
      · split <;> simp
    rcases hv with hv | hv | hv <;> cases b <;> simp [hv] <;> omega
theorem xrs_1 {g : SD} {i j : Int} {R : List Nat} (h : gwn g R i j = 1 ∨ gwn g R i j = 0) : gxr g i j R false = true ↔ gwn g R i j = 1 := by
  have := xrs_mod g i j R false
  cases hx : gxr g i j R false with
  | true => simp [hx] at this; simp; omega
  | false => simp [hx] at this; simp; omega
