/-! how often rings go round cells -/
def gvz (g : SD) (i j : Int) (s : Nat) : Int := if gdr g s = 3 ∧ gx0 g s ≤ i ∧ gy1 g s ≤ j ∧ j < gy0 g s then 1 else if gdr g s = 1 ∧ gx0 g s ≤ i ∧ gy0 g s ≤ j ∧ j < gy1 g s then -1 else 0
def ew3 (g : SD) (i j : Int) (s : Nat) : Int := if gdr g s = 3 ∧ gx0 g s = i ∧ gy1 g s ≤ j ∧ j < gy0 g s then 1 else 0
def ew1 (g : SD) (i j : Int) (s : Nat) : Int := if gdr g s = 1 ∧ gx0 g s = i ∧ gy0 g s ≤ j ∧ j < gy1 g s then 1 else 0
def ew0 (g : SD) (i j : Int) (s : Nat) : Int := if gdr g s = 0 ∧ gy0 g s = j ∧ gx0 g s ≤ i ∧ i < gx1 g s then 1 else 0
def ew2 (g : SD) (i j : Int) (s : Nat) : Int := if gdr g s = 2 ∧ gy0 g s = j ∧ gx1 g s ≤ i ∧ i < gx0 g s then 1 else 0
def gwn (g : SD) (R : List Nat) (i j : Int) : Int := gsm (gvz g i j) R
def gclo (g : SD) (R : List Nat) : Prop := ∀ f : Int → Int → Int, gsm (fun s => f (gx1 g s) (gy1 g s) - f (gx0 g s) (gy0 g s)) R = 0
def RgF (g : SD) (N : Nat) (lab : Int → Int → Int) (R : List Nat) (F : Int) : Prop := R.Nodup ∧ (∀ s ∈ R, s < N ∧ gLL g lab s = F) ∧ gclo g R
theorem vz_V (g : SD) (i j : Int) (s : Nat) : gvz g i j s - gvz g (i - 1) j s = ew3 g i j s - ew1 g i j s := by
  unfold gvz ew3 ew1
  repeat' split
  all_goals omega
theorem vz_H {g : SD} {s : Nat} (hs : gShape g s) (i j : Int) : gvz g i j s - gvz g i (j - 1) s = ((if gx1 g s ≤ i ∧ gy1 g s = j then 1 else 0) - (if gx0 g s ≤ i ∧ gy0 g s = j then 1 else 0)) + (ew0 g i j s - ew2 g i j s) := by
  unfold gvz ew0 ew2
  unfold gShape at hs
  rcases hs with ⟨hd, h1, h2⟩ | ⟨hd, h1, h2⟩ | ⟨hd, h1, h2⟩ | ⟨hd, h1, h2⟩
  all_goals simp only [hd]
  all_goals simp
  all_goals repeat' split
  all_goals omega
section WN
variable {g : SD} {N : Nat} {nx : Nat → Nat} {lab : Int → Int → Int} {R : List Nat} {F : Int}
theorem wn_V (i j : Int) : gwn g R i j - gwn g R (i - 1) j = gsm (ew3 g i j) R - gsm (ew1 g i j) R := by
  unfold gwn
  rw [← sm_sub, ← sm_sub]
  exact sm_congr (fun s _ => vz_V g i j s)
theorem wn_H (hs : ∀ s ∈ R, gShape g s) (hc : gclo g R) (i j : Int) : gwn g R i j - gwn g R i (j - 1) = gsm (ew0 g i j) R - gsm (ew2 g i j) R := by
  unfold gwn
  rw [← sm_sub, sm_congr (fun s h => vz_H (hs s h) i j), sm_add, hc (fun x y => if x ≤ i ∧ y = j then 1 else 0), sm_sub]
  omega
theorem ew3_or (g : SD) (i j : Int) (s : Nat) : ew3 g i j s = 0 ∨ ew3 g i j s = 1 := by unfold ew3; split <;> simp
theorem ew1_or (g : SD) (i j : Int) (s : Nat) : ew1 g i j s = 0 ∨ ew1 g i j s = 1 := by unfold ew1; split <;> simp
theorem ew0_or (g : SD) (i j : Int) (s : Nat) : ew0 g i j s = 0 ∨ ew0 g i j s = 1 := by unfold ew0; split <;> simp
theorem ew2_or (g : SD) (i j : Int) (s : Nat) : ew2 g i j s = 0 ∨ ew2 g i j s = 1 := by unfold ew2; split <;> simp
theorem ew3_1 {i j : Int} {s : Nat} : ew3 g i j s = 1 ↔ gdr g s = 3 ∧ gcV g s i j := by
  unfold ew3 gcV
  split <;> simp <;> omega
theorem ew1_1 {i j : Int} {s : Nat} : ew1 g i j s = 1 ↔ gdr g s = 1 ∧ gcV g s i j := by
  unfold ew1 gcV
  split <;> simp <;> omega
theorem ew0_1 {i j : Int} {s : Nat} : ew0 g i j s = 1 ↔ gdr g s = 0 ∧ gcH g s i j := by
  unfold ew0 gcH
  split <;> simp <;> omega
theorem ew2_1 {i j : Int} {s : Nat} : ew2 g i j s = 1 ↔ gdr g s = 2 ∧ gcH g s i j := by
  unfold ew2 gcH
  split <;> simp <;> omega
theorem Geo.s3 (G : Geo g N nx lab) (hR : RgF g N lab R F) (i j : Int) : (gsm (ew3 g i j) R = 0 ∧ ∀ s ∈ R, ew3 g i j s = 0) ∨ (gsm (ew3 g i j) R = 1 ∧ ∃ s ∈ R, ew3 g i j s = 1) :=
  sm_one (fun s _ => ew3_or g i j s) (fun s hs r hr a b => G.2.2.2.1 s r (hR.2.1 s hs).1 (hR.2.1 r hr).1 ((ew3_1.mp a).1.trans (ew3_1.mp b).1.symm) i j (Or.inl ⟨(ew3_1.mp a).2, (ew3_1.mp b).2⟩)) hR.1
theorem Geo.s1 (G : Geo g N nx lab) (hR : RgF g N lab R F) (i j : Int) : (gsm (ew1 g i j) R = 0 ∧ ∀ s ∈ R, ew1 g i j s = 0) ∨ (gsm (ew1 g i j) R = 1 ∧ ∃ s ∈ R, ew1 g i j s = 1) :=
  sm_one (fun s _ => ew1_or g i j s) (fun s hs r hr a b => G.2.2.2.1 s r (hR.2.1 s hs).1 (hR.2.1 r hr).1 ((ew1_1.mp a).1.trans (ew1_1.mp b).1.symm) i j (Or.inl ⟨(ew1_1.mp a).2, (ew1_1.mp b).2⟩)) hR.1
theorem Geo.s0 (G : Geo g N nx lab) (hR : RgF g N lab R F) (i j : Int) : (gsm (ew0 g i j) R = 0 ∧ ∀ s ∈ R, ew0 g i j s = 0) ∨ (gsm (ew0 g i j) R = 1 ∧ ∃ s ∈ R, ew0 g i j s = 1) :=
  sm_one (fun s _ => ew0_or g i j s) (fun s hs r hr a b => G.2.2.2.1 s r (hR.2.1 s hs).1 (hR.2.1 r hr).1 ((ew0_1.mp a).1.trans (ew0_1.mp b).1.symm) i j (Or.inr ⟨(ew0_1.mp a).2, (ew0_1.mp b).2⟩)) hR.1
theorem Geo.s2 (G : Geo g N nx lab) (hR : RgF g N lab R F) (i j : Int) : (gsm (ew2 g i j) R = 0 ∧ ∀ s ∈ R, ew2 g i j s = 0) ∨ (gsm (ew2 g i j) R = 1 ∧ ∃ s ∈ R, ew2 g i j s = 1) :=
  sm_one (fun s _ => ew2_or g i j s) (fun s hs r hr a b => G.2.2.2.1 s r (hR.2.1 s hs).1 (hR.2.1 r hr).1 ((ew2_1.mp a).1.trans (ew2_1.mp b).1.symm) i j (Or.inr ⟨(ew2_1.mp a).2, (ew2_1.mp b).2⟩)) hR.1
theorem Geo.wV0 (G : Geo g N nx lab) (hR : RgF g N lab R F) {i j : Int} (h : ¬ gwV g N i j) : gwn g R (i - 1) j = gwn g R i j := by
  have := wn_V (g := g) (R := R) i j
  rw [sm_zero (f := ew3 g i j), sm_zero (f := ew1 g i j)] at this
  · omega
  · intro s hs
    rcases ew1_or g i j s with q | q
    · exact q
    · exact absurd ⟨s, (hR.2.1 s hs).1, (ew1_1.mp q).2⟩ h
  · intro s hs
    rcases ew3_or g i j s with q | q
    · exact q
    · exact absurd ⟨s, (hR.2.1 s hs).1, (ew3_1.mp q).2⟩ h
theorem Geo.shp (G : Geo g N nx lab) (hR : RgF g N lab R F) : ∀ s ∈ R, gShape g s := fun s hs => G.1 s (hR.2.1 s hs).1
theorem Geo.wH0 (G : Geo g N nx lab) (hR : RgF g N lab R F) {i j : Int} (h : ¬ gwH g N i j) : gwn g R i (j - 1) = gwn g R i j := by
  have := wn_H (g := g) (R := R) (G.shp hR) hR.2.2 i j
  rw [sm_zero (f := ew0 g i j), sm_zero (f := ew2 g i j)] at this
  · omega
  · intro s hs
    rcases ew2_or g i j s with q | q
    · exact q
    · exact absurd ⟨s, (hR.2.1 s hs).1, (ew2_1.mp q).2⟩ h
  · intro s hs
    rcases ew0_or g i j s with q | q
    · exact q
    · exact absurd ⟨s, (hR.2.1 s hs).1, (ew0_1.mp q).2⟩ h
/-- it is the same all over a face -/
theorem Geo.wcon (G : Geo g N nx lab) (hR : RgF g N lab R F) {i j i' j' : Int} (h : lab i j = lab i' j') : gwn g R i' j' = gwn g R i j := by
  refine G.2.2.2.2.2.2.2.2.2 (fun a b => gwn g R a b = gwn g R i j) ?_ ?_ i j i' j' h rfl
  · intro a b hn; rw [G.wV0 hR hn]
  · intro a b hn; rw [G.wH0 hR hn]
/-- the whole plane hangs together -/
theorem grid_all {T : Int → Int → Prop} (hV : ∀ i j, T (i - 1) j ↔ T i j) (hH : ∀ i j, T i (j - 1) ↔ T i j) {i0 j0 : Int} (h : T i0 j0) (i j : Int) : T i j := by
  have up : ∀ (k : Nat) (i j : Int), T i j → T (i + k) j ∧ T (i - k) j ∧ T i (j + k) ∧ T i (j - k) := by
    intro k
    induction k with
    | zero => intro i j h; simp [h]
    | succ k ih =>
      intro i j h
      obtain ⟨a, b, c, d⟩ := ih i j h
      refine ⟨?_, ?_, ?_, ?_⟩
      · refine (hV _ _).mp ?_
        rw [show i + ((k + 1 : Nat) : Int) - 1 = i + k by omega]; exact a
      · rw [show i - ((k + 1 : Nat) : Int) = i - k - 1 by omega]
        exact (hV _ _).mpr b
      · refine (hH _ _).mp ?_
        rw [show j + ((k + 1 : Nat) : Int) - 1 = j + k by omega]; exact c
      · rw [show j - ((k + 1 : Nat) : Int) = j - k - 1 by omega]
        exact (hH _ _).mpr d
  have h1 : T i j0 := by
    by_cases e : i0 ≤ i
    · have := (up (i - i0).toNat i0 j0 h).1
      rw [show i0 + ((i - i0).toNat : Int) = i by omega] at this; exact this
    · have := (up (i0 - i).toNat i0 j0 h).2.1
      rw [show i0 - ((i0 - i).toNat : Int) = i by omega] at this; exact this
  by_cases e : j0 ≤ j
  · have := (up (j - j0).toNat i j0 h1).2.2.1
    rw [show j0 + ((j - j0).toNat : Int) = j by omega] at this; exact this
  · have := (up (j0 - j).toNat i j0 h1).2.2.2
    rw [show j0 - ((j0 - j).toNat : Int) = j by omega] at this; exact this
theorem Geo.two (G : Geo g N nx lab) (hR : RgF g N lab R F) {a : Int} (ha : ∀ i j, lab i j = F → gwn g R i j = a) {i0 j0 : Int} (h0 : lab i0 j0 = F) (i j : Int) : gwn g R i j = a ∨ gwn g R i j = a - 1 := by
  refine grid_all (T := fun i j => gwn g R i j = a ∨ gwn g R i j = a - 1) ?_ ?_ (Or.inl (ha i0 j0 h0)) i j
  · intro i j
    have hd := wn_V (g := g) (R := R) i j
    rcases G.s3 hR i j with ⟨e3', _⟩ | ⟨e3', s, hs, hc⟩
    · rcases G.s1 hR i j with ⟨e1', _⟩ | ⟨e1', r, hr, hc'⟩
      · rw [show gwn g R i j = gwn g R (i - 1) j by omega]
      · have q := (G.LLV (hR.2.1 r hr).1 (ew1_1.mp hc').2).1 (ew1_1.mp hc').1
        have := ha _ _ (q.symm.trans (hR.2.1 r hr).2)
        constructor <;> intro _ <;> omega
    · have q := (G.LLV (hR.2.1 s hs).1 (ew3_1.mp hc).2).2 (ew3_1.mp hc).1
      have := ha _ _ (q.symm.trans (hR.2.1 s hs).2)
      rcases G.s1 hR i j with ⟨e1', _⟩ | ⟨e1', r, hr, hc'⟩
      · constructor <;> intro _ <;> omega
      · rw [show gwn g R i j = gwn g R (i - 1) j by omega]
  · intro i j
    have hd := wn_H (g := g) (R := R) (G.shp hR) hR.2.2 i j
    rcases G.s0 hR i j with ⟨e0', _⟩ | ⟨e0', s, hs, hc⟩
    · rcases G.s2 hR i j with ⟨e2', _⟩ | ⟨e2', r, hr, hc'⟩
      · rw [show gwn g R i j = gwn g R i (j - 1) by omega]
      · have q := (G.LLH (hR.2.1 r hr).1 (ew2_1.mp hc').2).2 (ew2_1.mp hc').1
        have := ha _ _ (q.symm.trans (hR.2.1 r hr).2)
        constructor <;> intro _ <;> omega
    · have q := (G.LLH (hR.2.1 s hs).1 (ew0_1.mp hc).2).1 (ew0_1.mp hc).1
      have := ha _ _ (q.symm.trans (hR.2.1 s hs).2)
      rcases G.s2 hR i j with ⟨e2', _⟩ | ⟨e2', r, hr, hc'⟩
      · constructor <;> intro _ <;> omega
      · rw [show gwn g R i j = gwn g R i (j - 1) by omega]
theorem Geo.far (G : Geo g N nx lab) (hR : RgF g N lab R F) {i j : Int} (h : i < 0) : gwn g R i j = 0 := by
  refine sm_zero ?_
  intro s hs
  have := G.2.1 s (hR.2.1 s hs).1
  unfold gvz
  rw [if_neg (by omega), if_neg (by omega)]
/-- beyond all lines is the outside -/
theorem Geo.out (G : Geo g N nx lab) {i j : Int} (h : i < 0 ∨ 24 ≤ i ∨ j < 0 ∨ 24 ≤ j) : lab i j = lab (-1) (-1) := by
  have nV : ∀ i j : Int, (i < 0 ∨ 24 < i ∨ j < 0 ∨ 24 ≤ j) → ¬ gwV g N i j := by
    rintro i j h ⟨s, hs, hc⟩
    have h1 := G.2.1 s hs
    have h2 := G.box hs
    unfold gcV at hc
    omega
  have nH : ∀ i j : Int, (j < 0 ∨ 24 < j ∨ i < 0 ∨ 24 ≤ i) → ¬ gwH g N i j := by
    rintro i j h ⟨s, hs, hc⟩
    have h1 := G.2.1 s hs
    have h2 := G.box hs
    unfold gcH at hc
    omega
  have gV := G.2.2.2.2.2.2.2.1
  have gH := G.2.2.2.2.2.2.2.2.1
  -- along rows and columns
  have row : ∀ (j : Int), (j < 0 ∨ 24 ≤ j) → ∀ i, lab i j = lab (-1) j := by
    intro j hj i
    refine (grid_all (T := fun i _ => lab i j = lab (-1) j) (i0 := -1) (j0 := 0) ?_ (fun _ _ => Iff.rfl) rfl i 0)
    intro a _
    rw [gV a j (nV a j (by omega))]
  have col : ∀ (i : Int), (i < 0 ∨ 24 ≤ i) → ∀ j, lab i j = lab i (-1) := by
    intro i hi j
    refine (grid_all (T := fun _ j => lab i j = lab i (-1)) (i0 := 0) (j0 := -1) (fun _ _ => Iff.rfl) ?_ rfl 0 j)
    intro _ b
    rw [gH i b (nH i b (by omega))]
  by_cases h1 : i < 0 ∨ 24 ≤ i
  · rw [col i h1 j, row (-1) (by omega) i]
  · rw [row j (by omega) i, col (-1) (by omega) j]
theorem Geo.a01 (G : Geo g N nx lab) (hR : RgF g N lab R F) {a : Int} (ha : ∀ i j, lab i j = F → gwn g R i j = a) {i0 j0 : Int} (h0 : lab i0 j0 = F) : a = 0 ∨ a = 1 := by
  have h1 := G.far hR (i := -1) (j := -1) (by omega)
  have h2 := G.two hR ha h0 (-1) (-1)
  omega
/-- all sides of a face together -/
theorem Geo.whole (G : Geo g N nx lab) (hR : RgF g N lab R F) (hall : ∀ s, s < N → gLL g lab s = F → s ∈ R) (i j : Int) : gwn g R i j = (if lab i j = F then 1 else 0) - (if lab (-1) (-1) = F then 1 else 0) := by
  refine grid_all (T := fun i j => gwn g R i j = (if lab i j = F then 1 else 0) - (if lab (-1) (-1) = F then 1 else 0)) (i0 := -1) (j0 := -1) ?_ ?_ ?_ i j
  · intro i j
    by_cases hw : gwV g N i j
    · -- both sides of the wall are there
      have both : ∃ s r, s < N ∧ r < N ∧ ew3 g i j s = 1 ∧ ew1 g i j r = 1 := by
        obtain ⟨s, hs, hc⟩ := hw
        obtain ⟨r, hr, q1, q2, q3, q4, q5⟩ := G.2.2.1 s hs
        have hsh := G.1 s hs
        unfold gShape at hsh
        rcases hc with ⟨hx, ⟨hd, c1, c2⟩ | ⟨hd, c1, c2⟩⟩
        · exact ⟨r, s, hr, hs, ew3_1.mpr ⟨by omega, by omega, Or.inr ⟨by omega, by omega, by omega⟩⟩, ew1_1.mpr ⟨hd, hx, Or.inl ⟨hd, c1, c2⟩⟩⟩
        · exact ⟨s, r, hs, hr, ew3_1.mpr ⟨hd, hx, Or.inr ⟨hd, c1, c2⟩⟩, ew1_1.mpr ⟨by omega, by omega, Or.inl ⟨by omega, by omega, by omega⟩⟩⟩
      obtain ⟨s, r, hs, hr, k3, k1⟩ := both
      have hd := wn_V (g := g) (R := R) i j
      have l3 := (G.LLV hs (ew3_1.mp k3).2).2 (ew3_1.mp k3).1
      have l1 := (G.LLV hr (ew1_1.mp k1).2).1 (ew1_1.mp k1).1
      have v3 : gsm (ew3 g i j) R = if lab i j = F then 1 else 0 := by
        rcases G.s3 hR i j with ⟨x, y⟩ | ⟨x, q, hq, y⟩
        · rw [x, if_neg]
          intro hF
          have := y s (hall s hs (l3.trans hF))
          omega
        · rw [x, if_pos]
          rw [← (G.LLV (hR.2.1 q hq).1 (ew3_1.mp y).2).2 (ew3_1.mp y).1]
          exact (hR.2.1 q hq).2
      have v1 : gsm (ew1 g i j) R = if lab (i - 1) j = F then 1 else 0 := by
        rcases G.s1 hR i j with ⟨x, y⟩ | ⟨x, q, hq, y⟩
        · rw [x, if_neg]
          intro hF
          have := y r (hall r hr (l1.trans hF))
          omega
        · rw [x, if_pos]
          rw [← (G.LLV (hR.2.1 q hq).1 (ew1_1.mp y).2).1 (ew1_1.mp y).1]
          exact (hR.2.1 q hq).2
      rw [v3, v1] at hd
      constructor <;> intro _ <;> omega
    · rw [G.wV0 hR hw, G.2.2.2.2.2.2.2.1 i j hw]
  · intro i j
    by_cases hw : gwH g N i j
    · have both : ∃ s r, s < N ∧ r < N ∧ ew0 g i j s = 1 ∧ ew2 g i j r = 1 := by
        obtain ⟨s, hs, hc⟩ := hw
        obtain ⟨r, hr, q1, q2, q3, q4, q5⟩ := G.2.2.1 s hs
        have hsh := G.1 s hs
        unfold gShape at hsh
        rcases hc with ⟨hx, ⟨hd, c1, c2⟩ | ⟨hd, c1, c2⟩⟩
        · exact ⟨s, r, hs, hr, ew0_1.mpr ⟨hd, hx, Or.inl ⟨hd, c1, c2⟩⟩, ew2_1.mpr ⟨by omega, by omega, Or.inr ⟨by omega, by omega, by omega⟩⟩⟩
        · exact ⟨r, s, hr, hs, ew0_1.mpr ⟨by omega, by omega, Or.inl ⟨by omega, by omega, by omega⟩⟩, ew2_1.mpr ⟨hd, hx, Or.inr ⟨hd, c1, c2⟩⟩⟩
      obtain ⟨s, r, hs, hr, k3, k1⟩ := both
      have hd := wn_H (g := g) (R := R) (G.shp hR) hR.2.2 i j
      have l3 := (G.LLH hs (ew0_1.mp k3).2).1 (ew0_1.mp k3).1
      have l1 := (G.LLH hr (ew2_1.mp k1).2).2 (ew2_1.mp k1).1
      have v3 : gsm (ew0 g i j) R = if lab i j = F then 1 else 0 := by
        rcases G.s0 hR i j with ⟨x, y⟩ | ⟨x, q, hq, y⟩
        · rw [x, if_neg]
          intro hF
          have := y s (hall s hs (l3.trans hF))
          omega
        · rw [x, if_pos]
          rw [← (G.LLH (hR.2.1 q hq).1 (ew0_1.mp y).2).1 (ew0_1.mp y).1]
          exact (hR.2.1 q hq).2
      have v1 : gsm (ew2 g i j) R = if lab i (j - 1) = F then 1 else 0 := by
        rcases G.s2 hR i j with ⟨x, y⟩ | ⟨x, q, hq, y⟩
        · rw [x, if_neg]
          intro hF
          have := y r (hall r hr (l1.trans hF))
          omega
        · rw [x, if_pos]
          rw [← (G.LLH (hR.2.1 q hq).1 (ew2_1.mp y).2).2 (ew2_1.mp y).1]
          exact (hR.2.1 q hq).2
      rw [v3, v1] at hd
      constructor <;> intro _ <;> omega
    · rw [G.wH0 hR hw, G.2.2.2.2.2.2.2.2.1 i j hw]
  · rw [G.far hR (by omega)]; omega
end WN
