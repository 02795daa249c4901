/-! plain geometry: sides, rings, cells of the plane -/
abbrev SD : Type := Nat → Nat × Int × Int × Int × Int
def gdr (g : SD) (s : Nat) : Nat := (g s).1
def gx0 (g : SD) (s : Nat) : Int := (g s).2.1
def gy0 (g : SD) (s : Nat) : Int := (g s).2.2.1
def gx1 (g : SD) (s : Nat) : Int := (g s).2.2.2.1
def gy1 (g : SD) (s : Nat) : Int := (g s).2.2.2.2
/-- a side goes along the left edge of a cell; along its lower edge -/
def gcV (g : SD) (s : Nat) (i j : Int) : Prop := gx0 g s = i ∧ (gdr g s = 1 ∧ gy0 g s ≤ j ∧ j < gy1 g s ∨ gdr g s = 3 ∧ gy1 g s ≤ j ∧ j < gy0 g s)
def gcH (g : SD) (s : Nat) (i j : Int) : Prop := gy0 g s = j ∧ (gdr g s = 0 ∧ gx0 g s ≤ i ∧ i < gx1 g s ∨ gdr g s = 2 ∧ gx1 g s ≤ i ∧ i < gx0 g s)
def gwV (g : SD) (N : Nat) (i j : Int) : Prop := ∃ s, s < N ∧ gcV g s i j
def gwH (g : SD) (N : Nat) (i j : Int) : Prop := ∃ s, s < N ∧ gcH g s i j
def glv (g : SD) (N : Nat) (x y : Int) (e : Nat) : Prop := ∃ t, t < N ∧ gx0 g t = x ∧ gy0 g t = y ∧ gdr g t = e
/-- labels round a point: right above, left above, left below, right below -/
def gqd (lab : Int → Int → Int) (x y : Int) (k : Nat) : Int := if k = 0 then lab x y else if k = 1 then lab (x - 1) y else if k = 2 then lab (x - 1) (y - 1) else lab x (y - 1)
def gShape (g : SD) (s : Nat) : Prop := (gdr g s = 0 ∧ gy0 g s = gy1 g s ∧ gx0 g s < gx1 g s) ∨ (gdr g s = 1 ∧ gx0 g s = gx1 g s ∧ gy0 g s < gy1 g s) ∨ (gdr g s = 2 ∧ gy0 g s = gy1 g s ∧ gx1 g s < gx0 g s) ∨ (gdr g s = 3 ∧ gx0 g s = gx1 g s ∧ gy1 g s < gy0 g s)
def gTurn (g : SD) (N : Nat) (x y : Int) (d e : Nat) : Prop := e = (d + 1) % 4 ∨ (¬ glv g N x y ((d + 1) % 4) ∧ (e = d ∨ (¬ glv g N x y d ∧ (e = (d + 3) % 4 ∨ (¬ glv g N x y ((d + 3) % 4) ∧ e = (d + 2) % 4)))))
def gRev (g : SD) (N : Nat) (s : Nat) : Prop := ∃ r, r < N ∧ gx0 g r = gx1 g s ∧ gy0 g r = gy1 g s ∧ gx1 g r = gx0 g s ∧ gy1 g r = gy0 g s ∧ gdr g r = (gdr g s + 2) % 4
def gUniq (g : SD) (N : Nat) : Prop := ∀ s r, s < N → r < N → gdr g s = gdr g r → ∀ i j, (gcV g s i j ∧ gcV g r i j) ∨ (gcH g s i j ∧ gcH g r i j) → s = r
def gIn (g : SD) (N : Nat) (s : Nat) : Prop := (∀ i, (gx0 g s < i ∧ i < gx1 g s) ∨ (gx1 g s < i ∧ i < gx0 g s) → ¬ gwV g N i (gy0 g s) ∧ ¬ gwV g N i (gy0 g s - 1)) ∧ (∀ j, (gy0 g s < j ∧ j < gy1 g s) ∨ (gy1 g s < j ∧ j < gy0 g s) → ¬ gwH g N (gx0 g s) j ∧ ¬ gwH g N (gx0 g s - 1) j)
def gEnd (g : SD) (N : Nat) (s : Nat) : Prop := (gwH g N (gx1 g s) (gy1 g s) → glv g N (gx1 g s) (gy1 g s) 0) ∧ (gwV g N (gx1 g s) (gy1 g s) → glv g N (gx1 g s) (gy1 g s) 1) ∧ (gwH g N (gx1 g s - 1) (gy1 g s) → glv g N (gx1 g s) (gy1 g s) 2) ∧ (gwV g N (gx1 g s) (gy1 g s - 1) → glv g N (gx1 g s) (gy1 g s) 3)
def gNext (g : SD) (N : Nat) (nx : Nat → Nat) (s : Nat) : Prop := nx s < N ∧ gx0 g (nx s) = gx1 g s ∧ gy0 g (nx s) = gy1 g s ∧ gTurn g N (gx1 g s) (gy1 g s) (gdr g s) (gdr g (nx s))
def gLab (g : SD) (N : Nat) (lab : Int → Int → Int) : Prop := (∀ i j, ¬ gwV g N i j → lab (i - 1) j = lab i j) ∧ (∀ i j, ¬ gwH g N i j → lab i (j - 1) = lab i j) ∧
  (∀ T : Int → Int → Prop, (∀ i j, ¬ gwV g N i j → (T (i - 1) j ↔ T i j)) → (∀ i j, ¬ gwH g N i j → (T i (j - 1) ↔ T i j)) → ∀ i j i' j', lab i j = lab i' j' → T i j → T i' j')
def Geo (g : SD) (N : Nat) (nx : Nat → Nat) (lab : Int → Int → Int) : Prop :=
  (∀ s, s < N → gShape g s) ∧ (∀ s, s < N → 0 ≤ gx0 g s ∧ gx0 g s ≤ 24 ∧ 0 ≤ gy0 g s ∧ gy0 g s ≤ 24) ∧ (∀ s, s < N → gRev g N s) ∧ gUniq g N ∧ (∀ s, s < N → gIn g N s) ∧ (∀ s, s < N → gEnd g N s) ∧ (∀ s, s < N → gNext g N nx s) ∧ gLab g N lab
/-- the label on a side's left, where it begins -/
def gLL (g : SD) (lab : Int → Int → Int) (s : Nat) : Int := gqd lab (gx0 g s) (gy0 g s) (gdr g s)
section GEO
variable {g : SD} {N : Nat} {nx : Nat → Nat} {lab : Int → Int → Int}
theorem Geo.box (G : Geo g N nx lab) {s : Nat} (h : s < N) : 0 ≤ gx1 g s ∧ gx1 g s ≤ 24 ∧ 0 ≤ gy1 g s ∧ gy1 g s ≤ 24 := by
  obtain ⟨r, hr, e1, e2, e3, e4, e5⟩ := G.2.2.1 s h
  have := G.2.1 r hr
  omega
theorem Geo.LLV (G : Geo g N nx lab) {s : Nat} (h : s < N) {i j : Int} (c : gcV g s i j) : (gdr g s = 1 → gLL g lab s = lab (i - 1) j) ∧ (gdr g s = 3 → gLL g lab s = lab i j) := by
  obtain ⟨hx, hc⟩ := c
  subst hx
  have hI := (G.2.2.2.2.1 s h).2
  have hL := G.2.2.2.2.2.2.2.2.1
  have hs := G.1 s h
  unfold gShape at hs
  rcases hc with ⟨hd, h1, h2⟩ | ⟨hd, h1, h2⟩
  · refine ⟨fun _ => ?_, fun q => by omega⟩
    have key : ∀ k : Nat, gy0 g s + k < gy1 g s → lab (gx0 g s - 1) (gy0 g s + k) = lab (gx0 g s - 1) (gy0 g s) := by
      intro k
      induction k with
      | zero => intro _; simp
      | succ k ih =>
        intro hk
        have h3 := (hI (gy0 g s + (k + 1 : Nat)) (Or.inl ⟨by omega, by omega⟩)).2
        have h4 := hL _ _ h3
        rw [← h4, show gy0 g s + ((k + 1 : Nat) : Int) - 1 = gy0 g s + k by omega]
        exact ih (by omega)
    have := key (j - gy0 g s).toNat (by omega)
    rw [show gy0 g s + ((j - gy0 g s).toNat : Int) = j by omega] at this
    rw [this]
    simp [gLL, gqd, hd]
  · refine ⟨fun q => by omega, fun _ => ?_⟩
    have key : ∀ k : Nat, j + k < gy0 g s → lab (gx0 g s) (j + k) = lab (gx0 g s) j := by
      intro k
      induction k with
      | zero => intro _; simp
      | succ k ih =>
        intro hk
        have h3 := (hI (j + (k + 1 : Nat)) (Or.inr ⟨by omega, by omega⟩)).1
        have h4 := hL _ _ h3
        rw [← h4, show j + ((k + 1 : Nat) : Int) - 1 = j + k by omega]
        exact ih (by omega)
    have := key (gy0 g s - 1 - j).toNat (by omega)
    rw [show j + ((gy0 g s - 1 - j).toNat : Int) = gy0 g s - 1 by omega] at this
    rw [← this]
    simp [gLL, gqd, hd]
theorem Geo.LLH (G : Geo g N nx lab) {s : Nat} (h : s < N) {i j : Int} (c : gcH g s i j) : (gdr g s = 0 → gLL g lab s = lab i j) ∧ (gdr g s = 2 → gLL g lab s = lab i (j - 1)) := by
  obtain ⟨hx, hc⟩ := c
  subst hx
  have hI := (G.2.2.2.2.1 s h).1
  have hL := G.2.2.2.2.2.2.2.1
  rcases hc with ⟨hd, h1, h2⟩ | ⟨hd, h1, h2⟩
  · refine ⟨fun _ => ?_, fun q => by omega⟩
    have key : ∀ k : Nat, gx0 g s + k < gx1 g s → lab (gx0 g s + k) (gy0 g s) = lab (gx0 g s) (gy0 g s) := by
      intro k
      induction k with
      | zero => intro _; simp
      | succ k ih =>
        intro hk
        have h3 := (hI (gx0 g s + (k + 1 : Nat)) (Or.inl ⟨by omega, by omega⟩)).1
        have h4 := hL _ _ h3
        rw [← h4, show gx0 g s + ((k + 1 : Nat) : Int) - 1 = gx0 g s + k by omega]
        exact ih (by omega)
    have := key (i - gx0 g s).toNat (by omega)
    rw [show gx0 g s + ((i - gx0 g s).toNat : Int) = i by omega] at this
    rw [this]
    simp [gLL, gqd, hd]
  · refine ⟨fun q => by omega, fun _ => ?_⟩
    have key : ∀ k : Nat, i + k < gx0 g s → lab (i + k) (gy0 g s - 1) = lab i (gy0 g s - 1) := by
      intro k
      induction k with
      | zero => intro _; simp
      | succ k ih =>
        intro hk
        have h3 := (hI (i + (k + 1 : Nat)) (Or.inr ⟨by omega, by omega⟩)).2
        have h4 := hL _ _ h3
        rw [← h4, show i + ((k + 1 : Nat) : Int) - 1 = i + k by omega]
        exact ih (by omega)
    have := key (gx0 g s - 1 - i).toNat (by omega)
    rw [show i + ((gx0 g s - 1 - i).toNat : Int) = gx0 g s - 1 by omega] at this
    rw [← this]
    simp [gLL, gqd, hd]
/-- the label on a side's left, where it ends -/
theorem Geo.LLend (G : Geo g N nx lab) {s : Nat} (h : s < N) : gLL g lab s = gqd lab (gx1 g s) (gy1 g s) ((gdr g s + 1) % 4) := by
  have hs := G.1 s h
  unfold gShape at hs
  rcases hs with ⟨hd, h1, h2⟩ | ⟨hd, h1, h2⟩ | ⟨hd, h1, h2⟩ | ⟨hd, h1, h2⟩
  · rw [(G.LLH h (i := gx1 g s - 1) (j := gy0 g s) ⟨rfl, Or.inl ⟨hd, by omega, by omega⟩⟩).1 hd, h1]; simp [gqd, hd]
  · rw [(G.LLV h (i := gx0 g s) (j := gy1 g s - 1) ⟨rfl, Or.inl ⟨hd, by omega, by omega⟩⟩).1 hd, h1]; simp [gqd, hd]
  · rw [(G.LLH h (i := gx1 g s) (j := gy0 g s) ⟨rfl, Or.inr ⟨hd, by omega, by omega⟩⟩).2 hd, h1]; simp [gqd, hd]
  · rw [(G.LLV h (i := gx0 g s) (j := gy1 g s) ⟨rfl, Or.inr ⟨hd, by omega, by omega⟩⟩).2 hd, h1]; simp [gqd, hd]
theorem Geo.opn (G : Geo g N nx lab) {s : Nat} (h : s < N) {e : Nat} (he : e < 4) (hn : ¬ glv g N (gx1 g s) (gy1 g s) e) : gqd lab (gx1 g s) (gy1 g s) e = gqd lab (gx1 g s) (gy1 g s) ((e + 3) % 4) := by
  obtain ⟨e0, e1, e2, e3⟩ := G.2.2.2.2.2.1 s h
  have hV := G.2.2.2.2.2.2.2.1
  have hH := G.2.2.2.2.2.2.2.2.1
  have : e = 0 ∨ e = 1 ∨ e = 2 ∨ e = 3 := by omega
  rcases this with rfl | rfl | rfl | rfl
  · simp [gqd, hH _ _ (fun q => hn (e0 q))]
  · simp [gqd, hV _ _ (fun q => hn (e1 q))]
  · simp [gqd, hH _ _ (fun q => hn (e2 q))]
  · simp [gqd, hV _ _ (fun q => hn (e3 q))]
theorem Geo.LLnext (G : Geo g N nx lab) {s : Nat} (h : s < N) : gLL g lab (nx s) = gLL g lab s := by
  rw [G.LLend h]
  obtain ⟨h1, h2, h3, ht⟩ := G.2.2.2.2.2.2.1 s h
  have hs := G.1 s h
  have hd : gdr g s < 4 := by unfold gShape at hs; omega
  unfold gLL
  rw [h2, h3]
  unfold gTurn at ht
  rcases ht with ht | ⟨n1, ht⟩
  · rw [ht]
  · have q1 := G.opn h (e := (gdr g s + 1) % 4) (by omega) n1
    rw [show ((gdr g s + 1) % 4 + 3) % 4 = gdr g s by omega] at q1
    rcases ht with ht | ⟨n2, ht⟩
    · rw [ht, q1]
    · have q2 := G.opn h (e := gdr g s) (by omega) n2
      rcases ht with ht | ⟨n3, ht⟩
      · rw [ht, q1, q2]
      · have q3 := G.opn h (e := (gdr g s + 3) % 4) (by omega) n3
        rw [show ((gdr g s + 3) % 4 + 3) % 4 = (gdr g s + 2) % 4 by omega] at q3
        rw [ht, q1, q2, q3]
end GEO
/-! sums -/
def gsm (f : Nat → Int) : List Nat → Int
  | [] => 0
  | s :: r => f s + gsm f r
theorem sm_app (f : Nat → Int) (l m : List Nat) : gsm f (l ++ m) = gsm f l + gsm f m := by
  induction l with
  | nil => simp [gsm]
  | cons s r ih => simp only [List.cons_append, gsm, ih]; omega
theorem sm_congr {f h : Nat → Int} {l : List Nat} (e : ∀ s ∈ l, f s = h s) : gsm f l = gsm h l := by
  induction l with
  | nil => rfl
  | cons s r ih => simp only [gsm]; rw [e s (by simp), ih (fun q hq => e q (by simp [hq]))]
theorem sm_add (f h : Nat → Int) (l : List Nat) : gsm (fun s => f s + h s) l = gsm f l + gsm h l := by
  induction l with
  | nil => rfl
  | cons s r ih => simp only [gsm, ih]; omega
theorem sm_sub (f h : Nat → Int) (l : List Nat) : gsm (fun s => f s - h s) l = gsm f l - gsm h l := by
  induction l with
  | nil => rfl
  | cons s r ih => simp only [gsm, ih]; omega
theorem sm_zero {f : Nat → Int} {l : List Nat} (e : ∀ s ∈ l, f s = 0) : gsm f l = 0 := by
  induction l with
  | nil => rfl
  | cons s r ih => simp only [gsm]; rw [e s (by simp), ih (fun q hq => e q (by simp [hq]))]; rfl
theorem sm_nn {f : Nat → Int} {l : List Nat} (e : ∀ s ∈ l, 0 ≤ f s) : 0 ≤ gsm f l := by
  induction l with
  | nil => exact Int.le_refl _
  | cons s r ih =>
    have := e s (by simp)
    have := ih (fun q hq => e q (by simp [hq]))
    simp only [gsm]; omega
theorem sm_ge {f : Nat → Int} {l : List Nat} (e : ∀ s ∈ l, 0 ≤ f s) {a : Nat} (ha : a ∈ l) : f a ≤ gsm f l := by
  induction l with
  | nil => cases ha
  | cons s r ih =>
    simp only [gsm]
    rcases List.mem_cons.mp ha with rfl | ha
    · have := sm_nn (f := f) (l := r) (fun q hq => e q (by simp [hq])); omega
    · have := ih (fun q hq => e q (by simp [hq])) ha
      have := e s (by simp); omega
theorem sm_ge2 {f : Nat → Int} {l : List Nat} (e : ∀ s ∈ l, 0 ≤ f s) (hn : l.Nodup) {a b : Nat} (ha : a ∈ l) (hb : b ∈ l) (hab : a ≠ b) : f a + f b ≤ gsm f l := by
  induction l with
  | nil => cases ha
  | cons s r ih =>
    rw [List.nodup_cons] at hn
    have er : ∀ q ∈ r, 0 ≤ f q := fun q hq => e q (by simp [hq])
    have es := e s (by simp)
    simp only [gsm]
    rcases List.mem_cons.mp ha with h1 | h1
    · rcases List.mem_cons.mp hb with h2 | h2
      · exact absurd (h1.trans h2.symm) hab
      · have := sm_ge er h2; rw [h1]; omega
    · rcases List.mem_cons.mp hb with h2 | h2
      · have := sm_ge er h1; rw [h2]; omega
      · have := ih er hn.2 h1 h2; omega
theorem sm_pos {f : Nat → Int} {l : List Nat} (h : 0 < gsm f l) : ∃ s ∈ l, 0 < f s := by
  induction l with
  | nil => simp [gsm] at h
  | cons s r ih =>
    simp only [gsm] at h
    by_cases hs : 0 < f s
    · exact ⟨s, by simp, hs⟩
    · obtain ⟨q, hq, hf⟩ := ih (by omega)
      exact ⟨q, by simp [hq], hf⟩
theorem sm_one {f : Nat → Int} {l : List Nat} (h01 : ∀ s ∈ l, f s = 0 ∨ f s = 1) (hu : ∀ s ∈ l, ∀ r ∈ l, f s = 1 → f r = 1 → s = r) (hn : l.Nodup) : (gsm f l = 0 ∧ ∀ s ∈ l, f s = 0) ∨ (gsm f l = 1 ∧ ∃ s ∈ l, f s = 1) := by
  induction l with
  | nil => exact Or.inl ⟨rfl, by simp⟩
  | cons s r ih =>
    rw [List.nodup_cons] at hn
    have ih := ih (fun q hq => h01 q (by simp [hq])) (fun q hq p hp => hu q (by simp [hq]) p (by simp [hp])) hn.2
    simp only [gsm]
    rcases h01 s (by simp) with h0 | h1
    · rcases ih with ⟨e1, e2⟩ | ⟨e1, q, hq, e2⟩
      · refine Or.inl ⟨by omega, ?_⟩
        intro p hp
        rcases List.mem_cons.mp hp with rfl | hp
        · exact h0
        · exact e2 p hp
      · exact Or.inr ⟨by omega, q, by simp [hq], e2⟩
    · have hz : ∀ p ∈ r, f p = 0 := by
        intro p hp
        rcases h01 p (by simp [hp]) with h | h
        · exact h
        · have := hu s (by simp) p (by simp [hp]) h1 h
          subst this
          exact absurd hp hn.1
      exact Or.inr ⟨by rw [h1, sm_zero hz]; rfl, s, by simp, h1⟩
theorem sm_flat (f : Nat → Int) (rg : Nat → List Nat) (l : List Nat) : gsm f (l.flatMap rg) = gsm (fun k => gsm f (rg k)) l := by
  induction l with
  | nil => rfl
  | cons s r ih => rw [List.flatMap_cons, sm_app, ih]; rfl
theorem sm_filter (f : Nat → Int) (p : Nat → Bool) (l : List Nat) : gsm f (l.filter p) = gsm (fun k => if p k = true then f k else 0) l := by
  induction l with
  | nil => rfl
  | cons s r ih =>
    rw [List.filter_cons]
    by_cases hp : p s = true
    · rw [if_pos hp]; simp only [gsm, ih, if_pos hp]
    · rw [if_neg hp]; simp only [gsm, ih, if_neg hp]; omega
theorem sm_mul (c : Int) (f : Nat → Int) (l : List Nat) : gsm (fun s => c * f s) l = c * gsm f l := by
  induction l with
  | nil => simp [gsm]
  | cons s r ih => simp only [gsm, ih, Int.mul_add]
theorem sm_swap (f : Nat → Nat → Int) (l m : List Nat) : gsm (fun a => gsm (fun b => f a b) m) l = gsm (fun b => gsm (fun a => f a b) l) m := by
  induction l with
  | nil => rw [sm_zero (f := fun b => gsm (fun a => f a b) [])]; rfl; intro s _; rfl
  | cons s r ih =>
    simp only [gsm]
    rw [ih, ← sm_add]
