/-! families of rings -/
def Fam (g : SD) (N : Nat) (lab : Int → Int → Int) (nr : Nat) (rg : Nat → List Nat) (fl : Nat → Int) : Prop :=
  (∀ k, k < nr → RgF g N lab (rg k) (fl k) ∧ rg k ≠ []) ∧ (∀ s, s < N → ∃ k, k < nr ∧ s ∈ rg k) ∧ (∀ k k', k < nr → k' < nr → ∀ s, s ∈ rg k → s ∈ rg k' → k = k')
/-- a ring that goes round its face -/
def glft (g : SD) (lab : Int → Int → Int) (R : List Nat) (F : Int) : Prop := ∀ i j, lab i j = F → gwn g R i j = 1
theorem nd_flat {rg : Nat → List Nat} {l : List Nat} (hl : l.Nodup) (h1 : ∀ k ∈ l, (rg k).Nodup) (h2 : ∀ k ∈ l, ∀ k' ∈ l, ∀ s, s ∈ rg k → s ∈ rg k' → k = k') : (l.flatMap rg).Nodup := by
  induction l with
  | nil => simp
  | cons a r ih =>
    rw [List.nodup_cons] at hl
    rw [List.flatMap_cons, List.nodup_append]
    refine ⟨h1 a (by simp), ih hl.2 (fun k hk => h1 k (by simp [hk])) (fun k hk k' hk' => h2 k (by simp [hk]) k' (by simp [hk'])), ?_⟩
    intro x hx y hy hxy
    subst hxy
    obtain ⟨b, hb, hxb⟩ := List.mem_flatMap.mp hy
    have := h2 a (by simp) b (by simp [hb]) x hx hxb
    subst this
    exact hl.1 hb
theorem LL_cell (g : SD) (lab : Int → Int → Int) (s : Nat) : ∃ i j, lab i j = gLL g lab s := by
  unfold gLL gqd
  split
  · exact ⟨_, _, rfl⟩
  · split
    · exact ⟨_, _, rfl⟩
    · split
      · exact ⟨_, _, rfl⟩
      · exact ⟨_, _, rfl⟩
section FAM
variable {g : SD} {N : Nat} {nx : Nat → Nat} {lab : Int → Int → Int} {nr : Nat} {rg : Nat → List Nat} {fl : Nat → Int}
theorem Fam.cell (hF : Fam g N lab nr rg fl) {k : Nat} (hk : k < nr) : ∃ i j, lab i j = fl k := by
  obtain ⟨h1, h2⟩ := hF.1 k hk
  cases e : rg k with
  | nil => exact absurd e h2
  | cons s r =>
    obtain ⟨i, j, q⟩ := LL_cell g lab s
    exact ⟨i, j, q.trans (h1.2.1 s (by rw [e]; simp)).2⟩
theorem Fam.num (G : Geo g N nx lab) (hF : Fam g N lab nr rg fl) {k : Nat} (hk : k < nr) : ∃ a, (a = 0 ∨ a = 1) ∧ (∀ i j, lab i j = fl k → gwn g (rg k) i j = a) ∧ (∀ i j, gwn g (rg k) i j = a ∨ gwn g (rg k) i j = a - 1) ∧ (fl k = lab (-1) (-1) → a = 0) := by
  obtain ⟨i0, j0, h0⟩ := hF.cell hk
  obtain ⟨h1, h2⟩ := hF.1 k hk
  have ha : ∀ i j, lab i j = fl k → gwn g (rg k) i j = gwn g (rg k) i0 j0 := fun i j h => G.wcon h1 (h0.trans h.symm)
  refine ⟨gwn g (rg k) i0 j0, G.a01 h1 ha h0, ha, G.two h1 ha h0, ?_⟩
  intro e
  rw [← ha (-1) (-1) e.symm]
  exact G.far h1 (by omega)
/-- either round its face, or not -/
theorem Fam.or (G : Geo g N nx lab) (hF : Fam g N lab nr rg fl) {k : Nat} (hk : k < nr) : (glft g lab (rg k) (fl k) ∧ fl k ≠ lab (-1) (-1) ∧ ∀ i j, gwn g (rg k) i j = 1 ∨ gwn g (rg k) i j = 0) ∨ (¬ glft g lab (rg k) (fl k) ∧ (∀ i j, lab i j = fl k → gwn g (rg k) i j = 0) ∧ ∀ i j, gwn g (rg k) i j = 0 ∨ gwn g (rg k) i j = -1) := by
  obtain ⟨a, h1, h2, h3, h4⟩ := Fam.num G hF hk
  rcases h1 with rfl | rfl
  · refine Or.inr ⟨?_, h2, fun i j => by have := h3 i j; omega⟩
    intro q
    obtain ⟨i, j, h0⟩ := hF.cell hk
    have := q i j h0
    have := h2 i j h0
    omega
  · exact Or.inl ⟨h2, fun e => by have := h4 e; omega, fun i j => by have := h3 i j; omega⟩
theorem Fam.sum (G : Geo g N nx lab) (hF : Fam g N lab nr rg fl) (F : Int) (i j : Int) : gsm (fun k => if fl k = F then gwn g (rg k) i j else 0) (List.range nr) = (if lab i j = F then 1 else 0) - (if lab (-1) (-1) = F then 1 else 0) := by
  have hl : ∀ k, k ∈ (List.range nr).filter (fun k => decide (fl k = F)) → k < nr ∧ fl k = F := by
    intro k hk
    rw [List.mem_filter] at hk
    exact ⟨List.mem_range.mp hk.1, of_decide_eq_true hk.2⟩
  have hU : RgF g N lab (((List.range nr).filter (fun k => decide (fl k = F))).flatMap rg) F := by
    refine ⟨nd_flat (List.Pairwise.sublist List.filter_sublist List.nodup_range) (fun k hk => (hF.1 k (hl k hk).1).1.1) (fun k hk k' hk' => hF.2.2 k k' (hl k hk).1 (hl k' hk').1), ?_, ?_⟩
    · intro s hs
      obtain ⟨k, hk, hsk⟩ := List.mem_flatMap.mp hs
      have := (hF.1 k (hl k hk).1).1.2.1 s hsk
      exact ⟨this.1, this.2.trans (hl k hk).2⟩
    · intro f
      rw [sm_flat]
      exact sm_zero (fun k hk => (hF.1 k (hl k hk).1).1.2.2 f)
  have hall : ∀ s, s < N → gLL g lab s = F → s ∈ ((List.range nr).filter (fun k => decide (fl k = F))).flatMap rg := by
    intro s hs hL
    obtain ⟨k, hk, hsk⟩ := hF.2.1 s hs
    refine List.mem_flatMap.mpr ⟨k, ?_, hsk⟩
    rw [List.mem_filter]
    refine ⟨List.mem_range.mpr hk, decide_eq_true ?_⟩
    rw [← ((hF.1 k hk).1.2.1 s hsk).2, hL]
  rw [← G.whole hU hall i j]
  unfold gwn
  rw [sm_flat, sm_filter]
  refine sm_congr ?_
  intro k _
  by_cases e : fl k = F
  · simp [e]
  · simp [e]
/-- each face that isn't the outside has just one such ring -/
theorem Fam.left (G : Geo g N nx lab) (hF : Fam g N lab nr rg fl) {i j : Int} (ho : lab i j ≠ lab (-1) (-1)) : ∃ k, k < nr ∧ fl k = lab i j ∧ glft g lab (rg k) (fl k) := by
  have h := Fam.sum G hF (lab i j) i j
  rw [if_pos rfl, if_neg (Ne.symm ho)] at h
  obtain ⟨k, hk, hp⟩ := sm_pos (l := List.range nr) (by rw [h]; omega)
  have hk := List.mem_range.mp hk
  by_cases e : fl k = lab i j
  · refine ⟨k, hk, e, ?_⟩
    rcases Fam.or G hF hk with h1 | h1
    · exact h1.1
    · simp only [if_pos e] at hp
      have := h1.2.1 i j e.symm
      omega
  · simp [e] at hp
theorem Fam.uniq (G : Geo g N nx lab) (hF : Fam g N lab nr rg fl) {k k' : Nat} (hk : k < nr) (hk' : k' < nr) (h : glft g lab (rg k) (fl k)) (h' : glft g lab (rg k') (fl k')) (e : fl k = fl k') : k = k' := by
  obtain ⟨i, j, h0⟩ := hF.cell hk
  have hs := Fam.sum G hF (fl k) i j
  have ho : fl k ≠ lab (-1) (-1) := by
    rcases Fam.or G hF hk with q | q
    · exact q.2.1
    · exact absurd h q.1
  rw [if_pos h0, if_neg (Ne.symm ho)] at hs
  apply Classical.byContradiction
  intro hne
  have := sm_ge2 (f := fun q => if fl q = fl k then gwn g (rg q) i j else 0) (l := List.range nr) ?_ List.nodup_range (List.mem_range.mpr hk) (List.mem_range.mpr hk') hne
  · simp only [if_pos rfl, if_pos e.symm, h i j h0, h' i j (h0.trans e)] at this
    simp only [if_true] at this
    omega
  · intro q hq
    have hq := List.mem_range.mp hq
    by_cases e2 : fl q = fl k
    · simp only [if_pos e2]
      rcases Fam.or G hF hq with z | z
      · rw [z.1 i j (h0.trans e2.symm)]; omega
      · rw [z.2.1 i j (h0.trans e2.symm)]; omega
    · simp only [if_neg e2]; omega
theorem Geo.jmpV (G : Geo g N nx lab) {R : List Nat} {F : Int} (hR : RgF g N lab R F) {i j : Int} : (gwn g R i j < gwn g R (i - 1) j → lab (i - 1) j = F) ∧ (gwn g R (i - 1) j < gwn g R i j → lab i j = F) := by
  have hd := wn_V (g := g) (R := R) i j
  constructor
  · intro h
    rcases G.s1 hR i j with ⟨x, _⟩ | ⟨x, r, hr, hc⟩
    · have : 0 ≤ gsm (ew3 g i j) R := sm_nn (fun s _ => by rcases ew3_or g i j s with q | q <;> omega)
      omega
    · exact (((G.LLV (hR.2.1 r hr).1 (ew1_1.mp hc).2).1 (ew1_1.mp hc).1).symm).trans (hR.2.1 r hr).2
  · intro h
    rcases G.s3 hR i j with ⟨x, _⟩ | ⟨x, r, hr, hc⟩
    · have : 0 ≤ gsm (ew1 g i j) R := sm_nn (fun s _ => by rcases ew1_or g i j s with q | q <;> omega)
      omega
    · exact (((G.LLV (hR.2.1 r hr).1 (ew3_1.mp hc).2).2 (ew3_1.mp hc).1).symm).trans (hR.2.1 r hr).2
theorem Geo.jmpH (G : Geo g N nx lab) {R : List Nat} {F : Int} (hR : RgF g N lab R F) {i j : Int} : (gwn g R i j < gwn g R i (j - 1) → lab i (j - 1) = F) ∧ (gwn g R i (j - 1) < gwn g R i j → lab i j = F) := by
  have hd := wn_H (g := g) (R := R) (G.shp hR) hR.2.2 i j
  constructor
  · intro h
    rcases G.s2 hR i j with ⟨x, _⟩ | ⟨x, r, hr, hc⟩
    · have : 0 ≤ gsm (ew0 g i j) R := sm_nn (fun s _ => by rcases ew0_or g i j s with q | q <;> omega)
      omega
    · exact (((G.LLH (hR.2.1 r hr).1 (ew2_1.mp hc).2).2 (ew2_1.mp hc).1).symm).trans (hR.2.1 r hr).2
  · intro h
    rcases G.s0 hR i j with ⟨x, _⟩ | ⟨x, r, hr, hc⟩
    · have : 0 ≤ gsm (ew2 g i j) R := sm_nn (fun s _ => by rcases ew2_or g i j s with q | q <;> omega)
      omega
    · exact (((G.LLH (hR.2.1 r hr).1 (ew0_1.mp hc).2).1 (ew0_1.mp hc).1).symm).trans (hR.2.1 r hr).2
/-- a ring round a face that lies within another such ring lies within it wholly -/
theorem Fam.nest (G : Geo g N nx lab) (hF : Fam g N lab nr rg fl) {k k' : Nat} (hk : k < nr) (hk' : k' < nr) (hne : k ≠ k') (h : glft g lab (rg k) (fl k)) (h' : glft g lab (rg k') (fl k')) {i0 j0 : Int} (h0 : lab i0 j0 = fl k) (hv : gwn g (rg k') i0 j0 = 1) :
    (∀ i j, gwn g (rg k) i j ≤ gwn g (rg k') i j) ∧ ∀ i j, lab i j = fl k' → gwn g (rg k) i j = 0 := by
  have hR := (hF.1 k hk).1
  have hR' := (hF.1 k' hk').1
  have hfl : fl k ≠ fl k' := fun e => hne (Fam.uniq G hF hk hk' h h' e)
  have u01 : ∀ i j, gwn g (rg k) i j = 1 ∨ gwn g (rg k) i j = 0 := by
    rcases Fam.or G hF hk with q | q
    · exact q.2.2
    · exact absurd h q.1
  have v01 : ∀ i j, gwn g (rg k') i j = 1 ∨ gwn g (rg k') i j = 0 := by
    rcases Fam.or G hF hk' with q | q
    · exact q.2.2
    · exact absurd h' q.1
  have vF : ∀ i j, lab i j = fl k → gwn g (rg k') i j = 1 := fun i j e => by rw [G.wcon hR' (h0.trans e.symm), hv]
  have f0 := G.far hR (i := -1) (j := -1) (by omega)
  have f0' := G.far hR' (i := -1) (j := -1) (by omega)
  have key : ∀ i j, lab i j = fl k' → gwn g (rg k) i j = 0 := by
    intro i1 j1 e1
    rcases u01 i1 j1 with hu | hu
    · exfalso
      have uG : ∀ i j, lab i j = fl k' → gwn g (rg k) i j = 1 := fun i j e => by rw [G.wcon hR (e1.trans e.symm), hu]
      have := grid_all (T := fun i j => gwn g (rg k) i j = 1 ∨ gwn g (rg k') i j = 1) ?_ ?_ (Or.inl hu) (-1) (-1)
      · omega
      · intro i j
        have a1 := u01 i j; have a2 := u01 (i - 1) j; have b1 := v01 i j; have b2 := v01 (i - 1) j
        have ju := G.jmpV hR (i := i) (j := j)
        have jv := G.jmpV hR' (i := i) (j := j)
        constructor
        · intro hx
          apply Classical.byContradiction
          intro hn
          have n1 : gwn g (rg k) i j = 0 := by omega
          have n2 : gwn g (rg k') i j = 0 := by omega
          rcases hx with hx | hx
          · have c1 := ju.1 (by omega)
            have c2 := vF _ _ c1
            exact hfl (c1.symm.trans (jv.1 (by omega)))
          · have c1 := jv.1 (by omega)
            have c2 := uG _ _ c1
            exact hfl ((ju.1 (by omega)).symm.trans c1)
        · intro hx
          apply Classical.byContradiction
          intro hn
          have n1 : gwn g (rg k) (i - 1) j = 0 := by omega
          have n2 : gwn g (rg k') (i - 1) j = 0 := by omega
          rcases hx with hx | hx
          · have c1 := ju.2 (by omega)
            have c2 := vF _ _ c1
            exact hfl (c1.symm.trans (jv.2 (by omega)))
          · have c1 := jv.2 (by omega)
            have c2 := uG _ _ c1
            exact hfl ((ju.2 (by omega)).symm.trans c1)
      · intro i j
        have a1 := u01 i j; have a2 := u01 i (j - 1); have b1 := v01 i j; have b2 := v01 i (j - 1)
        have ju := G.jmpH hR (i := i) (j := j)
        have jv := G.jmpH hR' (i := i) (j := j)
        constructor
        · intro hx
          apply Classical.byContradiction
          intro hn
          have n1 : gwn g (rg k) i j = 0 := by omega
          have n2 : gwn g (rg k') i j = 0 := by omega
          rcases hx with hx | hx
          · have c1 := ju.1 (by omega)
            have c2 := vF _ _ c1
            exact hfl (c1.symm.trans (jv.1 (by omega)))
          · have c1 := jv.1 (by omega)
            have c2 := uG _ _ c1
            exact hfl ((ju.1 (by omega)).symm.trans c1)
        · intro hx
          apply Classical.byContradiction
          intro hn
          have n1 : gwn g (rg k) i (j - 1) = 0 := by omega
          have n2 : gwn g (rg k') i (j - 1) = 0 := by omega
          rcases hx with hx | hx
          · have c1 := ju.2 (by omega)
            have c2 := vF _ _ c1
            exact hfl (c1.symm.trans (jv.2 (by omega)))
          · have c1 := jv.2 (by omega)
            have c2 := uG _ _ c1
            exact hfl ((ju.2 (by omega)).symm.trans c1)
    · exact hu
  refine ⟨?_, key⟩
  intro i1 j1
  apply Classical.byContradiction
  intro hlt
  have d1 : gwn g (rg k) i1 j1 = 1 ∧ gwn g (rg k') i1 j1 = 0 := by have := u01 i1 j1; have := v01 i1 j1; omega
  have := grid_all (T := fun i j => gwn g (rg k) i j = 1 ∧ gwn g (rg k') i j = 0) ?_ ?_ d1 (-1) (-1)
  · omega
  · intro i j
    have a1 := u01 i j; have a2 := u01 (i - 1) j; have b1 := v01 i j; have b2 := v01 (i - 1) j
    have ju := G.jmpV hR (i := i) (j := j)
    have jv := G.jmpV hR' (i := i) (j := j)
    constructor
    · intro hx
      apply Classical.byContradiction
      intro hn
      by_cases hu : gwn g (rg k) i j = 0
      · have := vF _ _ (ju.1 (by omega)); omega
      · have := key _ _ (jv.2 (by omega)); omega
    · intro hx
      apply Classical.byContradiction
      intro hn
      by_cases hu : gwn g (rg k) (i - 1) j = 0
      · have := vF _ _ (ju.2 (by omega)); omega
      · have := key _ _ (jv.1 (by omega)); omega
  · intro i j
    have a1 := u01 i j; have a2 := u01 i (j - 1); have b1 := v01 i j; have b2 := v01 i (j - 1)
    have ju := G.jmpH hR (i := i) (j := j)
    have jv := G.jmpH hR' (i := i) (j := j)
    constructor
    · intro hx
      apply Classical.byContradiction
      intro hn
      by_cases hu : gwn g (rg k) i j = 0
      · have := vF _ _ (ju.1 (by omega)); omega
      · have := key _ _ (jv.2 (by omega)); omega
    · intro hx
      apply Classical.byContradiction
      intro hn
      by_cases hu : gwn g (rg k) i (j - 1) = 0
      · have := vF _ _ (ju.2 (by omega)); omega
      · have := key _ _ (jv.1 (by omega)); omega
end FAM
