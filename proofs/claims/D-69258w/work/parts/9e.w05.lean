/-! operations in general, where the reference changes as well though it tells an exception -/
def Ro {α : Type} (E : Nat → Int32 → Prop) (X Y : Nat → Prop) (RX : (Nat → lHeap) → TS → Prop) (own : Nat → Nat) (s : CS) (t : TS) (n m : Nat) (c : Option (Sum (α × CS) (Nat × CS))) (d : Option (α × TS)) : Prop :=
  (∃ x s' t' own', c = some (.inl (x, s')) ∧ d = some (x, t') ∧ t'.1 0 = 0 ∧ (∀ Z, ¬ Y Z → Z ≠ 99 → rt t' Z = rt t Z) ∧ Frm X own own' s s' ∧ RX (rs s'.1 own') t' ∧ s'.2.2.1 ≤ s.2.2.1 + n ∧ s'.2.2.2 ≤ s.2.2.2 + m)
  ∨ (∃ x kd cd s1 t1 own1, E kd cd ∧ c = some (.inr (s1.2.1, exs s1 kd)) ∧ d = some (x, t1) ∧ t1.1 0 = cd ∧ (∀ Z, ¬ Y Z → Z ≠ 99 → rt t1 Z = rt t Z) ∧ Frm X own own1 s s1 ∧ RX (rs s1.1 own1) t1 ∧ s1.2.2.1 ≤ s.2.2.1 + n ∧ s1.2.2.2 ≤ s.2.2.2 + m)
theorem Rg.ro {α : Type} {E : Nat → Int32 → Prop} {X : Nat → Prop} {Y : Nat} {RX : (Nat → lHeap) → TS → Prop} {own : Nat → Nat} {s : CS} {t : TS} {n m : Nat} {c : Option (Sum (α × CS) (Nat × CS))} {d : Option (α × TS)} (h : Rg E X Y RX own s t n m c d) (hp : ∀ H v, RX H t → RX H (ptI t 0 v)) : Ro E X (fun Z => Z = Y) RX own s t n m c d := by
  rcases h with h | ⟨x, kd, cd, s1, own1, a1, a2, a3, a4, a5, a6, a7⟩
  · exact Or.inl h
  · exact Or.inr ⟨x, kd, cd, s1, ptI t 0 cd, own1, a1, a2, a3, rfl, fun Z _ h9 => ptI_rt h9, a4, hp _ _ a5, a6, a7⟩
theorem Ro.arg {α : Type} {X Y : Nat → Prop} {RX : (Nat → lHeap) → TS → Prop} {own : Nat → Nat} {s : CS} {t : TS} {n m : Nat} {c : Option (Sum (α × CS) (Nat × CS))} {d : Option (α × TS)} {x : α} (hw : wfS s) (hR : RX (rs s.1 own) (ptI t 0 1)) (hc : c = some (.inr (s.2.1, exs s 11))) (hd : d = some (x, ptI t 0 1)) : Ro thr0 X Y RX own s t n m c d :=
  Or.inr ⟨x, 11, 1, s, ptI t 0 1, own, Or.inl ⟨rfl, rfl⟩, hc, hd, rfl, fun Z _ h9 => ptI_rt h9, Frm.refl hw, hR, Nat.le_add_right _ _, Nat.le_add_right _ _⟩
/-! the warden: a sentence -/
theorem t_say {T : TS} {l : List Nat} {sz : Nat} (h : SdW T l) (h1 : T.1 306 = Int32.ofNat sz) (hl : sz + l.length ≤ 2000) (hl2 : l.length ≤ 200) : Tr (t_772 T) (fun x => x.1 = Int32.ofNat (sz + l.length) ∧ x.2.1 306 = Int32.ofNat (sz + l.length) ∧ (∀ c, c ≠ 306 → x.2.1 c = T.1 c) ∧ x.2.2.1 = T.2.1 ∧ (∀ c, c ≠ 102 → x.2.2.2.1 c = T.2.2.1 c) ∧ (∀ i, x.2.2.2.1 102 i = if sz ≤ i ∧ i < sz + l.length then Int32.ofNat (l.getD (i - sz) 0) else T.2.2.1 102 i) ∧ x.2.2.2.2 = T.2.2.2) := by
  unfold t_772
  refine Tr.bd (P := fun U => U.1 306 = Int32.ofNat (sz + l.length) ∧ (∀ c, c ≠ 306 → U.1 c = T.1 c) ∧ U.2.1 = T.2.1 ∧ (∀ c, c ≠ 102 → U.2.2.1 c = T.2.2.1 c) ∧ (∀ i, U.2.2.1 102 i = if sz ≤ i ∧ i < sz + l.length then Int32.ofNat (l.getD (i - sz) 0) else T.2.2.1 102 i) ∧ U.2.2.2 = T.2.2.2) (wh_cnt l.length (fun k a => a.2 = Int32.ofNat k ∧ a.1.1 306 = Int32.ofNat (sz + k) ∧ (∀ c, c ≠ 306 → a.1.1 c = T.1 c) ∧ a.1.2.1 = T.2.1 ∧ (∀ c, c ≠ 102 → a.1.2.2.1 c = T.2.2.1 c) ∧ (∀ i, a.1.2.2.1 102 i = if sz ≤ i ∧ i < sz + k then Int32.ofNat (l.getD (i - sz) 0) else T.2.2.1 102 i) ∧ a.1.2.2.2 = T.2.2.2) ?_ ?_ ⟨rfl, h1, fun _ _ => rfl, rfl, fun _ _ => rfl, fun i => by rw [if_neg (by omega)], rfl⟩) ?_
  · rintro k ⟨U, q⟩ hk ⟨hq, u1, u2, u3, u4, u5, u6⟩
    dsimp only at hq u1 u2 u3 u4 u5 u6 ⊢
    subst hq
    refine Or.inr ⟨(ptI (wrI U 102 (sz + k) (Int32.ofNat (l.getD k 0))) 306 (Int32.ofNat (sz + (k + 1))), Int32.ofNat (k + 1)), ?_, rfl, rfl, fun c hc => ?_, u3, fun c hc => ?_, fun i => ?_, u6⟩
    · have ht : t_764 (Int32.ofNat (l.getD k 0)) U = some (Int32.ofNat (sz + (k + 1)), ptI (wrI U 102 (sz + k) (Int32.ofNat (l.getD k 0))) 306 (Int32.ofNat (sz + (k + 1)))) := by
        unfold t_764
        rw [u1, stI_n (by omega) (by omega), Option.bind_some, wr_1, u1, i_suc, Option.bind_some]; rfl
      rw [u2 335 (by omega), h.1, if_pos ((i_lt (by omega) (by omega)).mpr hk), rdI_n (by omega) (by omega), u4 124 (by omega), h.2 k hk, Option.bind_some, ht, Option.bind_some, i_suc]
    · dsimp only
      rw [pt_1, if_neg hc]; exact u2 c hc
    · dsimp only
      funext j
      show (wrI U 102 (sz + k) (Int32.ofNat (l.getD k 0))).2.2.1 c j = _
      rw [wr_ne hc, u4 c hc]
    · show (wrI U 102 (sz + k) (Int32.ofNat (l.getD k 0))).2.2.1 102 i = _
      rw [wr_at]
      by_cases y : i = sz + k
      · rw [if_pos ⟨rfl, y⟩, if_pos (by omega), show i - sz = k by omega]
      · rw [if_neg (fun z => y z.2), u5]
        by_cases y2 : sz ≤ i ∧ i < sz + k
        · rw [if_pos y2, if_pos (by omega)]
        · rw [if_neg y2, if_neg (by omega)]
  · rintro ⟨U, q⟩ ⟨hq, u1, u2, u3, u4, u5, u6⟩
    dsimp only at hq u1 u2 u3 u4 u5 u6 ⊢
    subst hq
    exact ⟨U, by rw [u2 335 (by omega), h.1, if_neg (by rw [i_lt (by omega) (by omega)]; omega)], u1, u2, u3, u4, u5, u6⟩
  · rintro U ⟨u1, u2, u3, u4, u5, u6⟩
    exact ⟨_, rfl, u1, u1, u2, u3, u4, u5, u6⟩
theorem sayL_len {w a b c d : Nat} (hw : w < 5) (hd : w = 0 → d ≤ 12) : (sayL w a b c d).length ≤ 110 := by
  have la := numL_len a
  have lb := numL_len b
  have lc := numL_len c
  have ld := numL_len d
  have ln := numsL_len c d
  have hw5 : w = 0 ∨ w = 1 ∨ w = 2 ∨ w = 3 ∨ w = 4 := by omega
  rcases hw5 with rfl | rfl | rfl | rfl | rfl
  · have := hd rfl
    unfold sayL
    simp [wdL]
    omega
  all_goals
    unfold sayL
    simp [wdL]
    omega
theorem wdL_lt : ∀ f r, ∀ c ∈ wdL f r, c < 128
  | 0, _, c, h => by cases h
  | f + 1, r, c, h => by
    unfold wdL at h
    split at h
    · cases h
    · rcases List.mem_cons.mp h with rfl | h
      · omega
      · exact wdL_lt f _ c h
theorem numsL_lt {c : Nat} (hc : c < 10000) : ∀ {k : Nat}, k ≤ 12 → ∀ x ∈ numsL c k, x < 128
  | 0, _, x, h => by cases h
  | k + 1, hk, x, h => by
    unfold numsL at h
    rcases List.mem_append.mp h with h | h
    · rcases List.mem_append.mp h with h | h
      · exact numsL_lt hc (by omega) x h
      · exact numL_lt (by omega) x h
    · have := List.mem_singleton.mp h; omega
theorem sayL_lt {w a b c d : Nat} (ha : a < 10000) (hb : b < 10000 ∨ w = 4) (hc : c < 10000 ∨ w = 2 ∨ w = 4) (hd : w = 0 → d ≤ 12) (hd1 : w = 1 → d < 10000) : ∀ x ∈ sayL w a b c d, x < 128 := by
  intro x hx
  unfold sayL at hx
  have i32 : ∀ x ∈ [32], x < 128 := fun x h => by have := List.mem_singleton.mp h; omega
  have ap : ∀ {l m : List Nat}, (∀ x ∈ l, x < 128) → (∀ x ∈ m, x < 128) → ∀ x ∈ l ++ m, x < 128 := fun h1 h2 x h => (List.mem_append.mp h).elim (h1 x) (h2 x)
  have na := numL_lt (show a < 100000 by omega)
  refine ap (ap (ap (ap (ap (wdL_lt _ _) i32) na) i32) ?_) ?_ x hx
  · by_cases h0 : w = 0
    · rw [if_pos h0]
      exact ap (ap (ap (ap (ap (ap (wdL_lt _ _) i32) (numL_lt (by omega))) i32) (wdL_lt _ _)) i32) (numsL_lt (by omega) (hd h0))
    · rw [if_neg h0]
      by_cases h1 : w = 1
      · rw [if_pos h1]
        have := hd1 h1
        exact ap (ap (ap (ap (ap (ap (ap (ap (ap (ap (ap (wdL_lt _ _) i32) (numL_lt (by omega))) i32) (wdL_lt _ _)) i32) (numL_lt (by omega))) i32) (wdL_lt _ _)) i32) (numL_lt (by omega))) i32
      · rw [if_neg h1]
        by_cases h2 : w = 2
        · rw [if_pos h2]
          exact ap (ap (ap (wdL_lt _ _) i32) (numL_lt (by omega))) i32
        · rw [if_neg h2]
          by_cases h3 : w = 3
          · rw [if_pos h3]
            exact ap (ap (ap (ap (ap (ap (fun x h => by simp at h; omega) (numL_lt (by omega))) i32) (wdL_lt _ _)) i32) (numL_lt (by omega))) i32
          · rw [if_neg h3]
            intro x h; cases h
  · intro x h; simp at h; omega
theorem k7_of {s : CS} {own : Nat → Nat} (k : K7 (rs s.1 own 11)) : K7 s.1 := by
  obtain ⟨a, b, c, d, w, x, e⟩ := k
  exact ⟨(rs_in a).1, (rs_in b).1, (rs_in c).1, fun p hp => (rs_in (d p hp)).1, w, x, (rs_in e).1⟩
def said (x : Int32) : Bool := inB x 10000
theorem c_said (x : Int32) (s : CS) : c_488 x s = some (if said x = true then 1 else 0) := orLe (n := 9999) (by omega) x
theorem t_said (x : Int32) (s : TS) : t_765 x s = some (if said x = true then 1 else 0) := orLe (n := 9999) (by omega) x
/-- which sentences may be said -/
def may1 (v1 v2 v3 v4 : Int32) : Bool := inB v1 5 && said v2 && (decide (v1 = 4) || said v3) && (decide (v1 = 2) || decide (v1 = 4) || said v4)
def may2 (v1 v5 : Int32) : Bool := decide (1 < v1) || (if v1 = 1 then said v5 else decide (¬ v5 < 1 ∧ ¬ 12 < v5))
theorem c_may1 (v1 v2 v3 v4 : Int32) (s : CS) : (if v1 < 0 then some (0 : Int32) else (if 4 < v1 then some 0 else Option.bind (c_488 v2 s) (fun x1 => (if x1 = 0 then some 0 else Option.bind (α := Sum Unit Int32) ((if v1 = 4 then some (.inl ()) else Option.bind (c_488 v3 s) (fun x2 => (if x2 = 0 then some (.inr 0) else some (.inl ()))))) (Sum.elim (fun v14 => (if v1 = 2 then some 1 else (if v1 = 4 then some 1 else Option.bind (c_488 v4 s) (fun x3 => (if x3 = 0 then some 0 else some 1))))) (fun z => some z)))))) = some (if may1 v1 v2 v3 v4 = true then 1 else 0) := by
  simp only [c_said, Option.bind_some]
  have e1 : ((4 : Int32) < v1) = ¬ (v1 < 5) := propext (i_gt (a := 4) (by omega) v1)
  unfold may1 inB
  by_cases h1 : v1 < 0
  · simp [h1]
  · by_cases h2 : v1 < 5
    · cases said v2 <;> cases said v3 <;> cases said v4 <;> by_cases h3 : v1 = 4 <;> by_cases h4 : v1 = 2 <;> simp [h1, h2, e1, h3, h4] <;> simp_all
    · simp [h1, h2, e1]
theorem c_may2 (v1 v5 : Int32) (s : CS) : (if 1 < v1 then some (1 : Int32) else (if v1 = 1 then Option.bind (c_488 v5 s) (fun x6 => (if x6 = 0 then some 0 else some 1)) else (if v5 < 1 then some 0 else (if 12 < v5 then some 0 else some 1)))) = some (if may2 v1 v5 = true then 1 else 0) := by
  simp only [c_said, Option.bind_some]
  unfold may2
  by_cases h1 : 1 < v1
  · simp [h1]
  · by_cases h2 : v1 = 1
    · cases said v5 <;> simp [h2]
    · by_cases h3 : v5 < 1
      · simp [h1, h2, h3]
      · by_cases h4 : 12 < v5
        · simp [h1, h2, h3, h4]
        · simp [h1, h2, h3, h4]
