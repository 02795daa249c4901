/-! the warden: a sentence on the reference's side -/
def numL (v : Nat) : List Nat := (if 9999 < v then [48 + v / 10000] else []) ++ (if 999 < v then [48 + v / 1000 % 10] else []) ++ (if 99 < v then [48 + v / 100 % 10] else []) ++ (if 9 < v then [48 + v / 10 % 10] else []) ++ [48 + v % 10]
theorem numL_len (v : Nat) : (numL v).length ≤ 5 := by
  unfold numL
  simp only [List.length_append, List.length_cons, List.length_nil]
  repeat' split
  all_goals simp
theorem numL_lt {v : Nat} (h : v < 100000) : ∀ c ∈ numL v, c < 128 := by
  unfold numL
  intro c hc
  simp only [List.mem_append, List.mem_singleton] at hc
  rcases hc with (((hc | hc) | hc) | hc) | hc
  · split at hc <;> simp at hc; omega
  · split at hc <;> simp at hc; omega
  · split at hc <;> simp at hc; omega
  · split at hc <;> simp at hc; omega
  · omega
/-- what is said so far -/
def SdW (T : TS) (l : List Nat) : Prop := T.1 335 = Int32.ofNat l.length ∧ ∀ i, i < l.length → T.2.2.1 124 i = Int32.ofNat (l.getD i 0)
/-- all but what is said -/
def SmW (t T : TS) : Prop := (∀ c, c ≠ 335 → T.1 c = t.1 c) ∧ T.2.1 = t.2.1 ∧ (∀ c, c ≠ 124 → T.2.2.1 c = t.2.2.1 c) ∧ T.2.2.2 = t.2.2.2
theorem SmW.refl (t : TS) : SmW t t := ⟨fun _ _ => rfl, rfl, fun _ _ => rfl, rfl⟩
theorem SmW.trans {t T U : TS} (h : SmW t T) (k : SmW T U) : SmW t U := ⟨fun c hc => (k.1 c hc).trans (h.1 c hc), k.2.1.trans h.2.1, fun c hc => (k.2.2.1 c hc).trans (h.2.2.1 c hc), k.2.2.2.trans h.2.2.2⟩
theorem t_let {T : TS} {l : List Nat} (h : SdW T l) (hl : l.length < 200) (c : Nat) : Tr (t_769 (Int32.ofNat c) T) (fun U => SdW U (l ++ [c]) ∧ SmW T U) := by
  unfold t_769
  rw [h.1, stI_n hl (by omega), Option.bind_some, wr_1, h.1, i_suc, Option.bind_some]
  refine ⟨_, rfl, ⟨by rw [pt_1, if_pos rfl, List.length_append]; rfl, fun i hi => ?_⟩, ⟨fun q hq => by rw [pt_1, if_neg hq]; rfl, rfl, fun q hq => ?_, rfl⟩⟩
  · simp only [List.length_append, List.length_cons, List.length_nil] at hi
    show (wrI T 124 l.length (Int32.ofNat c)).2.2.1 124 i = _
    rw [wr_at]
    by_cases y : i = l.length
    · rw [if_pos ⟨rfl, y⟩, y]; simp
    · rw [if_neg (fun z => y z.2), h.2 i (by omega), getD_app (by omega)]
  · funext j
    show (wrI T 124 l.length (Int32.ofNat c)).2.2.1 q j = _
    rw [wr_ne hq]
theorem t_letS {T t : TS} {l : List Nat} {Q : TS → Prop} {f : TS → Option TS} (c : Nat) (h : SdW T l ∧ SmW t T) (hl : l.length < 200) (k : ∀ U, SdW U (l ++ [c]) ∧ SmW t U → Tr (f U) Q) : Tr (Option.bind (t_769 (Int32.ofNat c) T) f) Q := Tr.bd (t_let h.1 hl c) (fun U hU => k U ⟨hU.1, h.2.trans hU.2⟩)
theorem t_num {T : TS} {l : List Nat} {v : Nat} (h : SdW T l) (hl : l.length + 6 < 200) (hv : v < 100000) : Tr (t_770 (Int32.ofNat v) T) (fun U => SdW U (l ++ numL v ++ [32]) ∧ SmW T U) := by
  unfold t_770
  have b1 : ∀ k : Nat, k < 100000 → (Int32.ofNat k < Int32.ofNat v ↔ k < v) := fun k hk => i_lt (by omega) (by omega)
  have step : ∀ (U : TS) (m : List Nat) (p : Prop) (hp : Decidable p) (c : Nat), (SdW U m ∧ SmW T U) → m.length < 200 → Tr (@ite _ p hp (Option.bind (t_769 (Int32.ofNat c) U) (fun x => some x)) (some U)) (fun V => SdW V (m ++ (@ite _ p hp [c] [])) ∧ SmW T V) := by
    intro U m p hp c hU hm
    by_cases y : p
    · rw [if_pos y, if_pos y]
      exact t_letS c hU hm (fun V hV => ⟨V, rfl, hV⟩)
    · rw [if_neg y, if_neg y, List.append_nil]
      exact ⟨U, rfl, hU⟩
  have q1 : (48 : Int32) + Int32.ofNat v / 10000 = Int32.ofNat (48 + v / 10000) := by rw [i_divL (by omega) (by omega), i_Ladd]
  have q2 : (48 : Int32) + (Int32.ofNat v / 1000 - Int32.ofNat v / 1000 / 10 * 10) = Int32.ofNat (48 + v / 1000 % 10) := by rw [i_divL (by omega) (by omega), i_modL (by omega) (by omega), i_Ladd]
  have q3 : (48 : Int32) + (Int32.ofNat v / 100 - Int32.ofNat v / 100 / 10 * 10) = Int32.ofNat (48 + v / 100 % 10) := by rw [i_divL (by omega) (by omega), i_modL (by omega) (by omega), i_Ladd]
  have q4 : (48 : Int32) + (Int32.ofNat v / 10 - Int32.ofNat v / 10 / 10 * 10) = Int32.ofNat (48 + v / 10 % 10) := by rw [i_divL (by omega) (by omega), i_modL (by omega) (by omega), i_Ladd]
  have q5 : (48 : Int32) + (Int32.ofNat v - Int32.ofNat v / 10 * 10) = Int32.ofNat (48 + v % 10) := by rw [i_modL (by omega) (by omega), i_Ladd]
  have i1 : ((9999 : Int32) < Int32.ofNat v) ↔ 9999 < v := b1 9999 (by omega)
  have i2 : ((999 : Int32) < Int32.ofNat v) ↔ 999 < v := b1 999 (by omega)
  have i3 : ((99 : Int32) < Int32.ofNat v) ↔ 99 < v := b1 99 (by omega)
  have i4 : ((9 : Int32) < Int32.ofNat v) ↔ 9 < v := b1 9 (by omega)
  rw [q1, q2, q3, q4, q5]
  have l1 : ∀ (p : Prop) [Decidable p] (c : Nat), (if p then [c] else ([] : List Nat)).length ≤ 1 := by intro p _ c; split <;> simp
  refine Tr.bd (step T l _ _ _ ⟨h, SmW.refl T⟩ (by omega)) (fun U1 h1 => ?_)
  refine Tr.bd (step U1 _ _ _ _ h1 (by rw [List.length_append]; have := l1 ((9999 : Int32) < Int32.ofNat v) (48 + v / 10000); omega)) (fun U2 h2 => ?_)
  refine Tr.bd (step U2 _ _ _ _ h2 (by rw [List.length_append, List.length_append]; have := l1 ((9999 : Int32) < Int32.ofNat v) (48 + v / 10000); have := l1 ((999 : Int32) < Int32.ofNat v) (48 + v / 1000 % 10); omega)) (fun U3 h3 => ?_)
  refine Tr.bd (step U3 _ _ _ _ h3 (by rw [List.length_append, List.length_append, List.length_append]; have := l1 ((9999 : Int32) < Int32.ofNat v) (48 + v / 10000); have := l1 ((999 : Int32) < Int32.ofNat v) (48 + v / 1000 % 10); have := l1 ((99 : Int32) < Int32.ofNat v) (48 + v / 100 % 10); omega)) (fun U4 h4 => ?_)
  have e : l ++ (if (9999 : Int32) < Int32.ofNat v then [48 + v / 10000] else []) ++ (if (999 : Int32) < Int32.ofNat v then [48 + v / 1000 % 10] else []) ++ (if (99 : Int32) < Int32.ofNat v then [48 + v / 100 % 10] else []) ++ (if (9 : Int32) < Int32.ofNat v then [48 + v / 10 % 10] else []) ++ [48 + v % 10] = l ++ numL v := by
    unfold numL
    simp only [i1, i2, i3, i4, List.append_assoc]
  have hl5 := numL_len v
  have hlen := congrArg List.length e
  rw [List.length_append] at hlen
  simp only [List.length_cons, List.length_nil] at hlen
  have hl6 : (l ++ numL v).length = l.length + (numL v).length := List.length_append
  refine t_letS _ h4 (by omega) (fun U5 h5 => ?_)
  rw [e] at h5
  exact t_letS 32 h5 (by omega) (fun U6 h6 => ⟨U6, rfl, h6⟩)
/-- a word's letters out of its number -/
def wdL : Nat → Nat → List Nat
  | 0, _ => []
  | f + 1, r => if r = 0 then [] else (96 + r % 32) :: wdL f (r / 32)
theorem t_word {T : TS} {l : List Nat} (h : SdW T l) (hl : l.length + 7 < 200) (r : Nat) (hr : r < 33554432) : Tr (t_768 (Int32.ofNat r) T) (fun U => SdW U (l ++ wdL 5 r ++ [32]) ∧ SmW T U) := by
  unfold t_768
  have loop : ∀ (f : Nat), f ≤ 5 → ∀ (r : Nat) (U : TS) (m : List Nat), r < 32 ^ f → m.length + f < 200 → (SdW U m ∧ SmW T U) → Tr (wh (S := TS × Int32) (X := TS) (fun p2 => (if 0 < p2.2 then Option.bind (t_769 (96 + (p2.2 - p2.2 / (32 : Int32) * (32 : Int32))) p2.1) (fun x1 => some (.inl (x1, p2.2 / 32))) else some (.inr p2.1))) (U, Int32.ofNat r)) (fun V => SdW V (m ++ wdL f r) ∧ SmW T V) := by
    intro f
    induction f with
    | zero =>
      intro _ r U m hr _ hU
      have : r = 0 := by simpa using hr
      subst this
      exact ⟨U, wh_inr (by dsimp only; rw [if_neg (by decide)]), by unfold wdL; rw [List.append_nil]; exact hU⟩
    | succ f ih =>
      intro hf r U m hr hm hU
      have hb : r < 2147483648 := Nat.lt_of_lt_of_le hr (Nat.le_trans (Nat.pow_le_pow_right (by omega) hf) (by decide))
      unfold wdL
      by_cases y : r = 0
      · subst y
        exact ⟨U, wh_inr (by dsimp only; rw [if_neg (by decide)]), by rw [if_pos rfl, List.append_nil]; exact hU⟩
      · obtain ⟨V, e, hV⟩ := t_let hU.1 (by omega) (96 + r % 32)
        obtain ⟨W, e2, hW⟩ := ih (by omega) (r / 32) V (m ++ [96 + r % 32]) (by rw [Nat.pow_succ] at hr; omega) (by rw [List.length_append]; simp; omega) ⟨hV.1, hU.2.trans hV.2⟩
        refine ⟨W, ?_, ?_⟩
        · rw [wh_inl (st' := (V, Int32.ofNat (r / 32)))]
          · exact e2
          · dsimp only
            rw [if_pos ((i_Llt hb (by omega)).mpr (by omega)), i_modL hb (by omega), i_Ladd, e, Option.bind_some, i_divL hb (by omega)]
        · rw [if_neg y]
          rw [List.append_assoc] at hW
          exact hW
  obtain ⟨V, e, hV⟩ := loop 5 (by omega) r T l (by have : (32 : Nat) ^ 5 = 33554432 := rfl; omega) (by omega) ⟨h, SmW.refl T⟩
  rw [e, Option.bind_some]
  have : (wdL 5 r).length ≤ 5 := by
    have : ∀ f r, (wdL f r).length ≤ f := by
      intro f
      induction f with
      | zero => intro r; exact Nat.le_refl _
      | succ f ih =>
        intro r
        unfold wdL
        split
        · exact Nat.zero_le _
        · rw [List.length_cons]; have := ih (r / 32); omega
    exact this 5 r
  exact t_letS 32 hV (by rw [List.length_append]; omega) (fun U hU => ⟨U, rfl, hU⟩)
/-- a row of numbers -/
def numsL (c : Nat) : Nat → List Nat
  | 0 => []
  | k + 1 => numsL c k ++ numL (c + k) ++ [32]
theorem numsL_len (c k : Nat) : (numsL c k).length ≤ 6 * k := by
  induction k with
  | zero => exact Nat.le_refl _
  | succ k ih =>
    unfold numsL
    have := numL_len (c + k)
    simp only [List.length_append, List.length_cons, List.length_nil]
    omega
/-- what a sentence says -/
def sayL (w a b c d : Nat) : List Nat := wdL 5 (if w = 0 then 178682 else if w = 1 then 20577 else if w = 4 then 143848 else 464151) ++ [32] ++ numL a ++ [32] ++ (if w = 0 then wdL 5 20059310 ++ [32] ++ numL b ++ [32] ++ wdL 5 207 ++ [32] ++ numsL c d else if w = 1 then wdL 5 145707 ++ [32] ++ numL b ++ [32] ++ wdL 5 374834 ++ [32] ++ numL c ++ [32] ++ wdL 5 26259620 ++ [32] ++ numL d ++ [32] else if w = 2 then wdL 5 628196 ++ [32] ++ numL b ++ [32] else if w = 3 then [38, 32] ++ numL b ++ [32] ++ wdL 5 628196 ++ [32] ++ numL c ++ [32] else []) ++ [59, 32]
theorem t_stop {T : TS} {l : List Nat} (h : SdW T l) (hl : l.length + 2 < 200) : Tr (t_771 T) (fun U => SdW U (l ++ [59, 32]) ∧ SmW T U) := by
  unfold t_771
  refine t_letS 59 ⟨h, SmW.refl T⟩ (by omega) (fun U h1 => ?_)
  refine t_letS 32 h1 (by rw [List.length_append]; simp; omega) (fun V h2 => ⟨V, rfl, ?_, h2.2⟩)
  have := h2.1
  rwa [List.append_assoc] at this
theorem t_make {T : TS} {w a b c d : Nat} (hw : w < 5) (ha : a < 10000) (hb : b < 10000 ∨ w = 4) (hc : c < 10000 ∨ w = 2 ∨ w = 4) (hd : w = 0 → d ≤ 12) (hd1 : w = 1 → d < 10000) (xb xc xd : Int32) (eb : w ≠ 4 → xb = Int32.ofNat b) (ec : w ≠ 2 → w ≠ 4 → xc = Int32.ofNat c) (ed : w ≤ 1 → xd = Int32.ofNat d) : Tr (t_766 (Int32.ofNat w) (Int32.ofNat a) xb xc xd T) (fun U => SdW U (sayL w a b c d) ∧ SmW T U) := by
  unfold t_766 t_767
  rw [Option.bind_some]
  have s0 : SdW (ptI T 335 0) [] ∧ SmW T (ptI T 335 0) := ⟨⟨rfl, fun i hi => by simp at hi⟩, ⟨fun q hq => by rw [pt_1, if_neg hq], rfl, fun _ _ => rfl, rfl⟩⟩
  have la := numL_len a
  have lb := numL_len b
  have lc := numL_len c
  have ld := numL_len d
  have bd : ∀ {X : TS} {l : List Nat} {o : Option TS} {f : TS → Option TS} {Q : TS → Prop}, SmW T X → Tr o (fun U => SdW U l ∧ SmW X U) → (∀ U, SdW U l ∧ SmW T U → Tr (f U) Q) → Tr (Option.bind o f) Q := fun h1 h2 h3 => Tr.bd h2 (fun U hU => h3 U ⟨hU.1, h1.trans hU.2⟩)
  refine Tr.bd (P := fun U => SdW U (sayL w a b c d) ∧ SmW T U) ?_ (fun U hU => ⟨U, rfl, hU⟩)
  have hw5 : w = 0 ∨ w = 1 ∨ w = 2 ∨ w = 3 ∨ w = 4 := by omega
  rcases hw5 with rfl | rfl | rfl | rfl | rfl
  · rw [eb (by omega), ec (by omega) (by omega), ed (by omega), if_pos (show Int32.ofNat 0 = 0 from rfl), Option.bind_some]
    have hd := hd rfl
    have hc : c < 10000 := by omega
    refine bd s0.2 (t_word s0.1 (by simp) 178682 (by omega)) (fun U1 h1 => ?_)
    refine bd h1.2 (t_num h1.1 (by simp [wdL]) (by omega)) (fun U2 h2 => ?_)
    refine Tr.bd (P := fun U => SdW U ([] ++ wdL 5 178682 ++ [32] ++ numL a ++ [32] ++ (wdL 5 20059310 ++ [32] ++ numL b ++ [32] ++ wdL 5 207 ++ [32] ++ numsL c d)) ∧ SmW T U) ?_ (fun U3 h3 => ?_)
    · rw [if_pos (show Int32.ofNat 0 = 0 from rfl)]
      refine bd h2.2 (t_word h2.1 (by simp [wdL]; omega) 20059310 (by omega)) (fun U3 h3 => ?_)
      refine bd h3.2 (t_num h3.1 (by simp [wdL]; omega) (by omega)) (fun U4 h4 => ?_)
      refine bd h4.2 (t_word h4.1 (by simp [wdL]; omega) 207 (by omega)) (fun U5 h5 => ?_)
      refine Tr.bd (P := fun U => SdW U ([] ++ wdL 5 178682 ++ [32] ++ numL a ++ [32] ++ (wdL 5 20059310 ++ [32] ++ numL b ++ [32] ++ wdL 5 207 ++ [32] ++ numsL c d)) ∧ SmW T U) (wh_cnt d (fun i q => q.2 = Int32.ofNat i ∧ SdW q.1 ([] ++ wdL 5 178682 ++ [32] ++ numL a ++ [32] ++ wdL 5 20059310 ++ [32] ++ numL b ++ [32] ++ wdL 5 207 ++ [32] ++ numsL c i) ∧ SmW T q.1) ?_ ?_ ⟨rfl, by rw [show numsL c 0 = [] from rfl, List.append_nil]; exact h5.1, h5.2⟩) (fun U hU => ⟨U, rfl, hU⟩)
      · rintro i ⟨V, q⟩ hi ⟨hq, v1, v2⟩
        dsimp only at hq v1 v2 ⊢
        subst hq
        have ln := numsL_len c i
        obtain ⟨W, eW, hW⟩ := t_num (v := c + i) v1 (by simp [wdL]; omega) (by omega)
        refine Or.inr ⟨(W, Int32.ofNat (i + 1)), by rw [if_pos ((i_lt (by omega) (by omega)).mpr hi), i_add, eW, Option.bind_some, i_suc], rfl, ?_, v2.trans hW.2⟩
        have := hW.1
        unfold numsL
        simpa [List.append_assoc] using this
      · rintro ⟨V, q⟩ ⟨hq, v1, v2⟩
        dsimp only at hq v1 v2 ⊢
        subst hq
        refine ⟨V, by rw [if_neg (by rw [i_lt (by omega) (by omega)]; omega)], ?_, v2⟩
        simpa [List.append_assoc] using v1
    · have ln := numsL_len c d
      refine bd h3.2 (t_stop h3.1 (by simp [wdL]; omega)) (fun U5 h5 => ⟨U5, rfl, ?_, h5.2⟩)
      have := h5.1
      unfold sayL
      simpa [List.append_assoc] using this
  · have hd1 := hd1 rfl
    rw [eb (by omega), ec (by omega) (by omega), ed (by omega), if_neg (show ¬ Int32.ofNat 1 = 0 by decide), if_pos (show Int32.ofNat 1 = 1 from rfl), Option.bind_some]
    refine bd s0.2 (t_word s0.1 (by simp) 20577 (by omega)) (fun U1 h1 => ?_)
    refine bd h1.2 (t_num h1.1 (by simp [wdL]) (by omega)) (fun U2 h2 => ?_)
    refine Tr.bd (P := fun U => SdW U ([] ++ wdL 5 20577 ++ [32] ++ numL a ++ [32] ++ (wdL 5 145707 ++ [32] ++ numL b ++ [32] ++ wdL 5 374834 ++ [32] ++ numL c ++ [32] ++ wdL 5 26259620 ++ [32] ++ numL d ++ [32])) ∧ SmW T U) ?_ (fun U3 h3 => ?_)
    · rw [if_neg (show ¬ Int32.ofNat 1 = 0 by decide), if_pos (show Int32.ofNat 1 = 1 from rfl)]
      refine bd h2.2 (t_word h2.1 (by simp [wdL]; omega) 145707 (by omega)) (fun U3 h3 => ?_)
      refine bd h3.2 (t_num h3.1 (by simp [wdL]; omega) (by omega)) (fun U4 h4 => ?_)
      refine bd h4.2 (t_word h4.1 (by simp [wdL]; omega) 374834 (by omega)) (fun U5 h5 => ?_)
      refine bd h5.2 (t_num h5.1 (by simp [wdL]; omega) (by omega)) (fun U6 h6 => ?_)
      refine bd h6.2 (t_word h6.1 (by simp [wdL]; omega) 26259620 (by omega)) (fun U7 h7 => ?_)
      refine bd h7.2 (t_num h7.1 (by simp [wdL]; omega) (by omega)) (fun U8 h8 => ⟨U8, rfl, ?_, h8.2⟩)
      have := h8.1
      simpa [List.append_assoc] using this
    · refine bd h3.2 (t_stop h3.1 (by simp [wdL]; omega)) (fun U5 h5 => ⟨U5, rfl, ?_, h5.2⟩)
      have := h5.1
      unfold sayL
      simpa [List.append_assoc] using this
  · rw [eb (by omega), if_neg (show ¬ Int32.ofNat 2 = 0 by decide), if_neg (show ¬ Int32.ofNat 2 = 1 by decide), if_neg (show ¬ Int32.ofNat 2 = 4 by decide), Option.bind_some]
    refine bd s0.2 (t_word s0.1 (by simp) 464151 (by omega)) (fun U1 h1 => ?_)
    refine bd h1.2 (t_num h1.1 (by simp [wdL]) (by omega)) (fun U2 h2 => ?_)
    refine Tr.bd (P := fun U => SdW U ([] ++ wdL 5 464151 ++ [32] ++ numL a ++ [32] ++ (wdL 5 628196 ++ [32] ++ numL b ++ [32])) ∧ SmW T U) ?_ (fun U3 h3 => ?_)
    · rw [if_neg (show ¬ Int32.ofNat 2 = 0 by decide), if_neg (show ¬ Int32.ofNat 2 = 1 by decide), if_pos (show Int32.ofNat 2 = 2 from rfl), Option.bind_some, Sum.elim_inl, if_neg (show ¬ Int32.ofNat 2 = 3 by decide), Option.bind_some]
      refine bd h2.2 (t_word h2.1 (by simp [wdL]; omega) 628196 (by omega)) (fun U3 h3 => ?_)
      rw [if_pos (show Int32.ofNat 2 = 2 from rfl), Option.bind_some]
      refine bd h3.2 (t_num h3.1 (by simp [wdL]; omega) (by omega)) (fun U4 h4 => ⟨U4, rfl, ?_, h4.2⟩)
      have := h4.1
      simpa [List.append_assoc] using this
    · refine bd h3.2 (t_stop h3.1 (by simp [wdL]; omega)) (fun U5 h5 => ⟨U5, rfl, ?_, h5.2⟩)
      have := h5.1
      unfold sayL
      simpa [List.append_assoc] using this
  · rw [eb (by omega), ec (by omega) (by omega), if_neg (show ¬ Int32.ofNat 3 = 0 by decide), if_neg (show ¬ Int32.ofNat 3 = 1 by decide), if_neg (show ¬ Int32.ofNat 3 = 4 by decide), Option.bind_some]
    refine bd s0.2 (t_word s0.1 (by simp) 464151 (by omega)) (fun U1 h1 => ?_)
    refine bd h1.2 (t_num h1.1 (by simp [wdL]) (by omega)) (fun U2 h2 => ?_)
    refine Tr.bd (P := fun U => SdW U ([] ++ wdL 5 464151 ++ [32] ++ numL a ++ [32] ++ ([38, 32] ++ numL b ++ [32] ++ wdL 5 628196 ++ [32] ++ numL c ++ [32])) ∧ SmW T U) ?_ (fun U3 h3 => ?_)
    · rw [if_neg (show ¬ Int32.ofNat 3 = 0 by decide), if_neg (show ¬ Int32.ofNat 3 = 1 by decide), if_neg (show ¬ Int32.ofNat 3 = 2 by decide), if_pos (show Int32.ofNat 3 = 3 from rfl), Option.bind_some, Sum.elim_inl, if_pos (show Int32.ofNat 3 = 3 from rfl)]
      refine Tr.bd (P := fun U => SdW U ([] ++ wdL 5 464151 ++ [32] ++ numL a ++ [32] ++ [38] ++ [32] ++ numL b ++ [32]) ∧ SmW T U) ?_ (fun U4 h4 => ?_)
      · refine t_letS 38 h2 (by simp [wdL]; omega) (fun U3 h3 => ?_)
        refine t_letS 32 h3 (by simp [wdL]; omega) (fun U4 h4 => ?_)
        exact bd h4.2 (t_num h4.1 (by simp [wdL]; omega) (by omega)) (fun U5 h5 => ⟨U5, rfl, h5⟩)
      · refine bd h4.2 (t_word h4.1 (by simp [wdL]; omega) 628196 (by omega)) (fun U5 h5 => ?_)
        rw [if_neg (show ¬ Int32.ofNat 3 = 2 by decide), Option.bind_some]
        refine bd h5.2 (t_num h5.1 (by simp [wdL]; omega) (by omega)) (fun U6 h6 => ⟨U6, rfl, ?_, h6.2⟩)
        have := h6.1
        simpa [List.append_assoc] using this
    · refine bd h3.2 (t_stop h3.1 (by simp [wdL]; omega)) (fun U5 h5 => ⟨U5, rfl, ?_, h5.2⟩)
      have := h5.1
      unfold sayL
      simpa [List.append_assoc] using this
  · rw [if_neg (show ¬ Int32.ofNat 4 = 0 by decide), if_neg (show ¬ Int32.ofNat 4 = 1 by decide), if_pos (show Int32.ofNat 4 = 4 from rfl), Option.bind_some]
    refine bd s0.2 (t_word s0.1 (by simp) 143848 (by omega)) (fun U1 h1 => ?_)
    refine bd h1.2 (t_num h1.1 (by simp [wdL]) (by omega)) (fun U2 h2 => ?_)
    rw [if_neg (show ¬ Int32.ofNat 4 = 0 by decide), if_neg (show ¬ Int32.ofNat 4 = 1 by decide), if_neg (show ¬ Int32.ofNat 4 = 2 by decide), if_neg (show ¬ Int32.ofNat 4 = 3 by decide), Option.bind_some, Sum.elim_inr, Option.bind_some]
    refine bd h2.2 (t_stop h2.1 (by simp [wdL]; omega)) (fun U5 h5 => ⟨U5, rfl, ?_, h5.2⟩)
    have := h5.1
    unfold sayL
    simpa [List.append_assoc] using this
