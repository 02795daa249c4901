/-! cells: doors, the relation -/
/-- the doors of a line between a cell and the one beside it -/
noncomputable def dsL (t : TS) (l : Nat) (x y : Int32) : List Nat := by classical exact (((List.range (bN (t.2.2.1 54 l))).filter (fun d => decide (isT t l d x y))).map (fun d => 6 * l + d))
def psB (t : TS) (nl w : Nat) (x y : Int32) : Prop := lnb t w x y nl = -1 ∨ dsL t (bN (lnb t w x y nl)) x y ≠ []
theorem dsL_ne {t : TS} {l : Nat} {x y : Int32} : by classical exact (dsL t l x y ≠ [] ↔ ∃ d, d < bN (t.2.2.1 54 l) ∧ isT t l d x y) := by
  classical
  constructor
  · intro h
    obtain ⟨q, hq⟩ := List.exists_mem_of_ne_nil _ h
    unfold dsL at hq
    obtain ⟨d, hd, rfl⟩ := List.mem_map.mp hq
    obtain ⟨h1, h2⟩ := List.mem_filter.mp hd
    exact ⟨d, List.mem_range.mp h1, of_decide_eq_true h2⟩
  · rintro ⟨d, h1, h2⟩ h
    have : 6 * l + d ∈ dsL t l x y := List.mem_map.mpr ⟨d, List.mem_filter.mpr ⟨List.mem_range.mpr h1, decide_eq_true h2⟩, rfl⟩
    rw [h] at this
    cases this
theorem dsL_mem {t : TS} {l q : Nat} {x y : Int32} (h : q ∈ dsL t l x y) : by classical exact (∃ d, d < bN (t.2.2.1 54 l) ∧ isT t l d x y ∧ q = 6 * l + d) := by
  classical
  unfold dsL at h
  obtain ⟨d, hd, rfl⟩ := List.mem_map.mp h
  obtain ⟨h1, h2⟩ := List.mem_filter.mp hd
  exact ⟨d, List.mem_range.mp h1, of_decide_eq_true h2, rfl⟩
theorem t_ps {t : TS} {nl : Nat} (h : lns t nl) {w : Nat} (hw : w < 4) (x y : Int32) : by classical exact (t_591 x y (Int32.ofNat w) t = some (if psB t nl w x y then 1 else 0)) := by
  classical
  unfold t_591
  rw [t_lnb h hw]; repeat (first | rw [Option.bind_some] | rw [Sum.elim_inl] | rw [Sum.elim_inr])
  rcases lnb_o t w x y nl with z | ⟨l, hl, z⟩
  · rw [if_pos (show psB t nl w x y from Or.inl z), z, if_pos (show (-1 : Int32) < 0 by decide)]; repeat (first | rw [Option.bind_some] | rw [Sum.elim_inl] | rw [Sum.elim_inr])
    have e : wh (S := Int32 × Int32) (X := Int32) (fun p15 : Int32 × Int32 => (if (-1 : Int32) < 0 then some (.inr p15.1) else Option.bind (rdI t 54 20 (-1)) (fun x2 => (if p15.2 < x2 then Option.bind ((if p15.1 = 0 then Option.bind (t_727 (-1) p15.2 x y t) (fun x3 => (if x3 = 0 then some (0 : Int32) else some (1 : Int32))) else some (1 : Int32))) (fun v37 => some (Sum.inl (β := Int32) (v37, p15.2 + 1))) else some (.inr p15.1))))) ((1 : Int32), (0 : Int32)) = some (1 : Int32) := wh_inr (by rw [if_pos (show (-1 : Int32) < 0 by decide)])
    rw [e]; rfl
  · obtain ⟨h1, h2, h3⟩ := h
    obtain ⟨nd, hnd, e54⟩ := h3 l hl
    have hb : bN (Int32.ofNat l) = l := bN_of (by omega)
    have hne : ¬ lnb t w x y nl = -1 := by rw [z]; exact i_ne1 (by omega)
    rw [z, if_neg (i_nlt0 (by omega))]; repeat (first | rw [Option.bind_some] | rw [Sum.elim_inl] | rw [Sum.elim_inr])
    obtain ⟨v, e, hv⟩ := wh_cnt (f := (fun p15 : Int32 × Int32 => (if Int32.ofNat l < 0 then some (.inr p15.1) else Option.bind (rdI t 54 20 (Int32.ofNat l)) (fun x2 => (if p15.2 < x2 then Option.bind ((if p15.1 = 0 then Option.bind (t_727 (Int32.ofNat l) p15.2 x y t) (fun x3 => (if x3 = 0 then some (0 : Int32) else some (1 : Int32))) else some (1 : Int32))) (fun v37 => some (Sum.inl (β := Int32) (v37, p15.2 + 1))) else some (.inr p15.1)))))) (a := ((0 : Int32), (0 : Int32))) (Q := fun v => v = if psB t nl w x y then 1 else 0) nd (fun k a => a.2 = Int32.ofNat k ∧ ((a.1 = 1 ∧ ∃ d, d < k ∧ isT t l d x y) ∨ (a.1 = 0 ∧ ∀ d, d < k → ¬ isT t l d x y))) (by
      rintro k ⟨i, _⟩ hk ⟨rfl, hi⟩
      right
      dsimp only at hi ⊢
      rw [if_neg (i_nlt0 (by omega)), rdI_n (by omega) (by omega)]; repeat (first | rw [Option.bind_some] | rw [Sum.elim_inl] | rw [Sum.elim_inr])
      rw [e54, if_pos ((i_lt (by omega) (by omega)).mpr hk), t_isT (by omega) (by omega), i_suc]; repeat (first | rw [Option.bind_some] | rw [Sum.elim_inl] | rw [Sum.elim_inr])
      rcases hi with ⟨rfl, d, h4, h5⟩ | ⟨rfl, h4⟩
      · exact ⟨(1, Int32.ofNat (k + 1)), by rw [if_neg (by decide)]; rfl, rfl, Or.inl ⟨rfl, d, by omega, h5⟩⟩
      · by_cases g : isT t l k x y
        · exact ⟨(1, Int32.ofNat (k + 1)), by rw [if_pos rfl, if_pos g]; rfl, rfl, Or.inl ⟨rfl, k, by omega, g⟩⟩
        · refine ⟨(0, Int32.ofNat (k + 1)), by rw [if_pos rfl, if_neg g]; rfl, rfl, Or.inr ⟨rfl, fun d hd => ?_⟩⟩
          by_cases e : d = k
          · rw [e]; exact g
          · exact h4 d (by omega)) (by
      rintro ⟨i, _⟩ ⟨rfl, hi⟩
      dsimp only at hi ⊢
      refine ⟨i, ?_, ?_⟩
      · rw [if_neg (i_nlt0 (by omega)), rdI_n (by omega) (by omega)]; repeat (first | rw [Option.bind_some] | rw [Sum.elim_inl] | rw [Sum.elim_inr])
        rw [e54, if_neg (fun z => by have := (i_lt (by omega) (by omega)).mp z; omega)]
      · rcases hi with ⟨rfl, d, h4, h5⟩ | ⟨rfl, h4⟩
        · rw [if_pos]
          exact Or.inr (by rw [z, hb]; exact dsL_ne.mpr ⟨d, by rw [e54, bN_of (by omega)]; exact h4, h5⟩)
        · rw [if_neg]
          rintro (g | g)
          · exact hne g
          · rw [z, hb] at g
            obtain ⟨d, h5, h6⟩ := dsL_ne.mp g
            rw [e54, bN_of (by omega)] at h5
            exact h4 d h5 h6) ⟨rfl, Or.inr ⟨rfl, fun d hd => absurd hd (by omega)⟩⟩
    rw [e]; repeat (first | rw [Option.bind_some] | rw [Sum.elim_inl] | rw [Sum.elim_inr])
    rw [hv]
    by_cases g : psB t nl w x y
    · rw [if_pos g]; rfl
    · rw [if_neg g]; rfl
theorem lnb_cg {t T : TS} (e : eqR t T [50, 51, 52, 53]) (w : Nat) (x y : Int32) (n : Nat) : by classical exact (lnb T w x y n = lnb t w x y n) := by
  classical
  induction n with
  | zero => rfl
  | succ n ih =>
    have : lnC T w x y n ↔ lnC t w x y n := by
      unfold lnC hiX hiY
      rw [e 50 (by simp), e 51 (by simp), e 52 (by simp), e 53 (by simp)]
    show (if lnC T w x y n then Int32.ofNat n else lnb T w x y n) = if lnC t w x y n then Int32.ofNat n else lnb t w x y n
    rw [ih]
    by_cases h : lnC t w x y n
    · rw [if_pos h, if_pos (this.mpr h)]
    · rw [if_neg h, if_neg (fun z => h (this.mp z))]
theorem dsL_cg {t T : TS} (e : eqR t T [50, 51, 52, 54, 55, 56]) (l : Nat) (x y : Int32) : dsL T l x y = dsL t l x y := by
  have : ∀ d, isT T l d x y ↔ isT t l d x y := fun d => by
    unfold isT
    rw [e 50 (by simp), e 51 (by simp), e 52 (by simp), e 55 (by simp), e 56 (by simp)]
  unfold dsL
  rw [e 54 (by simp)]
  refine congrArg _ (List.filter_congr (fun d _ => ?_))
  exact decide_eq_decide.mpr (this d)
theorem psB_cg {t T : TS} (e : eqR t T [50, 51, 52, 53, 54, 55, 56]) (nl w : Nat) (x y : Int32) : psB T nl w x y ↔ psB t nl w x y := by
  unfold psB
  rw [lnb_cg (fun c hc => e c (by simp at hc ⊢; omega)), dsL_cg (fun c hc => e c (by simp at hc ⊢; omega))]
def cX (c : Nat) : Int32 := Int32.ofNat (c % 24)
def cY (c : Nat) : Int32 := Int32.ofNat (c / 24)
/-- what is between a cell and the one beside it -/
def edgR (h : lHeap) (t : TS) (nl nd : Nat) (W : Nat → Nat) (q : Nat → Int32) (e : Int32) (c d : Nat) : Prop := (lnb t d (cX c) (cY c) nl = -1 ∧ e = -1) ∨ ∃ l, l < nl ∧ lnb t d (cX c) (cY c) nl = Int32.ofNat l ∧ ((dsL t l (cX c) (cY c) = [] ∧ e = -2) ∨ (dsL t l (cX c) (cY c) ≠ [] ∧ ∃ k, k < nd ∧ e = Int32.ofNat k ∧ (∃ mc : Int32, h (W k) = some (true, false, 1013, .int mc :: rowC (fun i => .int (Int32.ofNat ((dsL t l (cX c) (cY c)).getD i 0))) (dsL t l (cX c) (cY c)).length)) ∧ 179 ≤ W k ∧ ∀ i ∈ dsL t l (cX c) (cY c), q i = t.2.2.1 57 i))
def nmC (t : TS) (c : Nat) : Int32 := if t.2.2.1 46 c = 0 then -1 else t.2.2.1 46 c
/-- the cells' arrays -/
def C9a (h : lHeap) (t : TS) (nd sm : Nat) (W : Nat → Nat) (e q g wn : Nat → Int32) (sc : Nat → Nat) : Prop := h 170 = some (true, false, 50, [.ref 101, .int (t.1 1), .ref 171, .ref 172, .ref 173, .ref 174, .ref 175, .ref sm, .ref 177, .ref 178]) ∧ h 171 = some (true, true, 0, rowC (fun c => .int (t.2.2.1 47 c)) 576) ∧ h 172 = some (true, true, 0, rowC (fun j => .int (e j)) 2304) ∧ (∃ mc : Int32, h 173 = some (true, false, 1013, .int mc :: rowC (fun k => .ref (W k)) nd)) ∧ h 174 = some (true, true, 0, rowC (fun j => .int (q j)) 120) ∧ h 175 = some (true, true, 0, rowC (fun c => .int (g c)) 576) ∧ h 177 = some (true, true, 0, rowC (fun j => .int (Int32.ofNat (sc j))) 120) ∧ h 178 = some (true, true, 0, rowC (fun j => .int (wn j)) 120)
/-- smoke -/
def C9s (h : lHeap) (t : TS) (sm : Nat) : Prop := (sm = 176 ∨ 179 ≤ sm) ∧ (∃ xs : List Value, h sm = some (true, false, 1003, xs) ∧ (xs.length = 0 ∨ bit xs (xs.length - 1) = true) ∧ ∀ c, bit xs c = true ↔ c < 576 ∧ t.2.2.1 44 c = 1) ∧ ∀ c, c < 576 → v01 (t.2.2.1 44 c)
/-- when it is built -/
def C9b (h : lHeap) (t : TS) (nl nr nd : Nat) (W : Nat → Nat) (e q g : Nat → Int32) : Prop := lns t nl ∧ t.1 9 = Int32.ofNat nr ∧ nr ≤ 40 ∧ (∀ c, c < 576 → t.2.2.1 47 c = -1 ∨ bel (t.2.2.1 47 c) nr) ∧ (∀ c, c < 576 → bel (t.2.2.1 46 c) 578 ∧ g c = nmC t c) ∧ nd ≤ 2304 ∧ ∀ c d, c < 576 → d < 4 → edgR h t nl nd W q (e (4 * c + d)) c d
def R9x (h : lHeap) (t : TS) (nl nr nd sm : Nat) (W : Nat → Nat) (e q g wn : Nat → Int32) (sc : Nat → Nat) : Prop := C9a h t nd sm W e q g wn sc ∧ C9s h t sm ∧ v01 (t.1 1) ∧ (∃ nw, t.1 2 = Int32.ofNat nw ∧ nw ≤ 6000 ∧ ∀ j, j < 120 → sc j ≤ nw) ∧ (t.1 1 ≠ 0 → C9b h t nl nr nd W e q g) ∧ (t.1 1 = 0 → nd = 0 ∧ ∀ c, c < 576 → t.2.2.1 46 c = 0)
def R9 (h : lHeap) (t : TS) : Prop := ∃ nl nr nd sm W e q g wn sc, R9x h t nl nr nd sm W e q g wn sc
theorem edgR_cg {h h' : lHeap} {t T : TS} {nl nd : Nat} {W : Nat → Nat} {q : Nat → Int32} {e : Int32} {c d : Nat} (r : edgR h t nl nd W q e c d) (hh : ∀ a c, c.2.2.1 = 1013 → h a = some c → h' a = some c) (he : eqR t T [50, 51, 52, 53, 54, 55, 56, 57]) : edgR h' T nl nd W q e c d := by
  unfold edgR at *
  rw [lnb_cg (fun c hc => he c (by simp at hc ⊢; omega)), he 57 (by simp)]
  rcases r with r | ⟨l, h1, h2, r⟩
  · exact Or.inl r
  · right
    refine ⟨l, h1, h2, ?_⟩
    rw [dsL_cg (fun c hc => he c (by simp at hc ⊢; omega))]
    rcases r with r | ⟨h3, k, h4, h5, ⟨mc, h6⟩, h7⟩
    · exact Or.inl r
    · exact Or.inr ⟨h3, k, h4, h5, ⟨mc, hh _ _ rfl h6⟩, h7⟩
theorem R9x_cg {h h' : lHeap} {t T : TS} {nl nr nd sm : Nat} {W : Nat → Nat} {e q g wn : Nat → Int32} {sc : Nat → Nat} (r : R9x h t nl nr nd sm W e q g wn sc) (hh : ∀ a c, h a = some c → h' a = some c) (h1 : T.1 1 = t.1 1) (h2 : T.1 2 = t.1 2) (h9 : T.1 9 = t.1 9) (h3 : rt T 9 = rt t 9) (h4 : t.1 1 ≠ 0 → rt T 2 = rt t 2) : R9x h' T nl nr nd sm W e q g wn sc := by
  obtain ⟨⟨a1, a2, a3, ⟨mc, a4⟩, a5, a6, a7, a8⟩, ⟨s1, ⟨xs, s2, s3, s4⟩, s5⟩, v, w, b, u⟩ := r
  have n3 : ∀ c, mR c = 9 → T.2.2.1 c = t.2.2.1 c := fun c hc => funext (fun k => by rw [← rt_3 (t := T) hc, h3, rt_3 hc])
  refine ⟨⟨by rw [h1]; exact hh _ _ a1, by rw [n3 47 rfl]; exact hh _ _ a2, hh _ _ a3, ⟨mc, hh _ _ a4⟩, hh _ _ a5, hh _ _ a6, hh _ _ a7, hh _ _ a8⟩, ⟨s1, ⟨xs, hh _ _ s2, s3, by rw [n3 44 rfl]; exact s4⟩, by rw [n3 44 rfl]; exact s5⟩, by rw [h1]; exact v, by rw [h2]; exact w, fun z => ?_, fun z => by rw [n3 46 rfl]; exact u (by rw [← h1]; exact z)⟩
  have z' : t.1 1 ≠ 0 := by rw [← h1]; exact z
  obtain ⟨b1, b2, b3, b4, b5, b6, b7⟩ := b z'
  have e2 := h4 z'
  have n2 : ∀ c, mR c = 2 → T.2.2.1 c = t.2.2.1 c := fun c hc => funext (fun k => by rw [← rt_3 (t := T) hc, e2, rt_3 hc])
  have n1 : ∀ c, mI c = 2 → T.1 c = t.1 c := fun c hc => by rw [← rt_1 (t := T) hc, e2, rt_1 hc]
  unfold C9b lns nmC at *
  rw [n1 100 rfl, n2 54 rfl, h9, n3 47 rfl, n3 46 rfl]
  exact ⟨b1, b2, b3, b4, b5, b6, fun c d hc hd => edgR_cg (b7 c d hc hd) (fun a c _ => hh a c) (fun c hc => n2 c (by simp at hc; rcases hc with rfl | rfl | rfl | rfl | rfl | rfl | rfl | rfl <;> rfl))⟩
theorem R9_raw {s : CS} {own : Nat → Nat} {t : TS} {nl nr nd sm : Nat} {W : Nat → Nat} {e q g wn : Nat → Int32} {sc : Nat → Nat} (r : R9x (rs s.1 own 9) t nl nr nd sm W e q g wn sc) : R9x s.1 t nl nr nd sm W e q g wn sc := R9x_cg r (fun _ _ h => (rs_in h).1) rfl rfl rfl rfl (fun _ => rfl)
