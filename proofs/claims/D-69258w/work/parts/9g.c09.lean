/-! cells: going through a door -/
def okD (T : TS) (i : Nat) : Bool := decide (T.2.2.1 48 i < T.2.2.1 57 i)
noncomputable def fdD (T : TS) (l : Nat) (x y : Int32) : Option Nat := (dsL T l x y).find? (okD T)
theorem fdD_range (T : TS) (l : Nat) (x y : Int32) : by classical exact (fdD T l x y = ((List.range (bN (T.2.2.1 54 l))).find? (fun d => decide (isT T l d x y ∧ okD T (6 * l + d) = true))).map (fun d => 6 * l + d)) := by
  classical
  unfold fdD dsL
  rw [List.find?_map, List.find?_filter]
  refine congrArg _ (congrFun (congrArg _ (funext (fun d => ?_))) _)
  simp [Function.comp]
theorem fdD_none {T : TS} {l n : Nat} {x y : Int32} (hn : bN (T.2.2.1 54 l) = n) (h : ∀ d, d < n → ¬ (isT T l d x y ∧ okD T (6 * l + d) = true)) : by classical exact (fdD T l x y = none) := by
  classical
  rw [fdD_range, List.find?_range_eq_none.mpr (fun d hd => by simp only [decide_eq_false (h d (by omega))]; rfl)]; rfl
theorem fdD_some {T : TS} {l n d : Nat} {x y : Int32} (hn : bN (T.2.2.1 54 l) = n) (hd : d < n) (h1 : isT T l d x y ∧ okD T (6 * l + d) = true) (h : ∀ e, e < d → ¬ (isT T l e x y ∧ okD T (6 * l + e) = true)) : by classical exact (fdD T l x y = some (6 * l + d)) := by
  classical
  rw [fdD_range, List.find?_range_eq_some.mpr ⟨decide_eq_true h1, List.mem_range.mpr (by omega), fun e he => by simp only [decide_eq_false (h e he)]; rfl⟩]; rfl
theorem t_thr {T : TS} {nl : Nat} (h : lns T nl) {d : Nat} (hd : d < 4) (x y : Int32) : (lnb T d x y nl = -1 → t_672 x y (Int32.ofNat d) T = some (1, T)) ∧ ∀ l, l < nl → lnb T d x y nl = Int32.ofNat l → (∀ i, fdD T l x y = some i → t_672 x y (Int32.ofNat d) T = some (1, wrI T 48 i (T.2.2.1 48 i + 1))) ∧ (fdD T l x y = none → t_672 x y (Int32.ofNat d) T = some (0, T)) := by
  unfold t_672
  rw [t_lnb h hd]; repeat (first | rw [Option.bind_some] | rw [Sum.elim_inl] | rw [Sum.elim_inr])
  constructor
  · intro z
    rw [z]
    have e : wh (S := Int32) (X := Sum (Int32) (Sum (Unit) (Int32 × TS))) (fun p9 : Int32 => (if (-1 : Int32) < 0 then some (.inr (.inr (.inl ()))) else Option.bind (rdI T 54 20 (-1)) (fun x2 => (if p9 < x2 then Option.bind (t_727 (-1) p9 x y T) (fun x3 => Option.bind (α := Sum (Unit) (Sum (Int32) (Sum (Int32) (Sum (Unit) (Int32 × TS))))) ((if x3 = 0 then some (.inl ()) else Option.bind (rdI T 48 120 ((6 * (-1)) + p9)) (fun x4 => Option.bind (rdI T 57 120 ((6 * (-1)) + p9)) (fun x5 => (if x4 < x5 then some (.inr (.inr (.inl p9))) else some (.inl ())))))) (Sum.elim (fun v58 => some (Sum.inl (β := Sum (Int32) (Sum (Unit) (Int32 × TS))) (p9 + 1))) (fun z => some z))) else some (.inr (.inr (.inl ()))))))) (0 : Int32) = some (.inr (.inl ())) := wh_inr (by rw [if_pos (show (-1 : Int32) < 0 by decide)])
    rw [e]; rfl
  · intro l hl z
    obtain ⟨h1, h2, h3⟩ := h
    obtain ⟨nd, hnd, e54⟩ := h3 l hl
    have hb54 : bN (T.2.2.1 54 l) = nd := by rw [e54, bN_of (by omega)]
    rw [z]
    obtain ⟨v, e, hv⟩ := wh_cnt (f := (fun p9 : Int32 => (if Int32.ofNat l < 0 then some (.inr (.inr (.inl ()))) else Option.bind (rdI T 54 20 (Int32.ofNat l)) (fun x2 => (if p9 < x2 then Option.bind (t_727 (Int32.ofNat l) p9 x y T) (fun x3 => Option.bind (α := Sum (Unit) (Sum (Int32) (Sum (Int32) (Sum (Unit) (Int32 × TS))))) ((if x3 = 0 then some (.inl ()) else Option.bind (rdI T 48 120 ((6 * Int32.ofNat l) + p9)) (fun x4 => Option.bind (rdI T 57 120 ((6 * Int32.ofNat l) + p9)) (fun x5 => (if x4 < x5 then some (.inr (.inr (.inl p9))) else some (.inl ())))))) (Sum.elim (fun v58 => some (Sum.inl (β := Sum (Int32) (Sum (Unit) (Int32 × TS))) (p9 + 1))) (fun z => some z))) else some (.inr (.inr (.inl ())))))))) (a := (0 : Int32)) (Q := fun v => (∃ d', v = Sum.inl (Int32.ofNat d') ∧ d' < nd ∧ fdD T l x y = some (6 * l + d')) ∨ (v = .inr (.inl ()) ∧ fdD T l x y = none)) nd (fun k a => a = Int32.ofNat k ∧ ∀ e, e < k → ¬ (isT T l e x y ∧ okD T (6 * l + e) = true)) (by
      rintro k _ hk ⟨rfl, hi⟩
      rw [if_neg (i_nlt0 (by omega)), rdI_n (by omega) (by omega), Option.bind_some, e54, if_pos ((i_lt (by omega) (by omega)).mpr hk), t_isT (by omega) (by omega), Option.bind_some, i_mulL, i_add, rdI_n (by omega) (by omega), rdI_n (by omega) (by omega), Option.bind_some, Option.bind_some, i_suc]
      have next : ¬ (isT T l k x y ∧ okD T (6 * l + k) = true) → ∀ e, e < k + 1 → ¬ (isT T l e x y ∧ okD T (6 * l + e) = true) := fun g e he => by
        by_cases u : e = k
        · rw [u]; exact g
        · exact hi e (by omega)
      by_cases g1 : isT T l k x y
      · rw [if_pos g1, if_neg (show ¬ (1 : Int32) = 0 by decide)]
        by_cases g2 : T.2.2.1 48 (6 * l + k) < T.2.2.1 57 (6 * l + k)
        · left
          rw [if_pos g2]
          exact ⟨_, rfl, Or.inl ⟨k, rfl, hk, fdD_some hb54 hk ⟨g1, decide_eq_true g2⟩ hi⟩⟩
        · right
          rw [if_neg g2]
          exact ⟨_, rfl, rfl, next (fun u => g2 (of_decide_eq_true u.2))⟩
      · right
        rw [if_neg g1, if_pos rfl]
        exact ⟨_, rfl, rfl, next (fun u => g1 u.1)⟩) (by
      rintro _ ⟨rfl, hi⟩
      refine ⟨.inr (.inl ()), ?_, Or.inr ⟨rfl, fdD_none hb54 hi⟩⟩
      rw [if_neg (i_nlt0 (by omega)), rdI_n (by omega) (by omega), Option.bind_some, e54, if_neg (fun z => by have := (i_lt (by omega) (by omega)).mp z; omega)]) ⟨rfl, fun e he => absurd he (by omega)⟩
    rw [e]; repeat (first | rw [Option.bind_some] | rw [Sum.elim_inl] | rw [Sum.elim_inr])
    constructor
    · intro i hi
      rcases hv with ⟨d', rfl, h5, h6⟩ | ⟨rfl, h6⟩
      · rw [hi] at h6
        obtain rfl := Option.some.inj h6
        repeat (first | rw [Option.bind_some] | rw [Sum.elim_inl] | rw [Sum.elim_inr] | rw [if_neg (show ¬ (1 : Int32) = 0 by decide)] | rw [if_pos (show (0 : Int32) = 0 from rfl)] | rw [if_pos (show true = true from rfl)] | rw [if_neg (show ¬ false = true by decide)] | dsimp only)
        rw [i_mulL, i_add, rdI_n (by omega) (by omega)]; repeat (first | rw [Option.bind_some] | rw [Sum.elim_inl] | rw [Sum.elim_inr])
        rw [stI_n (by omega) (by omega)]; rfl
      · rw [hi] at h6; cases h6
    · intro hi
      rcases hv with ⟨d', rfl, h5, h6⟩ | ⟨rfl, h6⟩
      · rw [hi] at h6; cases h6
      · repeat (first | rw [Option.bind_some] | rw [Sum.elim_inl] | rw [Sum.elim_inr] | rw [if_neg (show ¬ (1 : Int32) = 0 by decide)] | rw [if_pos (show (0 : Int32) = 0 from rfl)] | rw [if_pos (show true = true from rfl)] | rw [if_neg (show ¬ false = true by decide)] | dsimp only)
        rw [if_neg (i_nlt0 (by omega))]
section
variable {own : Nat → Nat} {s S : CS} {t T : TS} {nl nr nd sm : Nat} {W : Nat → Nat} {e q g wn : Nat → Int32} {sc : Nat → Nat}
/-- the counters of doors -/
def cntR (T : TS) (wn : Nat → Int32) (sc : Nat → Nat) : Prop := ∀ i, i < 120 → (if Int32.ofNat (sc i) = T.1 2 then wn i else 0) = T.2.2.1 48 i
theorem c_pas (r : R9x S.1 T nl nr nd sm W e q g wn sc) (hb : T.1 1 ≠ 0) (h101 : S.1 101 = some (true, false, 56, [.int (T.1 2)])) (hc : cntR T wn sc) {c d : Nat} (hc' : c < 576) (hd : d < 4) : (lnb T d (cX c) (cY c) nl = -1 → c_554 170 (e (4 * c + d)) S = some (1, S)) ∧ ∀ l, l < nl → lnb T d (cX c) (cY c) nl = Int32.ofNat l → (∀ i, fdD T l (cX c) (cY c) = some i → i < 120 ∧ c_554 170 (e (4 * c + d)) S = some (1, cup (cup S 177 (true, true, 0, rowC (fun j => .int (if j = i then T.1 2 else Int32.ofNat (sc j))) 120)) 178 (true, true, 0, rowC (fun j => .int (if j = i then T.2.2.1 48 i + 1 else wn j)) 120))) ∧ (fdD T l (cX c) (cY c) = none → c_554 170 (e (4 * c + d)) S = some (0, S)) := by
  obtain ⟨⟨a1, a2, a3, ⟨mc, a4⟩, a5, a6, a7, a8⟩, _, _, _, hbb, _⟩ := r
  obtain ⟨b1, b2, b3, b4, b5, b6, b7⟩ := hbb hb
  have b54 := b1.2.2
  have bnl := b1.2.1
  have hed := b7 c d hc' hd
  unfold c_554
  constructor
  · intro z
    rcases hed with ⟨h1, h2⟩ | ⟨l, h1, h2, _⟩
    · rw [h2, if_pos (by decide), if_pos rfl]
    · rw [h2] at z; exact absurd z (i_ne1 (by omega))
  · intro l hl z
    rcases hed with ⟨h1, h2⟩ | ⟨l', h1, h2, h3⟩
    · rw [h1] at z; exact absurd z.symm (i_ne1 (by omega))
    · have : l' = l := (i_inj (by omega) (by omega)).mp (h2.symm.trans z)
      subst this
      rcases h3 with ⟨h4, h5⟩ | ⟨h4, k, hk, h5, ⟨mc', h6⟩, h7, h8⟩
      · constructor
        · intro i hi
          unfold fdD at hi
          rw [h4] at hi; cases hi
        · intro _
          rw [h5, if_pos (by decide), if_neg (by decide)]
      · have hwk : ∀ i, i ∈ dsL T l' (cX c) (cY c) → i < 120 := fun i hi => by
          obtain ⟨d', g1, _, rfl⟩ := dsL_mem hi
          obtain ⟨v, hv, e⟩ := b54 l' hl
          rw [e, bN_of (by omega)] at g1
          omega
        rw [h5, if_neg (i_nlt0 (by omega)), xN_o (b := 173) a1 rfl rfl]; repeat (first | rw [Option.bind_some] | rw [Sum.elim_inl] | rw [Sum.elim_inr])
        rw [if_pos (isK_t a4 rfl), alGet_r a4 hk (by omega)]; repeat (first | rw [Option.bind_some] | rw [Sum.elim_inl] | rw [Sum.elim_inr])
        rw [toN_o h6 rfl]; repeat (first | rw [Option.bind_some] | rw [Sum.elim_inl] | rw [Sum.elim_inr])
        generalize hL : dsL T l' (cX c) (cY c) = L at *
        have hlen : L.length ≤ 120 := by
          rw [← hL]
          unfold dsL
          rw [List.length_map]
          refine Nat.le_trans (List.length_filter_le _ _) ?_
          obtain ⟨v, hv, e⟩ := b54 l' hl
          rw [List.length_range, e, bN_of (by omega)]; omega
        have hfd : fdD T l' (cX c) (cY c) = L.find? (okD T) := by unfold fdD; rw [hL]
        obtain ⟨v, ev, hv⟩ := wh_cnt (f := (fun p17 : Int32 => (if isK S [13] (W k) = true then Option.bind (alSize S (W k)) (fun x4 => (if p17 < x4 then (if isK S [13] (W k) = true then Option.bind (alGet S (W k) p17) (fun e5 => Option.bind (toB e5) (fun b6 => Option.bind (xN S [(50, 8)] 170) (fun a7 => Option.bind (aI S [0, 12] a7 b6) (fun x8 => Option.bind (xN S [(50, 0)] 170) (fun a9 => Option.bind (xI S [(56, 0)] a9) (fun x10 => Option.bind ((if x8 = x10 then Option.bind (xN S [(50, 9)] 170) (fun a11 => Option.bind (aI S [0, 12] a11 b6) (fun x12 => some x12)) else some 0)) (fun v41 => Option.bind (xN S [(50, 5)] 170) (fun a13 => Option.bind (aI S [0, 12] a13 b6) (fun x14 => (if v41 < x14 then some (.inr (.inl (b6, v41))) else some (Sum.inl (β := Sum (Int32 × Int32) (Sum (Unit) (Int32 × CS))) (p17 + 1)))))))))))) else none) else some (.inr (.inr (.inl ()))))) else none))) (a := (0 : Int32)) (Q := fun v => (∃ i, v = Sum.inl (Int32.ofNat i, T.2.2.1 48 i) ∧ i < 120 ∧ L.find? (okD T) = some i) ∨ (v = .inr (.inl ()) ∧ L.find? (okD T) = none)) L.length (fun k a => a = Int32.ofNat k ∧ ∀ j (hj : j < k) (hl : j < L.length), (!okD T L[j]) = true) (by
          rintro j _ hj ⟨rfl, hi⟩
          have hm : L[j] ∈ L := List.getElem_mem hj
          have hj120 := hwk _ hm
          have hgd : L.getD j 0 = L[j] := by simp [List.getD, hj]
          rw [if_pos (isK_t h6 rfl), alSize_r h6, Option.bind_some, if_pos ((i_lt (by omega) (by omega)).mpr hj), if_pos (isK_t h6 rfl), alGet_r h6 hj (by omega), hgd, Option.bind_some, show toB (.int (Int32.ofNat L[j])) = some (Int32.ofNat L[j]) from rfl, Option.bind_some, xN_o (b := 177) a1 rfl rfl, Option.bind_some, aI_r a7 (by omega) rfl hj120 (by omega) rfl, Option.bind_some, xN_o (b := 101) a1 rfl rfl, Option.bind_some, xI_o (x := T.1 2) h101 rfl rfl, Option.bind_some, xN_o (b := 178) a1 rfl rfl, xN_o (b := 174) a1 rfl rfl, Option.bind_some, aI_r a8 (by omega) rfl hj120 (by omega) rfl, Option.bind_some]
          have e48 : (if Int32.ofNat (sc L[j]) = T.1 2 then some (wn L[j]) else some 0) = some (T.2.2.1 48 L[j]) := by
            rw [← hc _ hj120]
            split <;> rfl
          rw [e48, Option.bind_some, Option.bind_some, aI_r a5 (by omega) rfl hj120 (by omega) rfl, Option.bind_some, h8 _ hm]
          by_cases g2 : T.2.2.1 48 L[j] < T.2.2.1 57 L[j]
          · left
            rw [if_pos g2]
            exact ⟨_, rfl, Or.inl ⟨L[j], rfl, hj120, List.find?_eq_some_iff_getElem.mpr ⟨decide_eq_true g2, j, hj, rfl, fun i hi' => hi i hi' (by omega)⟩⟩⟩
          · right
            rw [if_neg g2, i_suc]
            refine ⟨_, rfl, rfl, fun i hi' hl' => ?_⟩
            by_cases u : i = j
            · subst u
              unfold okD
              rw [decide_eq_false g2]; rfl
            · exact hi i (by omega) hl') (by
          rintro _ ⟨rfl, hi⟩
          refine ⟨.inr (.inl ()), ?_, Or.inr ⟨rfl, List.find?_eq_none.mpr (fun i hi' hok => ?_)⟩⟩
          · rw [if_pos (isK_t h6 rfl), alSize_r h6, Option.bind_some, if_neg (fun z => by have := (i_lt (by omega) (by omega)).mp z; omega)]
          · obtain ⟨j, hj, rfl⟩ := List.getElem_of_mem hi'
            have := hi j hj hj
            rw [hok] at this
            cases this) ⟨rfl, fun j hj => absurd hj (by omega)⟩
        rw [hfd, ev]; repeat (first | rw [Option.bind_some] | rw [Sum.elim_inl] | rw [Sum.elim_inr])
        constructor
        · intro i hi
          rcases hv with ⟨i', rfl, h9, h10⟩ | ⟨rfl, h10⟩
          · rw [hi] at h10
            obtain rfl := Option.some.inj h10
            refine ⟨h9, ?_⟩
            repeat (first | rw [Option.bind_some] | rw [Sum.elim_inl] | rw [Sum.elim_inr] | rw [if_neg (show ¬ (1 : Int32) = 0 by decide)] | rw [if_pos (show (0 : Int32) = 0 from rfl)] | rw [if_pos (show true = true from rfl)] | rw [if_neg (show ¬ false = true by decide)] | dsimp only)
            have a178 : ∀ x, (cup S 177 x).1 178 = _ := fun x => (cup_ne (by omega)).trans a8
            have a170 : ∀ x, (cup S 177 x).1 170 = _ := fun x => (cup_ne (by omega)).trans a1
            rw [xN_o (b := 177) a1 rfl rfl, xN_o (b := 101) a1 rfl rfl]; repeat (first | rw [Option.bind_some] | rw [Sum.elim_inl] | rw [Sum.elim_inr])
            rw [xI_o (x := T.1 2) h101 rfl rfl]; repeat (first | rw [Option.bind_some] | rw [Sum.elim_inl] | rw [Sum.elim_inr])
            rw [aPut_r a7 h9 (by omega)]; repeat (first | rw [Option.bind_some] | rw [Sum.elim_inl] | rw [Sum.elim_inr])
            rw [xN_o (b := 178) (a170 _) rfl rfl]; repeat (first | rw [Option.bind_some] | rw [Sum.elim_inl] | rw [Sum.elim_inr])
            rw [aPut_r (a178 _) h9 (by omega)]; repeat (first | rw [Option.bind_some] | rw [Sum.elim_inl] | rw [Sum.elim_inr] | rw [if_neg (show ¬ (1 : Int32) = 0 by decide)] | rw [if_pos (show (0 : Int32) = 0 from rfl)] | rw [if_pos (show true = true from rfl)] | rw [if_neg (show ¬ false = true by decide)] | dsimp only)
            have eA : rowC (fun j => if j = i then Value.int (T.1 2) else .int (Int32.ofNat (sc j))) 120 = rowC (fun j => .int (if j = i then T.1 2 else Int32.ofNat (sc j))) 120 := rowC_congr (fun j _ => by split <;> rfl)
            have eB : rowC (fun j => if j = i then Value.int (T.2.2.1 48 i + 1) else .int (wn j)) 120 = rowC (fun j => .int (if j = i then T.2.2.1 48 i + 1 else wn j)) 120 := rowC_congr (fun j _ => by split <;> rfl)
            rw [eA, eB]
          · rw [hi] at h10; cases h10
        · intro hi
          rcases hv with ⟨i', rfl, h9, h10⟩ | ⟨rfl, h10⟩
          · rw [hi] at h10; cases h10
          · repeat (first | rw [Option.bind_some] | rw [Sum.elim_inl] | rw [Sum.elim_inr] | rw [if_neg (show ¬ (1 : Int32) = 0 by decide)] | rw [if_pos (show (0 : Int32) = 0 from rfl)] | rw [if_pos (show true = true from rfl)] | rw [if_neg (show ¬ false = true by decide)] | dsimp only)
end
