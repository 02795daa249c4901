/-! the program: the component's way to the order, step by step -/
section
variable {s : CS} {t : TS} {n : Nat} {B : Nat → Nat → Nat} {mc t1 nw od : Int32}
/-- how many a block hangs on -/
theorem so_cnt {S : CS} {lf : Nat → Int32} {pq : List Nat} {c m k : Nat} {kk : Int32} (hb : BB s t n B mc) (hk : k < n) (h : SS s S B t1 nw od [] lf pq c m) (hl : lf k = 0) :
    Tr (wh (S := CS × Int32 × Int32) (X := CS × Int32) (fun p31 => Option.bind (α := Int32) (alHas p31.1 117 p31.2.2) (fun x15 => (if x15 = 0 then some (.inr (p31.1, p31.2.1)) else Option.bind (α := Value) (alNext p31.1 117 mc p31.2.2) (fun e16 => Option.bind (α := Nat) (toN p31.1 [94] e16) (fun a17 => Option.bind (α := Int32) (xI p31.1 [(94, 0)] (B k 0)) (fun x18 => Option.bind (α := Int32) (aI p31.1 [0, 12] (s.2.1 + 1) x18) (fun x19 => (if isK p31.1 [94] (B k 0) = true then Option.bind (α := Int32) (c_1068 (B k 0) a17 p31.1) (fun x20 => Option.bind (α := Int32) ((if x20 = 0 then some 0 else some 1)) (fun v50 => Option.bind (α := CS) (aPut p31.1 0 (s.2.1 + 1) x18 (.int (x19 + v50))) (fun s21 => some (.inl (s21, p31.2.1, p31.2.2 + 1))))) else none)))))))) (S, kk, 0)) (fun v => v.2 = kk ∧ SS s v.1 B t1 nw od [] (fun b => if b = k then Int32.ofNat (cnt t n k) else lf b) pq c m) := by
  have hn := hb.2.1
  refine wh_cnt n (fun j (a : CS × Int32 × Int32) => a.2 = (kk, Int32.ofNat j) ∧ SS s a.1 B t1 nw od [] (fun b => if b = k then Int32.ofNat (cnt t j k) else lf b) pq c m) ?_ ?_ ⟨rfl, h.lef (fun b _ => ?_)⟩
  · rintro j ⟨U, q⟩ hj ⟨hq, hU⟩
    dsimp only at hq hU ⊢
    subst hq
    dsimp only
    obtain ⟨c1, c2, c3⟩ := hU.bb hb
    obtain ⟨S', e1, e2⟩ := hU.put hb.1 (show k < 40 by omega) (Int32.ofNat (cnt t j k) + (if dep t k j = true then 1 else 0))
    refine Or.inr ⟨(S', kk, Int32.ofNat (j + 1)), ?_, rfl, e2.lef (fun b _ => ?_)⟩
    · rw [alHas_r c3 (by omega) (by omega), Option.bind_some, if_neg (show ¬ j = n by omega), if_neg (by decide), alNext_r c3 hj (by omega), Option.bind_some, toN_o (c2 j hj).1 rfl, Option.bind_some, xI_o (x := Int32.ofNat k) (c2 k hk).1 rfl rfl, Option.bind_some, hU.get (by omega), Option.bind_some, if_pos (isK_t (c2 k hk).1 rfl), c_hang c1 c2 hb.2.2.2.2.1 hn hk hj, Option.bind_some, if_pos rfl]
      have : (if (if dep t k j = true then (1 : Int32) else 0) = 0 then some (0 : Int32) else some 1) = some (if dep t k j = true then 1 else 0) := by
        cases dep t k j <;> rfl
      rw [this, Option.bind_some, e1, Option.bind_some, i_suc]
    · by_cases e : b = k
      · rw [if_pos e, if_pos e]
        unfold cnt
        rw [flen_suc]
        cases dep t k j
        · simp
        · rw [if_pos rfl, if_pos rfl, i_suc]
      · rw [if_neg e, if_neg e, if_neg e]
  · rintro ⟨U, q⟩ ⟨hq, hU⟩
    dsimp only at hq hU ⊢
    subst hq
    dsimp only
    obtain ⟨c1, c2, c3⟩ := hU.bb hb
    refine ⟨(U, kk), ?_, rfl, hU⟩
    rw [alHas_r c3 (by omega) (by omega), Option.bind_some, if_pos rfl, if_pos rfl]
  · by_cases e : b = k
    · rw [if_pos e, e, hl]; rfl
    · rw [if_neg e]
/-- whom a block that is placed lets go -/
theorem so_let {S : CS} {acc : List Nat} {c m b0 : Nat} {mc2 : Int32} (hb : BB s t n B mc) (h0 : b0 < n) (hn0 : b0 ∉ acc) (hcl : ∀ o ∈ acc, ∀ w, w < n → dep t o w = true → w ∈ acc) (hm0 : mayC t n acc b0 = true) (hlen : acc.length ≤ 40)
    (h : SS s S B t1 nw od (acc ++ [b0]) (fun o => if o ∈ acc ++ [b0] then -1 else if o < n then Int32.ofNat (cntU t n acc o) else 0) ((List.range n).filter (fun o => !(o == b0) && mayC t n acc o)) (c + 2 * ((List.range n).filter (fun o => !(o == b0) && mayC t n acc o)).length) (m + 121 * ((List.range n).filter (fun o => !(o == b0) && mayC t n acc o)).length)) :
    Tr (wh (S := CS × Int32) (X := CS) (fun p91 => Option.bind (α := Int32) (alHas p91.1 117 p91.2) (fun x40 => (if x40 = 0 then some (.inr p91.1) else Option.bind (α := Value) (alNext p91.1 117 mc p91.2) (fun e41 => Option.bind (α := Nat) (toN p91.1 [94] e41) (fun a42 => Option.bind (α := Int32) (xI p91.1 [(94, 0)] a42) (fun x43 => Option.bind (α := Int32) (aI p91.1 [0, 12] (s.2.1 + 1) x43) (fun x44 => (if isK p91.1 [94] a42 = true then Option.bind (α := Int32) (c_1068 a42 (B b0 0) p91.1) (fun x45 => Option.bind (α := Int32) ((if x45 = 0 then some 0 else some 1)) (fun v110 => Option.bind (α := CS) (aPut p91.1 0 (s.2.1 + 1) x43 (.int (x44 - v110))) (fun s46 => Option.bind (α := Int32) (xI s46 [(94, 0)] a42) (fun x47 => Option.bind (α := Int32) (aI s46 [0, 12] (s.2.1 + 1) x47) (fun x48 => Option.bind (α := CS) ((if x48 = 0 then (if isK s46 [94] a42 = true then Option.bind (α := Int32) (c_1068 a42 (B b0 0) s46) (fun x49 => (if x49 = 0 then some s46 else Option.bind (α := Int32) (xI s46 [(94, 0)] a42) (fun x50 => Option.bind (α := CS) (some (chg s46 1 1)) (fun s51 => (if isK s51 [37] (s.2.1 + 2) = true then Option.bind (α := CS) (pqAdd s51 (s.2.1 + 2) (.int x50)) (fun s52 => some s52) else none))))) else none) else some s46)) (fun v127 => some (.inl (v127, p91.2 + 1)))))))) else none)))))))) (S, 0)) (fun v => SS s v B t1 nw od (acc ++ [b0]) (fun o => if o ∈ acc ++ [b0] then -1 else if o < n then Int32.ofNat (cntU t n (acc ++ [b0]) o) else 0) ((List.range n).filter (mayC t n (acc ++ [b0]))) (c + 2 * ((List.range n).filter (mayC t n (acc ++ [b0]))).length) (m + 121 * ((List.range n).filter (mayC t n (acc ++ [b0]))).length)) := by
  have hn := hb.2.1
  generalize hacc : acc ++ [b0] = acc' at h ⊢
  have hmem : ∀ o, o ∈ acc' ↔ o ∈ acc ∨ o = b0 := fun o => by rw [← hacc]; simp
  have hnd : ∀ o, o < n → o ∈ acc' → dep t o b0 = false := by
    intro o ho hm
    cases hd : dep t o b0 with
    | false => rfl
    | true =>
      rcases (hmem o).mp hm with hm | rfl
      · exact absurd (hcl o hm b0 h0 hd) hn0
      · exact absurd ((mayC_t.mp hm0).2 _ h0 hd) hn0
  have hup : ∀ o, o ≠ b0 → mayC t n acc o = true → mayC t n acc' o = true := by
    intro o ho hm
    rw [mayC_t] at hm ⊢
    exact ⟨fun z => by rcases (hmem o).mp z with z | z; exact hm.1 z; exact ho z, fun w hw hd => (hmem w).mpr (Or.inl (hm.2 w hw hd))⟩
  have hin : ∀ o, o ∈ acc' → mayC t n acc' o = false := by
    intro o ho
    cases hz : mayC t n acc' o with
    | false => rfl
    | true => exact absurd ho (mayC_t.mp hz).1
  have pJ : ∀ j, j ≤ n → ∃ p : Nat → Bool, p = (fun o => !(o == b0) && (mayC t n acc o || (decide (o < j) && mayC t n acc' o))) := fun j _ => ⟨_, rfl⟩
  refine wh_cnt n (fun j (a : CS × Int32) => a.2 = Int32.ofNat j ∧ ∃ l, l = (List.range n).filter (fun o => !(o == b0) && (mayC t n acc o || (decide (o < j) && mayC t n acc' o))) ∧ SS s a.1 B t1 nw od acc' (fun o => if o ∈ acc' then -1 else if o < j then Int32.ofNat (cntU t n acc' o) else if o < n then Int32.ofNat (cntU t n acc o) else 0) l (c + 2 * l.length) (m + 121 * l.length)) ?_ ?_ ⟨rfl, _, rfl, ?_⟩
  · rintro j ⟨U, q⟩ hj ⟨hq, l, hl, hU⟩
    dsimp only at hq hU ⊢
    subst hq
    obtain ⟨c1, c2, c3⟩ := hU.bb hb
    have hll : l.length ≤ 40 := by rw [hl]; have := flen n (fun o => !(o == b0) && (mayC t n acc o || (decide (o < j) && mayC t n acc' o))); omega
    have hlm : ∀ y ∈ l, y < 40 := by
      intro y hy
      rw [hl] at hy
      have := List.mem_range.mp (List.mem_filter.mp hy).1
      omega
    have e45 : ∀ W : CS, (∀ k, k < n → R5b W.1 t n B k) → RK W.1 → c_1068 (B j 0) (B b0 0) W = some (if dep t j b0 = true then 1 else 0) := fun W h1 h2 => c_hang h2 h1 hb.2.2.2.2.1 hn hj h0
    have this : (if (if dep t j b0 = true then (1 : Int32) else 0) = 0 then some (0 : Int32) else some 1) = some (if dep t j b0 = true then 1 else 0) := by
      cases dep t j b0 <;> rfl
    rw [alHas_r c3 (by omega) (by omega), Option.bind_some, if_neg (show ¬ j = n by omega), if_neg (by decide), alNext_r c3 hj (by omega), Option.bind_some, toN_o (c2 j hj).1 rfl, Option.bind_some, xI_o (x := Int32.ofNat j) (c2 j hj).1 rfl rfl, Option.bind_some, hU.get (by omega), Option.bind_some, if_pos (isK_t (c2 j hj).1 rfl), e45 U c2 c1, Option.bind_some, this, Option.bind_some]
    by_cases hja : j ∈ acc'
    · -- already placed
      have hd := hnd j hj hja
      obtain ⟨S', e1, e2⟩ := hU.put hb.1 (show j < 40 by omega) (-1)
      have e3 : SS s S' B t1 nw od acc' (fun o => if o ∈ acc' then -1 else if o < j + 1 then Int32.ofNat (cntU t n acc' o) else if o < n then Int32.ofNat (cntU t n acc o) else 0) l (c + 2 * l.length) (m + 121 * l.length) := e2.lef (fun b _ => by
        by_cases e : b = j
        · rw [if_pos e, e, if_pos hja]
        · rw [if_neg e]
          by_cases e2 : b ∈ acc'
          · rw [if_pos e2, if_pos e2]
          · rw [if_neg e2, if_neg e2]
            by_cases e3 : b < j
            · rw [if_pos e3, if_pos (by omega)]
            · rw [if_neg e3, if_neg (by omega)])
      obtain ⟨d1, d2, d3⟩ := e3.bb hb
      refine Or.inr ⟨(S', Int32.ofNat (j + 1)), ?_, rfl, l, ?_, e3⟩
      · simp only [hd, Bool.false_eq_true, if_false, hja, if_true]
        rw [show (-1 : Int32) - 0 = -1 from rfl, e1, Option.bind_some, xI_o (x := Int32.ofNat j) (d2 j hj).1 rfl rfl, Option.bind_some, e3.get (by omega), Option.bind_some, if_pos hja, if_neg (by decide), Option.bind_some, i_suc]
      · rw [hl]
        refine List.filter_congr (fun o _ => ?_)
        by_cases e : o = j
        · rw [e, hin j hja]; simp
        · rw [show decide (o < j + 1) = decide (o < j) by rw [decide_eq_decide]; omega]
    · have hjb : j ≠ b0 := fun z => hja ((hmem j).mpr (Or.inr z))
      have hjn : j ∉ acc := fun z => hja ((hmem j).mpr (Or.inl z))
      have hcu := cntU_add (t := t) (n := n) (b := j) (acc := acc) h0 hn0
      rw [hacc] at hcu
      have hle : cntU t n acc' j ≤ n := flen _ _
      have hval : Int32.ofNat (cntU t n acc j) - (if dep t j b0 = true then (1 : Int32) else 0) = Int32.ofNat (cntU t n acc' j) := by
        rw [hcu]
        cases dep t j b0
        · simp
        · simp only [if_true]; rw [i_subL (by omega)]; rfl
      obtain ⟨S', e1, e2⟩ := hU.put hb.1 (show j < 40 by omega) (Int32.ofNat (cntU t n acc' j))
      have e3 : SS s S' B t1 nw od acc' (fun o => if o ∈ acc' then -1 else if o < j + 1 then Int32.ofNat (cntU t n acc' o) else if o < n then Int32.ofNat (cntU t n acc o) else 0) l (c + 2 * l.length) (m + 121 * l.length) := e2.lef (fun b _ => by
        by_cases e : b = j
        · rw [if_pos e, e, if_neg hja, if_pos (by omega)]
        · rw [if_neg e]
          by_cases e2 : b ∈ acc'
          · rw [if_pos e2, if_pos e2]
          · rw [if_neg e2, if_neg e2]
            by_cases e3 : b < j
            · rw [if_pos e3, if_pos (by omega)]
            · rw [if_neg e3, if_neg (by omega)])
      obtain ⟨d1, d2, d3⟩ := e3.bb hb
      rw [if_neg hja, if_neg (show ¬ j < j by omega), if_pos hj, hval, e1, Option.bind_some, xI_o (x := Int32.ofNat j) (d2 j hj).1 rfl rfl, Option.bind_some, e3.get (by omega), Option.bind_some, if_neg hja, if_pos (show j < j + 1 by omega), i_suc]
      by_cases h0' : cntU t n acc' j = 0
      · have hmay := (cntU_may hja).mp h0'
        rw [h0', if_pos (show Int32.ofNat 0 = 0 from rfl), if_pos (isK_t (d2 j hj).1 rfl), e45 S' d2 d1, Option.bind_some]
        cases hd : dep t j b0 with
        | false =>
          have hm2 : mayC t n acc j = true := (cntU_may hjn).mp (by rw [hcu, hd, h0']; rfl)
          refine Or.inr ⟨(S', Int32.ofNat (j + 1)), ?_, rfl, l, ?_, e3⟩
          · simp only [Bool.false_eq_true, if_false, if_true, Option.bind_some]
          · rw [hl]
            refine List.filter_congr (fun o _ => ?_)
            by_cases e : o = j
            · rw [e, hm2]; simp
            · rw [show decide (o < j + 1) = decide (o < j) by rw [decide_eq_decide]; omega]
        | true =>
          have hm2 : mayC t n acc j = false := by
            cases hz : mayC t n acc j with
            | false => rfl
            | true => exact absurd ((mayC_t.mp hz).2 b0 h0 hd) hn0
          obtain ⟨S2, g1, g2⟩ := (e3.chg 1 1).pqa hb.1 hll hlm (show j < 40 by omega)
          have hnl : nins j l = (List.range n).filter (fun o => !(o == b0) && (mayC t n acc o || (decide (o < j + 1) && mayC t n acc' o))) := by
            rw [hl]
            refine nins_filter hj (by simp [hm2]) (fun o _ => ?_)
            by_cases e : o = j
            · rw [e, hmay, hm2]; simp [hjb]
            · rw [show decide (o < j + 1) = decide (o < j) by rw [decide_eq_decide]; omega]; simp [e]
          have hlen2 : (nins j l).length = l.length + 1 := by
            have : ∀ l : List Nat, (nins j l).length = l.length + 1 := by
              intro l
              induction l with
              | nil => rfl
              | cons x r ih => unfold nins; split <;> simp [ih]
            exact this l
          refine Or.inr ⟨(S2, Int32.ofNat (j + 1)), ?_, rfl, nins j l, hnl, g2.le (by omega) (by omega)⟩
          simp only [if_true, show ¬ (1 : Int32) = 0 by decide, if_false]
          simp only [Option.bind_some]
          rw [if_pos (e3.chg 1 1).k2, g1]
          simp only [Option.bind_some]
      · refine Or.inr ⟨(S', Int32.ofNat (j + 1)), ?_, rfl, l, ?_, e3⟩
        · rw [if_neg (show ¬ Int32.ofNat (cntU t n acc' j) = 0 from fun z => h0' ((i_inj (k := 0) (by omega) (by omega)).mp z)), Option.bind_some]
        · have hf : mayC t n acc' j = false := by
            cases hz : mayC t n acc' j with
            | false => rfl
            | true => exact absurd ((cntU_may hja).mpr hz) h0'
          rw [hl]
          refine List.filter_congr (fun o _ => ?_)
          by_cases e : o = j
          · rw [e, hf]; simp
          · rw [show decide (o < j + 1) = decide (o < j) by rw [decide_eq_decide]; omega]
  · rintro ⟨U, q⟩ ⟨hq, l, hl, hU⟩
    dsimp only at hq hU ⊢
    subst hq
    obtain ⟨c1, c2, c3⟩ := hU.bb hb
    have hl2 : l = (List.range n).filter (mayC t n acc') := by
      rw [hl]
      refine List.filter_congr (fun o ho => ?_)
      have ho := List.mem_range.mp ho
      rw [decide_eq_true ho]
      by_cases e : o = b0
      · rw [e, hin b0 ((hmem b0).mpr (Or.inr rfl))]; simp
      · cases hz : mayC t n acc' o with
        | true => simp [e]
        | false =>
          cases hy : mayC t n acc o with
          | false => simp
          | true => rw [hup o e hy] at hz; cases hz
    refine ⟨U, ?_, ?_⟩
    · rw [alHas_r c3 (by omega) (by omega), Option.bind_some, if_pos rfl, if_pos rfl]
    · rw [← hl2]
      refine hU.lef (fun b hb40 => ?_)
      by_cases e2 : b ∈ acc'
      · rw [if_pos e2, if_pos e2]
      · rw [if_neg e2, if_neg e2]
        by_cases e3 : b < n
        · rw [if_pos e3]
          simp [e3]
        · rw [if_neg e3, if_neg e3, if_neg e3]
  · have e0 : (fun o => !(o == b0) && (mayC t n acc o || (decide (o < 0) && mayC t n acc' o))) = (fun o => !(o == b0) && mayC t n acc o) := by
      funext o; simp
    rw [e0]
    exact h.lef (fun b _ => by simp)
end
