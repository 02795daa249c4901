/-! the library: walks over locals that are known in part -/
section
variable {E : lE} {M : lMem} {D : Nat} {cd : List lI} {i j : Nat} {fin : lF} {lv : lL} {r : List Value}
theorem lGo.loadI {n : Nat} {x : Int32} (hi : cd[i]? = some (aP (pLoadI n j))) (hg : lGet lv n = some (.int x)) (h : lGo E prog D cd j (lv, .int x :: r, M) fin) : lGo E prog D cd i (lv, r, M) fin := lGo.step hi (fun _ => by simp [lMemI, lPm, pLoadI, hg]) h
theorem lGo.loadL {n : Nat} {x : Int64} (hi : cd[i]? = some (aP (pLoadL n j))) (hg : lGet lv n = some (.long x)) (h : lGo E prog D cd j (lv, .long x :: r, M) fin) : lGo E prog D cd i (lv, r, M) fin := lGo.step hi (fun _ => by simp [lMemI, lPm, pLoadL, hg]) h
theorem lGo.loadA {n x : Nat} (hi : cd[i]? = some (aP (pLoadA n j))) (hg : lGet lv n = some (.ref x)) (h : lGo E prog D cd j (lv, .ref x :: r, M) fin) : lGo E prog D cd i (lv, r, M) fin := lGo.step hi (fun _ => by simp [lMemI, lPm, pLoadA, hg]) h
theorem lGo.loadR {n : Nat} {x : Option Nat} (hi : cd[i]? = some (aP (pLoadA n j))) (hg : lGet lv n = some (vR x)) (h : lGo E prog D cd j (lv, vR x :: r, M) fin) : lGo E prog D cd i (lv, r, M) fin := by
  cases x with
  | none => exact lGo.step hi (fun _ => by simp [lMemI, lPm, pLoadA, hg, vR]) h
  | some b => exact lGo.step hi (fun _ => by simp [lMemI, lPm, pLoadA, hg, vR]) h
theorem lGo.inc {n : Nat} {x z : Int32} (hi : cd[i]? = some (aP (pInc n z j))) (hg : lGet lv n = some (.int x)) (h : lGo E prog D cd j (st1 n (.int (x + z)) lv, r, M) fin) : lGo E prog D cd i (lv, r, M) fin := lGo.step hi (fun _ => by simp [lMemI, lPm, pInc, hg]) h
theorem lGet_s1 {n : Nat} {v : Value} : lGet (st1 n v lv) n = some v := by
  unfold st1
  rw [lGet_cons, if_pos rfl]
theorem lGet_sn {n m : Nat} {v v' : Value} (h : lGet lv m = some v') (hm : n ≠ m) (h2 : m + 1 ≠ n ∨ v'.category = 1) : lGet (st1 n v lv) m = some v' := by
  unfold st1
  rw [lGet_cons, if_neg hm]
  refine lGet_filter h ?_
  have e1 : (m == n) = false := by simpa using fun z => hm z.symm
  rcases h2 with h2 | h2
  · have e2 : (m + 1 == n) = false := by simpa using h2
    simp [e1, e2]
  · simp [e1, h2]
end
/-! the library: ArrayDeque's growth -/
section
variable {E : lE} {G : lHeap}
theorem grow_lp {e N to_ : Nat} (hto : to_ ≤ N) (hN : N ≤ 900000) : ∀ (k i : Nat), i + k = to_ → ∀ (M : lMem) (h : Nat → Value) (lv : lL), M.1 e = some (true, true, 6, rowC h N) → lGet lv 5 = some (.ref e) → lGet lv 7 = some (.int (Int32.ofNat i)) → lGet lv 8 = some (.int (Int32.ofNat to_)) → ∀ D, lGo E prog D cd_32 82 (lv, [], M) (.inl none, (lUpd M.1 e (true, true, 6, rowC (fun j => if i ≤ j ∧ j < to_ then .null else h j) N), M.2.1, M.2.2)) := by
  intro k
  induction k with
  | zero =>
    intro i hi M h lv he l5 l7 l8 D
    refine lGo.loadI rfl l7 ?_
    refine lGo.loadI rfl l8 ?_
    refine lGo.step rfl (fun _ => rfl) ?_
    refine lGo.brT (decide_eq_true ?_) ?_
    · rw [show i = to_ by omega]; exact Int32.le_refl _
    have em : (lUpd M.1 e (true, true, 6, rowC (fun j => if i ≤ j ∧ j < to_ then .null else h j) N), M.2.1, M.2.2) = M := by
      refine Prod.ext ?_ rfl
      funext q
      show lUpd M.1 e _ q = M.1 q
      rw [lUpd_at]
      by_cases z : q = e
      · rw [if_pos z, z, he]
        refine congrArg (fun l => some (true, true, 6, l)) (rowC_congr (fun j hj => ?_))
        rw [if_neg (by omega)]
      · rw [if_neg z]
    rw [em]
    exact lGo.done rfl (fun _ => rfl)
  | succ k ih =>
    intro i hi M h lv he l5 l7 l8 D
    have hlt : Int32.ofNat i < Int32.ofNat to_ := (i_lt (by omega) (by omega)).mpr (by omega)
    refine lGo.loadI rfl l7 ?_
    refine lGo.loadI rfl l8 ?_
    refine lGo.step rfl (fun _ => rfl) ?_
    refine lGo.brF (decide_eq_false (Int32.not_le.mpr hlt)) ?_
    refine lGo.loadA rfl l5 ?_
    refine lGo.loadI rfl l7 ?_
    refine lGo.step rfl (fun _ => rfl) ?_
    refine lGo.rsv rfl he (Or.inl rfl) (i_nlt0 (by omega)) (by rw [clampN (by omega), rowC_len]; omega) ?_
    rw [clampN (by omega), rowC_upd]
    refine lGo.inc rfl l7 ?_
    refine lGo.step rfl (fun _ => rfl) ?_
    have e1 : Int32.ofNat i + 1 = Int32.ofNat (i + 1) := i_suc i
    have := ih (i + 1) (by omega) (lUpd M.1 e (true, true, 6, rowC (fun j => if j = i then .null else h j) N), M.2.1, M.2.2) (fun j => if j = i then .null else h j) (st1 7 (.int (Int32.ofNat i + 1)) lv) (lUpd_eq ..) (lGet_sn l5 (by decide) (Or.inl (by decide))) (by rw [← e1]; exact lGet_s1) (lGet_sn l8 (by decide) (Or.inl (by decide))) D
    rw [lUpdU] at this
    have er : rowC (fun j => if i + 1 ≤ j ∧ j < to_ then .null else if j = i then .null else h j) N = rowC (fun j => if i ≤ j ∧ j < to_ then Value.null else h j) N := rowC_congr (fun j hj => by
      by_cases z : j = i
      · rw [if_neg (by omega), if_pos z, if_pos (by omega)]
      · by_cases w : i + 1 ≤ j ∧ j < to_
        · rw [if_pos w, if_pos (by omega)]
        · rw [if_neg w, if_neg z, if_neg (by omega)])
    rw [er] at this
    exact this
theorem sp_32 {M : lMem} {a e hd cap c1 : Nat} {f : Nat → Value} {b : Nat} (hE : E 1 = .ref c1) (g1 : M.1 a = some (true, false, 4, [.ref e, .int (Int32.ofNat hd), .int (Int32.ofNat hd)])) (g8 : M.1 e = some (true, true, 6, rowC f cap)) (hf : M.1 M.2.1 = none) (h17 : 17 ≤ cap) (hc : cap ≤ 200000) (hhd : hd < cap) (hb : f hd = .ref b) (hok : ∀ v ∈ rowC f cap, okV M v) : ∃ sp, (sp = if cap < 64 then cap + 2 else cap / 2) ∧ lSp E prog 4 32 [.ref a, .int 1] M (.inl none, (lUpd (lUpd M.1 M.2.1 (true, true, 6, rowC (fun j => if j < hd then f j else if j < hd + sp then .null else f (j - sp)) (cap + sp))) a (true, false, 4, [.ref M.2.1, .int (Int32.ofNat (hd + sp)), .int (Int32.ofNat hd)]), M.2.1 + 1, M.2.2 + (cap + sp))) := by
  refine ⟨_, rfl, ?_⟩
  obtain ⟨sp, hsp⟩ : ∃ sp, sp = if cap < 64 then cap + 2 else cap / 2 := ⟨_, rfl⟩
  rw [← hsp]
  have sp1 : 1 ≤ sp ∧ sp ≤ 200002 := by
    rw [hsp]
    split <;> omega
  have ha0 : a ≠ M.2.1 := fun z => by rw [z, hf] at g1; cases g1
  have hlen : (rowC f cap).length = cap := rowC_len ..
  have walk : lGo E prog 3 cd_32 14 (st1 2 (.int (Int32.ofNat cap)) (lv_args 0 [.ref a, .int 1]), [.int (Int32.ofNat sp)], M) (.inl none, (lUpd (lUpd M.1 M.2.1 (true, true, 6, rowC (fun j => if j < hd then f j else if j < hd + sp then .null else f (j - sp)) (cap + sp))) a (true, false, 4, [.ref M.2.1, .int (Int32.ofNat (hd + sp)), .int (Int32.ofNat hd)]), M.2.1 + 1, M.2.2 + (cap + sp))) := by
    have e1 : Int32.ofNat cap + Int32.ofNat sp = Int32.ofNat (cap + sp) := i_add _ _
    repeat (refine lGo.step rfl (fun _ => rfl) ?_; try dsimp only)
    refine lGo.brF (decide_eq_false (fun z => ?_)) ?_
    · have := (i_lt (j := sp) (k := 1) (by omega) (by omega)).mp z
      omega
    repeat (refine lGo.step rfl (fun _ => rfl) ?_; try dsimp only)
    rw [e1]
    refine lGo.brT (decide_eq_true ?_) ?_
    · rw [Int32.le_iff_toInt_le, Int32.toInt_sub, Int32.toInt_ofNat_of_lt (by omega), show (2147483639 : Int32).toInt = 2147483639 from rfl, Int32.toInt_zero, Int.bmod_eq_of_le (by omega) (by omega)]
      omega
    repeat (refine lGo.step rfl (fun _ => rfl) ?_; try dsimp only)
    refine lGo.get rfl g1 rfl rfl ?_
    repeat (refine lGo.step rfl (fun _ => rfl) ?_; try dsimp only)
    refine lGo.call (n := 2) rfl ⟨Nat.le_of_ble_eq_true rfl, Nat.le_of_ble_eq_true rfl⟩ ((sp_56 (N := cap + sp) g8 hf rfl (by omega) (by omega) hE (fun v hv => hok v (List.mem_of_mem_take hv))).mono (by decide)) ?_
    rw [List.take_of_length_le (by omega)]
    repeat (refine lGo.step rfl (fun _ => rfl) ?_; try dsimp only)
    have ga : lUpd M.1 M.2.1 (true, true, 6, jfil (rowC f cap) (cap + sp)) a = some (true, false, 4, [.ref e, .int (Int32.ofNat hd), .int (Int32.ofNat hd)]) := (lUpd_ne _ _ ha0).trans g1
    refine lGo.put rfl ga rfl (Nat.le_of_ble_eq_true rfl) rfl ?_
    repeat (refine lGo.step rfl (fun _ => rfl) ?_; try dsimp only)
    refine lGo.get rfl (lUpd_eq ..) rfl rfl ?_
    repeat (refine lGo.step rfl (fun _ => rfl) ?_; try dsimp only)
    refine lGo.get rfl (lUpd_eq ..) rfl rfl ?_
    refine lGo.step rfl (fun _ => rfl) ?_
    refine lGo.brF (decide_eq_false (fun z => Int32.lt_irrefl z)) ?_
    repeat (refine lGo.step rfl (fun _ => rfl) ?_; try dsimp only)
    refine lGo.get rfl (lUpd_eq ..) rfl rfl ?_
    repeat (refine lGo.step rfl (fun _ => rfl) ?_; try dsimp only)
    refine lGo.get rfl (lUpd_eq ..) rfl rfl ?_
    refine lGo.step rfl (fun _ => rfl) ?_
    refine lGo.brF (decide_eq_false (fun z => z rfl)) ?_
    repeat (refine lGo.step rfl (fun _ => rfl) ?_; try dsimp only)
    refine lGo.get rfl (lUpd_eq ..) rfl rfl ?_
    have ga2 : ∀ {c : lCell}, lUpd (lUpd M.1 M.2.1 (true, true, 6, jfil (rowC f cap) (cap + sp))) a c M.2.1 = some (true, true, 6, jfil (rowC f cap) (cap + sp)) := (lUpd_ne _ _ (fun z => ha0 z.symm)).trans (lUpd_eq ..)
    have hfg : ∀ j, (jfil (rowC f cap) (cap + sp))[j]? = if j < cap then some (f j) else if j < cap + sp then some .null else none := fun j => by
      unfold jfil
      by_cases z : j < cap
      · rw [if_pos z, List.getElem?_append_left (by omega), rowC_get, if_pos z]
      · rw [if_neg z, List.getElem?_append_right (by omega), List.getElem?_replicate, hlen]
        by_cases w : j < cap + sp
        · rw [if_pos w, if_pos (by omega)]
        · rw [if_neg w, if_neg (by omega)]
    have hjl : (jfil (rowC f cap) (cap + sp)).length = cap + sp := jfil_len (by omega)
    refine lGo.ald (v := .ref b) rfl ga2 rfl (i_nlt0 (by omega)) (by rw [clampN (by omega), hfg, if_pos hhd, hb]) ?_
    repeat (refine lGo.step rfl (fun _ => rfl) ?_; try dsimp only)
    have e3 : Int32.ofNat (cap + sp) - Int32.ofNat cap = Int32.ofNat sp := by rw [i_sub (by omega), Nat.add_sub_cancel_left]
    rw [e3]
    refine lGo.get rfl (lUpd_eq ..) rfl rfl ?_
    repeat (refine lGo.step rfl (fun _ => rfl) ?_; try dsimp only)
    refine lGo.get rfl (lUpd_eq ..) rfl rfl ?_
    repeat (refine lGo.step rfl (fun _ => rfl) ?_; try dsimp only)
    refine lGo.get rfl (lUpd_eq ..) rfl rfl ?_
    refine lGo.step rfl (fun _ => rfl) ?_
    dsimp only
    have e4 : Int32.ofNat cap - Int32.ofNat hd = Int32.ofNat (cap - hd) := i_sub (by omega)
    have e5 : Int32.ofNat hd + Int32.ofNat sp = Int32.ofNat (hd + sp) := i_add _ _
    rw [e4, e5]
    refine lGo.copyO (sp := hd) (dp := hd + sp) (n := cap - hd) rfl ga2 ga2 rfl (by omega) (by omega) (by omega) (by omega) (cat8 (Nat.le_of_ble_eq_true rfl)) ?_ ?_
    · intro v hv
      have hv2 : v ∈ rowC f cap := by
        have h1 : ((jfil (rowC f cap) (cap + sp)).drop hd).take (cap - hd) = (rowC f cap).drop hd := by
          unfold jfil
          rw [List.drop_append_of_le_length (by omega), List.take_append_of_le_length (by rw [List.length_drop]; omega), List.take_of_length_le (by rw [List.length_drop]; omega)]
        rw [h1] at hv
        exact List.mem_of_mem_drop hv
      have h2 := (hok v hv2).upd (q := M.2.1) (c := (true, true, 6, jfil (rowC f cap) (cap + sp))) (n := M.2.1 + 1) (m := M.2.2 + (cap + sp)) (Or.inl hf)
      exact h2.upd (Or.inr ⟨true, false, 4, _, ga, rfl, rfl⟩)
    have ecp : (jfil (rowC f cap) (cap + sp)).take (hd + sp) ++ ((jfil (rowC f cap) (cap + sp)).drop hd).take (cap - hd) ++ (jfil (rowC f cap) (cap + sp)).drop (hd + sp + (cap - hd)) = rowC (fun j => if j < hd + sp then (if j < cap then f j else .null) else f (j - sp)) (cap + sp) := by
      apply List.ext_getElem?
      intro j
      rw [rowC_get]
      have l1 : ((jfil (rowC f cap) (cap + sp)).take (hd + sp)).length = hd + sp := by rw [List.length_take]; omega
      have l2 : (((jfil (rowC f cap) (cap + sp)).drop hd).take (cap - hd)).length = cap - hd := by rw [List.length_take, List.length_drop]; omega
      by_cases z : j < cap + sp
      · rw [if_pos z, List.getElem?_append_left (by rw [List.length_append, l1, l2]; omega)]
        by_cases w : j < hd + sp
        · rw [if_pos w, List.getElem?_append_left (by omega), List.getElem?_take, if_pos w, hfg]
          by_cases u : j < cap
          · rw [if_pos u, if_pos u]
          · rw [if_neg u, if_neg u, if_pos z]
        · rw [if_neg w, List.getElem?_append_right (by omega), l1, List.getElem?_take, if_pos (by omega), List.getElem?_drop, hfg, if_pos (by omega)]
          congr 2
          omega
      · rw [if_neg z]
        refine List.getElem?_eq_none ?_
        rw [List.length_append, List.length_append, l1, l2, List.length_drop]
        omega
    rw [ecp]
    repeat (refine lGo.step rfl (fun _ => rfl) ?_; try dsimp only)
    refine lGo.get rfl ((lUpd_ne _ _ ha0).trans (lUpd_eq ..)) rfl rfl ?_
    repeat (refine lGo.step rfl (fun _ => rfl) ?_; try dsimp only)
    refine lGo.get rfl ((lUpd_ne _ _ ha0).trans (lUpd_eq ..)) rfl rfl ?_
    repeat (refine lGo.step rfl (fun _ => rfl) ?_; try dsimp only)
    rw [e5]
    refine lGo.put rfl ((lUpd_ne _ _ ha0).trans (lUpd_eq ..)) rfl (Nat.le_of_ble_eq_true rfl) rfl ?_
    refine lGo.step rfl (fun _ => rfl) ?_
    have lp := grow_lp (E := E) (e := M.2.1) (N := cap + sp) (to_ := hd + sp) (by omega) (by omega) sp hd rfl (lUpd (lUpd (lUpd (lUpd M.1 M.2.1 (true, true, 6, jfil (rowC f cap) (cap + sp))) a (true, false, 4, [.ref M.2.1, .int (Int32.ofNat hd), .int (Int32.ofNat hd)])) M.2.1 (true, true, 6, rowC (fun j => if j < hd + sp then (if j < cap then f j else .null) else f (j - sp)) (cap + sp))) a (true, false, 4, [.ref M.2.1, .int (Int32.ofNat (hd + sp)), .int (Int32.ofNat hd)]), M.2.1 + 1, M.2.2 + (cap + sp)) _ (st1 8 (.int (Int32.ofNat (hd + sp))) (st1 7 (.int (Int32.ofNat hd)) (st1 6 (.int (Int32.ofNat sp)) (st1 5 (.ref M.2.1) (st1 3 (.int (Int32.ofNat (cap + sp))) (st1 4 (.int (Int32.ofNat sp)) (st1 2 (.int (Int32.ofNat cap)) (lv_args 0 [.ref a, .int 1])))))))) ((lUpd_ne _ _ (fun z => ha0 z.symm)).trans (lUpd_eq ..)) rfl rfl rfl 3
    have em : lUpd (lUpd (lUpd (lUpd (lUpd M.1 M.2.1 (true, true, 6, jfil (rowC f cap) (cap + sp))) a (true, false, 4, [.ref M.2.1, .int (Int32.ofNat hd), .int (Int32.ofNat hd)])) M.2.1 (true, true, 6, rowC (fun j => if j < hd + sp then (if j < cap then f j else .null) else f (j - sp)) (cap + sp))) a (true, false, 4, [.ref M.2.1, .int (Int32.ofNat (hd + sp)), .int (Int32.ofNat hd)])) M.2.1 (true, true, 6, rowC (fun j => if hd ≤ j ∧ j < hd + sp then .null else if j < hd + sp then (if j < cap then f j else .null) else f (j - sp)) (cap + sp)) = lUpd (lUpd M.1 M.2.1 (true, true, 6, rowC (fun j => if j < hd then f j else if j < hd + sp then .null else f (j - sp)) (cap + sp))) a (true, false, 4, [.ref M.2.1, .int (Int32.ofNat (hd + sp)), .int (Int32.ofNat hd)]) := by
      have er : rowC (fun j => if hd ≤ j ∧ j < hd + sp then Value.null else if j < hd + sp then (if j < cap then f j else .null) else f (j - sp)) (cap + sp) = rowC (fun j => if j < hd then f j else if j < hd + sp then .null else f (j - sp)) (cap + sp) := rowC_congr (fun j hj => by
        by_cases z : j < hd
        · rw [if_neg (by omega), if_pos (by omega), if_pos (by omega), if_pos z]
        · by_cases w : j < hd + sp
          · rw [if_pos (by omega), if_neg z, if_pos w]
          · rw [if_neg (by omega), if_neg w, if_neg z, if_neg w])
      rw [er]
      funext q
      simp only [lUpd_at]
      by_cases h1 : q = M.2.1
      · have h2 : ¬ q = a := fun z => ha0 (by rw [← z, h1])
        rw [if_pos h1, if_neg h2, if_pos h1]
      · rw [if_neg h1]
        by_cases h2 : q = a
        · rw [if_pos h2, if_pos h2]
        · rw [if_neg h2, if_neg h1, if_neg h2, if_neg h1, if_neg h2, if_neg h1]
    rw [← em]
    exact lp
  refine lGo.sp (D := 3) pg_32 (Nat.le_of_ble_eq_true rfl) ?_
  repeat (refine lGo.step rfl (fun _ => rfl) ?_; try dsimp only)
  refine lGo.get rfl g1 rfl rfl ?_
  refine lGo.len rfl g8 ?_
  rw [show (rowC f cap).length.toInt32 = Int32.ofNat cap from by rw [rowC_len]]
  repeat (refine lGo.step rfl (fun _ => rfl) ?_; try dsimp only)
  by_cases z : cap < 64
  · refine lGo.brF (decide_eq_false (Int32.not_le.mpr ((i_lt (j := cap) (k := 64) (by omega) (by omega)).mpr z))) ?_
    refine lGo.step rfl (fun _ => rfl) ?_
    refine lGo.step rfl (fun _ => rfl) ?_
    refine lGo.step rfl (fun _ => rfl) ?_
    refine lGo.step rfl (fun _ => rfl) ?_
    have e2 : Int32.ofNat cap + 2 = Int32.ofNat sp := by rw [hsp, if_pos z]; exact i_add cap 2
    have walk := walk
    rw [← e2] at walk
    exact walk
  · refine lGo.brT (decide_eq_true (Int32.not_lt.mp (fun w => z ((i_lt (j := cap) (k := 64) (by omega) (by omega)).mp w)))) ?_
    refine lGo.step rfl (fun _ => rfl) ?_
    refine lGo.step rfl (fun _ => rfl) ?_
    refine lGo.step rfl (fun _ => rfl) ?_
    have e2 : Int32.ofNat cap >>> (1 &&& 31 : Int32) = Int32.ofNat sp := by
      rw [hsp, if_neg z, show (1 &&& 31 : Int32) = Int32.ofNat 1 from by decide, i_shr (by omega) (by decide)]
    have walk := walk
    rw [← e2] at walk
    exact walk
end
