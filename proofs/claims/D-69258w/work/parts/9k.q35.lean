/-! permits: the next word, the reference -/
section
variable {t T S : TS} {x : List Nat}
/-- the text, in the reference -/
def TxR (x : List Nat) (T : TS) : Prop := T.1 201 = Int32.ofNat x.length ∧ x.length ≤ 800 ∧ (∀ j (h : j < x.length), T.2.2.1 76 j = Int32.ofNat x[j]) ∧ ∀ c ∈ x, 32 ≤ c ∧ c ≤ 126
theorem gdI {y : List Nat} {j d : Nat} (h : j < y.length) : y.getD j d = y[j] := by
  rw [List.getD_eq_getElem?_getD, List.getElem?_eq_getElem h]; rfl
theorem gdO {y : List Nat} {j d : Nat} (h : y.length ≤ j) : y.getD j d = d := by
  rw [List.getD_eq_getElem?_getD, List.getElem?_eq_none h]; rfl
theorem tw_gd {B : Nat → Bool} (hB : B 32 = false) (a : Nat) : (∀ j, j < ((x.drop a).takeWhile B).length → B (x.getD (a + j) 32) = true ∧ ((x.drop a).takeWhile B)[j]? = some (x.getD (a + j) 32) ∧ a + j < x.length) ∧ B (x.getD (a + ((x.drop a).takeWhile B).length) 32) = false := by
  refine ⟨fun j hj => ?_, ?_⟩
  · obtain ⟨h1, h2, h3⟩ := tw_in hj
    rw [List.getElem_drop] at h2 h3
    rw [List.length_drop] at h1
    rw [gdI (show a + j < x.length by omega)]
    exact ⟨h2, h3, by omega⟩
  · by_cases h : ((x.drop a).takeWhile B).length < (x.drop a).length
    · have e := tw_out h
      rw [List.getElem_drop] at e
      rw [List.length_drop] at h
      rw [gdI (show a + ((x.drop a).takeWhile B).length < x.length by omega)]
      exact e
    · rw [List.length_drop] at h
      rw [gdO (show x.length ≤ a + ((x.drop a).takeWhile B).length by omega)]
      exact hB
theorem gd_126 (X : TxR x T) (i : Nat) : x.getD i 32 ≤ 126 := by
  by_cases h : i < x.length
  · rw [gdI h]; exact (X.2.2.2 _ (List.getElem_mem h)).2
  · rw [gdO (by omega)]; decide
theorem t_736g (X : TxR x T) {i : Nat} (hi : i < 2000) : t_736 (Int32.ofNat i) T = some (Int32.ofNat (x.getD i 32)) := by
  obtain ⟨x1, x2, x3, _⟩ := X
  unfold t_736
  rw [x1]
  by_cases h : i < x.length
  · rw [if_pos ((i_lt (by omega) (by omega)).mpr h), rdI_n (by omega) (by decide), Option.bind_some, x3 i h, gdI h]
  · rw [if_neg (fun w => h ((i_lt (by omega) (by omega)).mp w)), gdO (by omega)]; rfl
theorem t_735g {c : Nat} (hc : c < 1000) : t_735 (Int32.ofNat c) T = some (if dgB c = true then 1 else 0) := by
  unfold t_735 dgB
  have a : (47 : Int32) < Int32.ofNat c ↔ 47 < c := i_lt (j := 47) (by decide) (by omega)
  have b : Int32.ofNat c < (58 : Int32) ↔ c < 58 := i_lt (k := 58) (by omega) (by decide)
  by_cases h1 : 47 < c
  · by_cases h2 : c < 58
    · rw [if_pos (a.mpr h1), if_pos (b.mpr h2), if_pos (decide_eq_true (by omega))]
    · rw [if_pos (a.mpr h1), if_neg (fun w => h2 (b.mp w)), if_neg (fun w => by have := of_decide_eq_true w; omega)]
  · rw [if_neg (fun w => h1 (a.mp w)), if_neg (fun w => by have := of_decide_eq_true w; omega)]
theorem t_737g {c : Nat} (hc : c < 1000) : t_737 (Int32.ofNat c) T = some (if ltB c = true then 1 else 0) := by
  unfold t_737 ltB
  have a : (96 : Int32) < Int32.ofNat c ↔ 96 < c := i_lt (j := 96) (by decide) (by omega)
  have b : Int32.ofNat c < (123 : Int32) ↔ c < 123 := i_lt (k := 123) (by omega) (by decide)
  by_cases h1 : 96 < c
  · by_cases h2 : c < 123
    · rw [if_pos (a.mpr h1), if_pos (b.mpr h2), if_pos (decide_eq_true (by omega))]
    · rw [if_pos (a.mpr h1), if_neg (fun w => h2 (b.mp w)), if_neg (fun w => by have := of_decide_eq_true w; omega)]
  · rw [if_neg (fun w => h1 (a.mp w)), if_neg (fun w => by have := of_decide_eq_true w; omega)]
theorem t_738g : ∀ c : Fin 127, t_738 (Int32.ofNat c.val) T = some (if sgns.contains c.val = true then 1 else 0) := by
  have key : ∀ c : Fin 127, (if Int32.ofNat c.val = 43 then some (1 : Int32) else (if Int32.ofNat c.val = 45 then some 1 else (if Int32.ofNat c.val = 42 then some 1 else (if Int32.ofNat c.val = 47 then some 1 else (if Int32.ofNat c.val = 40 then some 1 else (if Int32.ofNat c.val = 41 then some 1 else (if Int32.ofNat c.val = 60 then some 1 else (if Int32.ofNat c.val = 61 then some 1 else (if Int32.ofNat c.val = 62 then some 1 else (if Int32.ofNat c.val = 58 then some 1 else (if Int32.ofNat c.val = 59 then some 1 else (if Int32.ofNat c.val = 33 then some 1 else (if Int32.ofNat c.val = 64 then some 1 else some 0))))))))))))) = some (if sgns.contains c.val = true then 1 else 0) := by decide +kernel
  exact key
/-- amid a word: where it goes on, its value -/
def StW (S T : TS) : Prop := (∀ c, c ≠ 227 → T.1 c = S.1 c) ∧ (∀ c, c ≠ 229 → T.2.1 c = S.2.1 c) ∧ T.2.2 = S.2.2
theorem StW_up (h : StW S T) (v : Int64) (n : Int32) : StW S (ptI (ptL T 229 v) 227 n) := ⟨fun c hc => (if_neg hc).trans (h.1 c hc), fun c hc => (if_neg hc).trans (h.2.1 c hc), h.2.2⟩
theorem TxR_w (h : StW S T) (X : TxR x S) : TxR x T := by
  obtain ⟨x1, x2, x3, x4⟩ := X
  exact ⟨(h.1 201 (by decide)).trans x1, x2, fun j hj => by rw [h.2.2]; exact x3 j hj, x4⟩
theorem t_lets (X : TxR x S) {a : Nat} (ha : a ≤ x.length) (h227 : S.1 227 = Int32.ofNat a) (h229 : S.2.1 229 = 0) : ∃ T, wh (S := TS) (X := TS) (fun p109 => Option.bind (t_736 (p109.1 227) p109) (fun x16 => Option.bind (t_737 x16 p109) (fun x17 => (if x17 = 0 then some (.inr p109) else Option.bind (t_736 (p109.1 227) p109) (fun x18 => Option.bind (some (ptL p109 229 (((p109.2.1 229) <<< ((8 : Int32).toInt64 &&& 63)) ||| x18.toInt64))) (fun s19 => Option.bind (some (ptI s19 227 ((s19.1 227) + 1))) (fun s20 => some (.inl s20)))))))) S = some T ∧ StW S T ∧ T.1 227 = Int32.ofNat (a + ((x.drop a).takeWhile ltB).length) ∧ T.2.1 229 = nmL ((x.drop a).takeWhile ltB) := by
  obtain ⟨g1, g2⟩ := tw_gd (x := x) (B := ltB) (by decide) a
  obtain ⟨w, hw⟩ : ∃ w, w = (x.drop a).takeWhile ltB := ⟨_, rfl⟩
  rw [← hw] at g1 g2 ⊢
  have wl : a + w.length ≤ x.length := by
    have := tw_le (B := ltB) (x.drop a)
    rw [← hw, List.length_drop] at this
    omega
  have xl := X.2.1
  refine wh_cnt w.length (fun j T => StW S T ∧ T.1 227 = Int32.ofNat (a + j) ∧ T.2.1 229 = nmL (w.take j)) ?_ ?_ ⟨⟨fun _ _ => rfl, fun _ _ => rfl, rfl⟩, h227, h229⟩
  · rintro j T hj ⟨f, e1, e2⟩
    right
    obtain ⟨b1, b2, b3⟩ := g1 j hj
    have c126 := gd_126 X (a + j)
    rw [e1, t_736g (TxR_w f X) (by omega), Option.bind_some, t_737g (by omega), Option.bind_some, if_neg (by rw [if_pos b1]; decide), Option.bind_some, Option.bind_some, Option.bind_some]
    refine ⟨_, rfl, StW_up f _ _, ?_, ?_⟩
    · show T.1 227 + 1 = _
      rw [e1, i_suc]; rfl
    · show ((T.2.1 229) <<< ((8 : Int32).toInt64 &&& 63)) ||| (Int32.ofNat (x.getD (a + j) 32)).toInt64 = _
      rw [nmL_s hj, e2, show w.getD j 0 = x.getD (a + j) 32 by rw [List.getD_eq_getElem?_getD, b2]; rfl]; rfl
  · rintro T ⟨f, e1, e2⟩
    have c126 := gd_126 X (a + w.length)
    rw [e1, t_736g (TxR_w f X) (by omega), Option.bind_some, t_737g (by omega), Option.bind_some, if_pos (by rw [if_neg (by rw [g2]; decide)])]
    exact ⟨T, rfl, f, e1, by rw [e2, List.take_length]⟩
theorem t_digs (X : TxR x S) {a : Nat} (ha : a ≤ x.length) (h226 : S.1 226 = Int32.ofNat a) (h227 : S.1 227 = Int32.ofNat a) (h229 : S.2.1 229 = 0) : ∃ T, wh (S := TS) (X := TS) (fun p53 => Option.bind (t_736 (p53.1 227) p53) (fun x23 => Option.bind (t_735 x23 p53) (fun x24 => (if x24 = 0 then some (.inr p53) else Option.bind ((if ((p53.1 227) - (p53.1 226)) < 9 then Option.bind (t_736 (p53.1 227) p53) (fun x25 => some (((10 * (p53.2.1 229)) + x25.toInt64) - 48)) else some (p53.2.1 229))) (fun v82 => Option.bind (some (ptL p53 229 v82)) (fun s26 => Option.bind (some (ptI s26 227 ((s26.1 227) + 1))) (fun s27 => some (.inl s27)))))))) S = some T ∧ StW S T ∧ T.1 227 = Int32.ofNat (a + ((x.drop a).takeWhile dgB).length) ∧ (((x.drop a).takeWhile dgB).length ≤ 9 → T.2.1 229 = ((x.drop a).takeWhile dgB).foldl dgS 0) := by
  obtain ⟨g1, g2⟩ := tw_gd (x := x) (B := dgB) (by decide) a
  obtain ⟨w, hw⟩ : ∃ w, w = (x.drop a).takeWhile dgB := ⟨_, rfl⟩
  rw [← hw] at g1 g2 ⊢
  have wl : a + w.length ≤ x.length := by
    have := tw_le (B := dgB) (x.drop a)
    rw [← hw, List.length_drop] at this
    omega
  have xl := X.2.1
  refine wh_cnt w.length (fun j T => StW S T ∧ T.1 227 = Int32.ofNat (a + j) ∧ (j ≤ 9 → T.2.1 229 = (w.take j).foldl dgS 0)) ?_ ?_ ⟨⟨fun _ _ => rfl, fun _ _ => rfl, rfl⟩, h227, fun _ => h229⟩
  · rintro j T hj ⟨f, e1, e2⟩
    right
    obtain ⟨b1, b2, b3⟩ := g1 j hj
    have c126 := gd_126 X (a + j)
    have e6 : T.1 226 = Int32.ofNat a := (f.1 226 (by decide)).trans h226
    rw [e1, t_736g (TxR_w f X) (by omega), Option.bind_some, t_735g (by omega), Option.bind_some, if_neg (by rw [if_pos b1]; decide), e6, i_sub (by omega), show a + j - a = j by omega, Option.bind_some]
    by_cases j9 : j < 9
    · rw [if_pos (show Int32.ofNat j < 9 from (i_lt (k := 9) (by omega) (by decide)).mpr j9), Option.bind_some, Option.bind_some, Option.bind_some]
      refine ⟨_, rfl, StW_up f _ _, ?_, fun _ => ?_⟩
      · show T.1 227 + 1 = _
        rw [e1, i_suc]; rfl
      · show ((10 * (T.2.1 229)) + (Int32.ofNat (x.getD (a + j) 32)).toInt64) - 48 = _
        rw [e2 (by omega), List.take_add_one, b2, Option.toList_some, List.foldl_append]; rfl
    · rw [if_neg (show ¬ Int32.ofNat j < 9 from fun z => j9 ((i_lt (k := 9) (by omega) (by decide)).mp z)), Option.bind_some, Option.bind_some, Option.bind_some]
      refine ⟨_, rfl, StW_up f _ _, ?_, fun h => by omega⟩
      show T.1 227 + 1 = _
      rw [e1, i_suc]; rfl
  · rintro T ⟨f, e1, e2⟩
    have c126 := gd_126 X (a + w.length)
    rw [e1, t_736g (TxR_w f X) (by omega), Option.bind_some, t_735g (by omega), Option.bind_some, if_pos (by rw [if_neg (by rw [g2]; decide)])]
    exact ⟨T, rfl, f, e1, fun h => by rw [e2 h, List.take_length]⟩
theorem t_skip (X : TxR x S) {p : Nat} (hp : p ≤ x.length) (h227 : S.1 227 = Int32.ofNat p) : ∃ T, wh (S := TS) (X := TS) (fun p0 => (if (p0.1 227) < (p0.1 201) then Option.bind (rdI p0 76 800 (p0.1 227)) (fun x1 => (if x1 = 32 then Option.bind (some (ptI p0 227 ((p0.1 227) + 1))) (fun s2 => some (.inl s2)) else some (.inr p0))) else some (.inr p0))) S = some T ∧ StW S T ∧ T.2.1 = S.2.1 ∧ T.1 227 = Int32.ofNat (skp x p) := by
  have xl := X.2.1
  have sl := skp_le hp
  refine wh_cnt (skp x p - p) (fun j T => StW S T ∧ T.2.1 = S.2.1 ∧ T.1 227 = Int32.ofNat (p + j)) ?_ ?_ ⟨⟨fun _ _ => rfl, fun _ _ => rfl, rfl⟩, rfl, h227⟩
  · rintro j T hj ⟨f, e2, e1⟩
    right
    obtain ⟨h1, h2⟩ := skp_in (x := x) (p := p) (j := p + j) (by omega) (by omega)
    obtain ⟨x1, x2, x3, x4⟩ := TxR_w f X
    rw [e1, x1, if_pos ((i_lt (by omega) (by omega)).mpr h1), rdI_n (by omega) (by decide), Option.bind_some, x3 _ h1, h2, if_pos (show Int32.ofNat 32 = 32 from rfl), Option.bind_some]
    refine ⟨_, rfl, ⟨fun c hc => (if_neg hc).trans (f.1 c hc), f.2.1, f.2.2⟩, e2, ?_⟩
    show Int32.ofNat (p + j) + 1 = _
    rw [i_suc]; rfl
  · rintro T ⟨f, e2, e1⟩
    obtain ⟨x1, x2, x3, x4⟩ := TxR_w f X
    rw [show p + (skp x p - p) = skp x p by omega] at e1
    rw [e1, x1]
    by_cases h : skp x p < x.length
    · have ne := skp_out hp h
      have := x4 _ (List.getElem_mem h)
      rw [if_pos ((i_lt (by omega) (by omega)).mpr h), rdI_n (by omega) (by decide), Option.bind_some, x3 _ h, if_neg (fun w => ne ((i_inj (j := x[skp x p]) (k := 32) (by omega) (by decide)).mp w))]
      exact ⟨T, rfl, f, e2, e1⟩
    · rw [if_neg (fun w => h ((i_lt (by omega) (by omega)).mp w))]
      exact ⟨T, rfl, f, e2, e1⟩
end
