/-! the lifts: rows grow -/
theorem gs_push {s0 S : CS} {T TA B BA : Nat} {f : Nat → Nat} {p : List Nat} {c c' i : Nat} {b : Nat × List Nat} {g : Nat → Int32} (w : GS s0 S T TA B BA f p c b) (hg : S.1 TA = some (true, true, 0, rowC (fun j => .int (g j)) 6)) (hTB : T ≠ B) (hAA : TA ≠ BA) (hp : p.length < 6) : GS s0 (cup (cup (cup S T (true, false, 98, [.ref TA, .int (Int32.ofNat (p.length + 1)), .long (Int64.ofNat c)])) TA (true, true, 0, rowC (fun j => if j = p.length then .int (Int32.ofNat (f i)) else .int (g j)) 6)) T (true, false, 98, [.ref TA, .int (Int32.ofNat (p.length + 1)), .long (Int64.ofNat c')])) T TA B BA f (p ++ [i]) c' b := by
  obtain ⟨w1, ⟨g', w2, w2'⟩, w3, ⟨g2, w4, w4'⟩, w5, w6⟩ := w
  have n1 : T ≠ TA := apart w1 w2 (by show (98 : Nat) ≠ 0; omega)
  have n2 : T ≠ BA := apart w1 w4 (by show (98 : Nat) ≠ 0; omega)
  have n3 : B ≠ TA := apart w3 w2 (by show (98 : Nat) ≠ 0; omega)
  have eg : ∀ j, j < 6 → g j = g' j := by
    intro j hj
    have h1 := congrArg (fun l : List Value => l[j]?) (Prod.ext_iff.mp (Prod.ext_iff.mp (Prod.ext_iff.mp (Option.some.inj (hg.symm.trans w2))).2).2).2
    dsimp only at h1
    rw [rowC_get, rowC_get, if_pos hj, if_pos hj] at h1
    exact Value.int.inj (Option.some.inj h1)
  refine ⟨by rw [cup_eq, List.length_append]; rfl, ⟨fun j => if j = p.length then Int32.ofNat (f i) else g j, ?_, fun j hj => ?_⟩, ?_, ⟨g2, ?_, w4'⟩, fun q h1 h2 h3 h4 => ?_, w6⟩
  · rw [cup_ne n1.symm, cup_eq]
    have : rowC (fun j => if j = p.length then Value.int (Int32.ofNat (f i)) else .int (g j)) 6 = rowC (fun j => .int (if j = p.length then Int32.ofNat (f i) else g j)) 6 := rowC_congr (fun j _ => by split <;> rfl)
    rw [this]
  · simp only [List.length_append, List.length_cons, List.length_nil] at hj
    dsimp only
    by_cases y : j = p.length
    · rw [if_pos y, y]; simp
    · rw [if_neg y, getD_app (by omega), eg j (by omega), w2' j (by omega)]
  · rw [cup_ne hTB.symm, cup_ne n3, cup_ne hTB.symm]; exact w3
  · rw [cup_ne n2.symm, cup_ne hAA.symm, cup_ne n2.symm]; exact w4
  · rw [cup_ne h1, cup_ne h2, cup_ne h1]; exact w5 q h1 h2 h3 h4
theorem gs_pop {s0 S : CS} {T TA B BA : Nat} {f : Nat → Nat} {p : List Nat} {c c' i : Nat} {b : Nat × List Nat} {x : lCell} (w : GS s0 S T TA B BA f (p ++ [i]) c b) (hTB : T ≠ B) : GS s0 (cup (cup S T x) T (true, false, 98, [.ref TA, .int (Int32.ofNat p.length), .long (Int64.ofNat c')])) T TA B BA f p c' b := by
  obtain ⟨w1, ⟨g', w2, w2'⟩, w3, ⟨g2, w4, w4'⟩, w5, w6⟩ := w
  have n1 : T ≠ TA := apart w1 w2 (by show (98 : Nat) ≠ 0; omega)
  have n2 : T ≠ BA := apart w1 w4 (by show (98 : Nat) ≠ 0; omega)
  refine ⟨cup_eq .., ⟨g', ?_, fun j hj => ?_⟩, ?_, ⟨g2, ?_, w4'⟩, fun q h1 h2 h3 h4 => ?_, w6⟩
  · rw [cup_ne n1.symm, cup_ne n1.symm]; exact w2
  · rw [w2' j (by rw [List.length_append]; omega), getD_app hj]
  · rw [cup_ne hTB.symm, cup_ne hTB.symm]; exact w3
  · rw [cup_ne n2.symm, cup_ne n2.symm]; exact w4
  · rw [cup_ne h1, cup_ne h1]; exact w5 q h1 h2 h3 h4
/-- what a level of growing comes to -/
noncomputable def grR (t : TS) (f : Nat → Nat) (k : Nat) (pre : List Nat) (pc sec a : Nat) (L : List Nat) (b : Nat × List Nat) (K : List Nat) : Nat × List Nat :=
  K.foldl (fun b x => if (pre.length = 0 ∧ L.any (begB t f k) = true) ∧ begB t f k x = false then b else gro (cwN t k f) (pre ++ [x]) (pc + (cwN t k f).1 sec a x) ((cwN t k f).2.1 sec a x) ((cwN t k f).2.2 x) (L.erase x) b) b
theorem gro_le (w : Cw) (pre : List Nat) (pc sec a : Nat) (L : List Nat) (b : Nat × List Nat) : (gro w pre pc sec a L b).1 ≤ b.1 := by
  unfold gro
  generalize lexP L.length L = K
  induction K generalizing b with
  | nil => exact Nat.le_refl _
  | cons p K ih =>
    rw [List.foldl_cons]
    refine Nat.le_trans (ih _) ?_
    split
    · rename_i h; exact Nat.le_of_lt h
    · exact Nat.le_refl _
/-- the premises of a growing -/
def GO (n : Nat) (pre : List Nat) (σ pc sec a : Nat) (b : Nat × List Nat) : Prop := σ < 2 ^ n ∧ pre.length + (plL n σ).length ≤ 6 ∧ sec + 600 * (plL n σ).length ≤ 103600 ∧ a < 60 ∧ pc ≤ pre.length * 21100000 ∧ b.1 ≤ 1152921504606846976 ∧ b.2.length ≤ 6
theorem c_gstep {s0 : CS} {t : TS} {nc n k d : Nat} {f C D : Nat → Nat} {bk : Option Nat} {TR RL T TA B BA : Nat} {p0 : List Nat} {c0 : Nat} {b0 : Nat × List Nat} (v : Lv t nc n f) (hk : k < nc) (e : GE s0 t n f k C D bk TR RL T) (z : GS s0 s0 T TA B BA f p0 c0 b0) (hTB : T ≠ B) (hAA : TA ≠ BA) (hB : ∀ i, i < n → (begB t f k i = true ↔ bk = some (f i))) (hD : ∀ c, bk = some c → ∀ i, i < n → D (f i) = D c → f i = c) (hu : ∀ x y, x < n → y < n → begB t f k x = true → begB t f k y = true → x = y)
    (IH : ∀ (σ : Nat) (pre : List Nat) (pc sec a : Nat) (b : Nat × List Nat) (s : CS), pre.length ≠ 0 → (plL n σ).length < d → GO n pre σ pc sec a b → GS s0 s T TA B BA f pre pc b → Tr (c_1079 d TR (Int32.ofNat σ) (Int32.ofNat sec) (Int32.ofNat a) B s) (fun s' => GS s0 s' T TA B BA f pre pc (gro (cwN t k f) pre pc sec a (plL n σ) b)))
    {σ : Nat} {pre : List Nat} {pc sec a : Nat} {b : Nat × List Nat} {s : CS} (hd : (plL n σ).length < d + 1) (o : GO n pre σ pc sec a b) (w : GS s0 s T TA B BA f pre pc b) : Tr (c_1079 (d + 1) TR (Int32.ofNat σ) (Int32.ofNat sec) (Int32.ofNat a) B s) (fun s' => GS s0 s' T TA B BA f pre pc (if pc < b.1 then (if plL n σ = [] then (pc, pre) else grR t f k pre pc sec a (plL n σ) b (plL n σ)) else b)) := by
  have hn := v.2.1
  have hn6 := v.2.2.1
  have h64 := pow_n6 hn6
  obtain ⟨o1, o2, o3, o4, o5, o6, o7⟩ := o
  have g := ge_st e z w
  obtain ⟨e1, ⟨hm, lst, e2⟩, ⟨mc, e3⟩, e4, e5⟩ := g
  have w1 := w.1
  have w3 := w.2.2.1
  have hpc : pc ≤ 6 * 21100000 := Nat.le_trans o5 (Nat.mul_le_mul_right _ (by omega))
  unfold c_1079
  rw [xN_o e1 rfl rfl, Option.bind_some, xL_o w1 rfl rfl, Option.bind_some, xL_o w3 rfl rfl, Option.bind_some]
  by_cases c1 : pc < b.1
  rotate_left
  · rw [if_neg (fun y => c1 ((l_cmp (by omega) (by omega)).mp y)), if_neg c1]
    exact ⟨s, rfl, w⟩
  rw [if_pos ((l_cmp (by omega) (by omega)).mpr c1), if_pos c1]
  by_cases c2 : σ = 0
  · rw [if_pos (by rw [c2]; rfl), if_pos ((plL_0 hn6 o1).mpr c2), Option.bind_some, if_pos (isK_t w3 rfl)]
    exact Tr.bd (c_take w hTB hAA (by omega)) (fun s' h => ⟨s', rfl, h⟩)
  rw [if_neg (by rw [i_eqL (by omega) (by omega)]; exact c2), if_neg (fun y => c2 ((plL_0 hn6 o1).mp y)), Option.bind_some, xI_o w1 rfl rfl, Option.bind_some]
  have hxr : xR s [(95, 6)] (C k) = some (bk.map D) := by
    unfold xR
    rw [xV_o (v := vR (bk.map D)) e4 rfl rfl, Option.bind_some]
    cases bk <;> rfl
  -- the first
  refine Tr.bd (P := fun x => x = if pre.length = 0 ∧ (plL n σ).any (begB t f k) = true then 1 else 0) ?_ ?_
  · by_cases c3 : pre.length = 0
    · rw [if_pos (by rw [c3]; rfl), xN_o e1 rfl rfl, Option.bind_some, hxr, Option.bind_some]
      cases hbk : bk with
      | none =>
        rw [Option.map_none, if_pos rfl]
        refine ⟨0, rfl, ?_⟩
        rw [if_neg]
        rintro ⟨_, y⟩
        obtain ⟨x, hx, hb⟩ := List.any_eq_true.mp y
        have := (hB x (plL_mem.mp hx).1).mp hb
        rw [hbk] at this; cases this
      | some c =>
        have hxn : xN s [(95, 6)] (C k) = some (D c) := by
          unfold xN
          rw [xV_o (v := vR (bk.map D)) e4 rfl rfl, Option.bind_some, hbk]; rfl
        rw [Option.map_some, if_neg (by simp), Option.bind_some, hxn, Option.bind_some, if_pos (isK_t e1 rfl), c_has v ⟨e1, ⟨hm, lst, e2⟩, ⟨mc, e3⟩, e4, e5⟩ (by omega) hbk hB hD hu, Option.bind_some]
        by_cases y : (plL n σ).any (begB t f k) = true
        · rw [if_pos y, if_neg (by decide), if_pos ⟨c3, y⟩]; exact ⟨_, rfl, rfl⟩
        · rw [if_neg y, if_pos rfl, if_neg (fun q => y q.2)]; exact ⟨_, rfl, rfl⟩
    · rw [if_neg (by rw [i_eqL (by omega) (by omega)]; exact c3), if_neg (fun q => c3 q.1)]
      exact ⟨_, rfl, rfl⟩
  rintro _ rfl
  -- the loop
  refine Tr.bd (P := fun s' => GS s0 s' T TA B BA f pre pc (grR t f k pre pc sec a (plL n σ) b (plL n σ))) (wh_cnt n (fun i (q : CS × Int32) => q.2 = Int32.ofNat i ∧ GS s0 q.1 T TA B BA f pre pc (grR t f k pre pc sec a (plL n σ) b (plL i σ)) ∧ (grR t f k pre pc sec a (plL n σ) b (plL i σ)).1 ≤ 1152921504606846976 ∧ (grR t f k pre pc sec a (plL n σ) b (plL i σ)).2.length ≤ 6) ?_ ?_ ⟨rfl, w, o6, o7⟩) (fun s' h => ⟨s', rfl, h⟩)
  · rintro i ⟨S, q⟩ hi ⟨hq, hS, hb1, hb2⟩
    dsimp only at hq hS ⊢
    subst hq
    have g := ge_st e z hS
    obtain ⟨e1, ⟨hm, lst, e2⟩, ⟨mc, e3⟩, e4, e5⟩ := g
    have hxr : xR S [(95, 6)] (C k) = some (bk.map D) := by
      unfold xR
      rw [xV_o (v := vR (bk.map D)) e4 rfl rfl, Option.bind_some]
      cases bk <;> rfl
    have e5i := e5 i hi
    rw [xN_o e1 rfl rfl, Option.bind_some, xN_o e2 rfl rfl, Option.bind_some, if_pos (isK_t e3 rfl), alSize_r e3, Option.bind_some, if_pos ((i_lt (by omega) (by omega)).mpr hi), Option.bind_some, xN_o e2 rfl rfl, Option.bind_some, if_pos (isK_t e3 rfl), alGet_r e3 hi (by omega), Option.bind_some, toN_o e5i rfl, Option.bind_some, i_suc]
    rw [plL_suc]
    by_cases hbit : bt σ i = 1
    rotate_left
    · rw [if_neg (fun y => hbit ((i_bt1 (by omega) (by omega)).mp y)), Option.bind_some, if_neg hbit, List.append_nil]
      exact Or.inr ⟨_, rfl, rfl, hS, hb1, hb2⟩
    rw [if_pos ((i_bt1 (by omega) (by omega)).mpr hbit), if_pos hbit]
    have hstep : grR t f k pre pc sec a (plL n σ) b (plL i σ ++ [i]) = if (pre.length = 0 ∧ (plL n σ).any (begB t f k) = true) ∧ begB t f k i = false then grR t f k pre pc sec a (plL n σ) b (plL i σ) else gro (cwN t k f) (pre ++ [i]) (pc + (cwN t k f).1 sec a i) ((cwN t k f).2.1 sec a i) ((cwN t k f).2.2 i) ((plL n σ).erase i) (grR t f k pre pc sec a (plL n σ) b (plL i σ)) := by
      unfold grR
      rw [List.foldl_append]; rfl
    rw [hstep]
    generalize hbb : grR t f k pre pc sec a (plL n σ) b (plL i σ) = bb at hS hb1 hb2
    by_cases c4 : (pre.length = 0 ∧ (plL n σ).any (begB t f k) = true) ∧ begB t f k i = false
    · have hne : ¬ some (D (f i)) = bk.map D := by
        intro y
        cases hbk : bk with
        | none => rw [hbk] at y; cases y
        | some c =>
          rw [hbk] at y
          have h1 := hD c hbk i hi (Option.some.inj y)
          have h2 := (hB i hi).mpr (by rw [hbk, h1])
          rw [c4.2] at h2; cases h2
      rw [if_pos c4.1, if_neg (by decide), xN_o e1 rfl rfl, Option.bind_some, hxr, Option.bind_some, if_neg hne, if_pos (by unfold nst; simp only [e5i]; rfl), Option.bind_some, Sum.elim_inr, Option.bind_some, if_pos c4]
      exact Or.inr ⟨_, rfl, rfl, hS, hb1, hb2⟩
    · rw [if_neg c4]
      have hsel : (if (if pre.length = 0 ∧ (plL n σ).any (begB t f k) = true then (1 : Int32) else 0) = 0 then some (Sum.inl (β := CS) ()) else Option.bind (xN S [(97, 0)] TR) (fun a18 => Option.bind (xR S [(95, 6)] a18) (fun r19 => (if some (D (f i)) = r19 then some (.inl ()) else (if nst S (.ref (D (f i))) = true then some (.inr S) else none))))) = some (.inl ()) := by
        by_cases y : pre.length = 0 ∧ (plL n σ).any (begB t f k) = true
        · rw [if_pos y, if_neg (by decide), xN_o e1 rfl rfl, Option.bind_some, hxr, Option.bind_some, if_pos]
          have : begB t f k i = true := by
            cases hh : begB t f k i with
            | true => rfl
            | false => exact absurd ⟨y, hh⟩ c4
          rw [(hB i hi).mp this]; rfl
        · rw [if_neg y, if_pos rfl]
      rw [hsel, Option.bind_some, Sum.elim_inl]
      obtain ⟨gf, ⟨⟨g2, g3⟩, ⟨g4, g5⟩, g6⟩, _⟩ := v.2.2.2.2.2.1 i hi
      have hmem : i ∈ plL n σ := plL_mem.mpr ⟨hi, hbit⟩
      have hlen : ((plL n σ).erase i).length + 1 = (plL n σ).length := by
        rw [List.length_erase_of_mem hmem]
        have := List.length_pos_of_mem hmem
        omega
      have b1 := lv_pk (sec := sec) v hk hi o4
      have b2 := lv_dn (sec := sec) v hk hi o4
      have b3 := lv_wt v hi
      have b4 := lv_cw (sec := sec) v hk hi o4 (by omega)
      have wy1 : c_1074 (C k) (Int32.ofNat a) (t.2.2.1 163 (f i)) S = some (Int32.ofNat (wyN t k a (bN (t.2.2.1 163 (f i))))) := by
        conv => lhs; rw [g2]
        exact c_way v hk e4 o4 g3
      have wy2 : c_1074 (C k) (t.2.2.1 163 (f i)) (t.2.2.1 164 (f i)) S = some (Int32.ofNat (wyN t k (bN (t.2.2.1 163 (f i))) (bN (t.2.2.1 164 (f i))))) := by
        conv => lhs; rw [g2, g4]
        exact c_way v hk e4 g3 g5
      have q1 : Int32.ofNat sec + Int32.ofNat (wyN t k a (bN (t.2.2.1 163 (f i)))) = Int32.ofNat (pkN t k sec a (f i)) := i_add ..
      have q2 : Int32.ofNat (pkN t k sec a (f i)) + 3 + Int32.ofNat (wyN t k (bN (t.2.2.1 163 (f i))) (bN (t.2.2.1 164 (f i)))) = Int32.ofNat (dnN t k sec a (f i)) := by
        rw [i_addL, i_add]; rfl
      have q3 : Int64.ofNat (wtN t (f i)) * Int64.ofNat (pkN t k sec a (f i)) + Int64.ofNat (dnN t k sec a (f i)) = Int64.ofNat ((cwN t k f).1 sec a i) := by
        rw [l_mul, l_add]; rfl
      have s1 := hS.1
      obtain ⟨gg, s2, s2'⟩ := hS.2.1
      have n1 : T ≠ TA := apart s1 s2 (by show (98 : Nat) ≠ 0; omega)
      have nD : D (f i) ≠ T := apart e5i s1 (by show (96 : Nat) ≠ 98; omega)
      have nDA : D (f i) ≠ TA := apart e5i s2 (by show (96 : Nat) ≠ 0; omega)
      have nR : TR ≠ T := apart e1 s1 (by show (97 : Nat) ≠ 98; omega)
      have nRA : TR ≠ TA := apart e1 s2 (by show (97 : Nat) ≠ 0; omega)
      rw [xN_o e1 rfl rfl, Option.bind_some, xI_o (x := t.2.2.1 163 (f i)) e5i rfl rfl, Option.bind_some, if_pos (isK_t e4 rfl), wy1, Option.bind_some, Option.bind_some, Option.bind_some, xI_o (x := t.2.2.1 164 (f i)) e5i rfl rfl, Option.bind_some, if_pos (isK_t e4 rfl), wy2, Option.bind_some, Option.bind_some, xI_o (x := t.1 612) e2 rfl rfl, Option.bind_some, if_pos (isK_t e5i rfl), c_weight v hi e5i, Option.bind_some, xN_o (b := T) e1 rfl rfl, Option.bind_some, xR_o (b := TA) s1 rfl rfl, Option.bind_some, xR_o (b := T) e1 rfl rfl, Option.bind_some, Option.bind_some, xI_o (x := Int32.ofNat pre.length) s1 rfl rfl, Option.bind_some, i_suc, xP_c (fs' := [.ref TA, .int (Int32.ofNat (pre.length + 1)), .long (Int64.ofNat pc)]) s1 rfl (by simp) rfl, Option.bind_some, xI_o (x := Int32.ofNat (f i)) ((cup_ne nD).trans e5i) rfl rfl, Option.bind_some, Option.bind_some, aPut_r ((cup_ne n1.symm).trans s2) (by omega) (by omega), Option.bind_some]
      have t1 : (cup (cup S T (true, false, 98, [.ref TA, .int (Int32.ofNat (pre.length + 1)), .long (Int64.ofNat pc)])) TA (true, true, 0, rowC (fun j => if j = pre.length then .int (Int32.ofNat (f i)) else .int (gg j)) 6)).1 TR = some (true, false, 97, [.ref (C k), .ref RL, .ref T, .ref 162]) := by
        rw [cup_ne nRA, cup_ne nR]; exact e1
      have t2 : (cup (cup S T (true, false, 98, [.ref TA, .int (Int32.ofNat (pre.length + 1)), .long (Int64.ofNat pc)])) TA (true, true, 0, rowC (fun j => if j = pre.length then .int (Int32.ofNat (f i)) else .int (gg j)) 6)).1 T = some (true, false, 98, [.ref TA, .int (Int32.ofNat (pre.length + 1)), .long (Int64.ofNat pc)]) := by
        rw [cup_ne n1, cup_eq]
      rw [xR_o (b := T) t1 rfl rfl, Option.bind_some, Option.bind_some, xL_o (x := Int64.ofNat pc) t2 rfl rfl, Option.bind_some, q1, q2, l_32 (by omega), l_32 (by omega), l_32 (by omega), q3, l_add, xP_c (fs' := [.ref TA, .int (Int32.ofNat (pre.length + 1)), .long (Int64.ofNat (pc + (cwN t k f).1 sec a i))]) t2 rfl (by simp) rfl, Option.bind_some]
      have hP := gs_push (c' := pc + (cwN t k f).1 sec a i) (i := i) hS s2 hTB hAA (by omega)
      generalize hPs : cup (cup (cup S T (true, false, 98, [.ref TA, .int (Int32.ofNat (pre.length + 1)), .long (Int64.ofNat pc)])) TA (true, true, 0, rowC (fun j => if j = pre.length then .int (Int32.ofNat (f i)) else .int (gg j)) 6)) T (true, false, 98, [.ref TA, .int (Int32.ofNat (pre.length + 1)), .long (Int64.ofNat (pc + (cwN t k f).1 sec a i))]) = P at hP
      have gP := ge_st e z hP
      have hcl := clr6 ⟨σ, by omega⟩ ⟨i, by omega⟩ hbit
      dsimp only at hcl
      have hpl := plL_clr hn6 (show σ < 64 by omega) hi hbit
      rw [xI_o (x := t.2.2.1 164 (f i)) (gP.2.2.2.2 i hi) rfl rfl, Option.bind_some, if_pos (isK_t gP.1 rfl), hcl.1, i_addL, g4]
      have hgo : GO n (pre ++ [i]) (σ - 2 ^ i) (pc + (cwN t k f).1 sec a i) (dnN t k sec a (f i) + 3) (bN (t.2.2.1 164 (f i))) bb := by
        refine ⟨Nat.lt_of_le_of_lt (Nat.sub_le _ _) o1, ?_, ?_, g5, ?_, hb1, hb2⟩
        · rw [hpl, List.length_append]; simp only [List.length_cons, List.length_nil]; omega
        · rw [hpl]; omega
        · rw [List.length_append, List.length_cons, List.length_nil, Nat.add_mul]; omega
      obtain ⟨X, eX, hX⟩ := IH (σ - 2 ^ i) (pre ++ [i]) _ (dnN t k sec a (f i) + 3) (bN (t.2.2.1 164 (f i))) bb P (by rw [List.length_append]; simp) (by rw [hpl]; omega) hgo hP
      rw [hpl] at hX
      have gX := ge_st e z hX
      have x1 := hX.1
      have hxl : (pre ++ [i]).length = pre.length + 1 := by rw [List.length_append]; rfl
      rw [hxl] at x1
      have nR2 : TR ≠ T := nR
      rw [eX, Option.bind_some, xR_o (b := T) gX.1 rfl rfl, Option.bind_some, Option.bind_some, xL_o (x := Int64.ofNat (pc + (cwN t k f).1 sec a i)) x1 rfl rfl, Option.bind_some, l_sub (by omega), Nat.add_sub_cancel, xP_c (fs' := [.ref TA, .int (Int32.ofNat (pre.length + 1)), .long (Int64.ofNat pc)]) x1 rfl (by simp) rfl, Option.bind_some, xR_o (b := T) ((cup_ne nR).trans gX.1) rfl rfl, Option.bind_some, Option.bind_some, xI_o (x := Int32.ofNat (pre.length + 1)) (cup_eq ..) rfl rfl, Option.bind_some, i_subL (by omega), xP_c (fs' := [.ref TA, .int (Int32.ofNat pre.length), .long (Int64.ofNat pc)]) (cup_eq ..) rfl (by simp) rfl, Option.bind_some, Option.bind_some]
      have hfin := gs_pop (c' := pc) (x := (true, false, 98, [.ref TA, .int (Int32.ofNat (pre.length + 1)), .long (Int64.ofNat pc)])) hX hTB
      refine Or.inr ⟨_, rfl, rfl, hfin, Nat.le_trans (gro_le ..) hb1, ?_⟩
      rcases gro_len (cwN t k f) (pre ++ [i]) (pc + (cwN t k f).1 sec a i) ((cwN t k f).2.1 sec a i) ((cwN t k f).2.2 i) ((plL_pw n σ).sublist (List.erase_sublist (a := i))) bb with y | y
      · rw [y]; exact hb2
      · rw [y.1, hxl]; omega
  · rintro ⟨S, q⟩ ⟨hq, hS, hb1, hb2⟩
    dsimp only at hq hS ⊢
    subst hq
    have g := ge_st e z hS
    obtain ⟨e1, ⟨hm, lst, e2⟩, ⟨mc, e3⟩, e4, e5⟩ := g
    refine ⟨S, ?_, hS⟩
    rw [xN_o e1 rfl rfl, Option.bind_some, xN_o e2 rfl rfl, Option.bind_some, if_pos (isK_t e3 rfl), alSize_r e3, Option.bind_some, if_neg (by rw [i_lt (by omega) (by omega)]; omega)]
