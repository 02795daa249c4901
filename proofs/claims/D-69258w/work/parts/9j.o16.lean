/-! building: walking numbers, the exits in the component -/
section
variable {B S : CS} {t : TS} {nl nr ne : Nat} {W : Nat → Nat} {e q : Nat → Int32} {f : Nat → Nat} {Lq : List Nat} {m : Nat}
theorem sp_put {g : Nat → Int32} (h179 : 179 ≤ B.2.1) (r : SpR B S g Lq m) {c : Nat} (hc : c < 576) (v : Int32) : ∃ S', aPut S 0 175 (Int32.ofNat c) (.int v) = some S' ∧ SpR B S' (fun j => if j = c then v else g j) Lq m := by
  obtain ⟨r1, r2, r3, r4, r5, r6, r7, r8⟩ := r
  have l175 := wf_lt r1 r4
  refine ⟨_, aPut_r r4 hc (by omega), wf_cup r1 l175, r2, fun p h1 h2 => (cup_ne h2).trans (r3 p h1 h2), ?_, (cup_ne (by omega)).trans r5, r6, r7, r8⟩
  rw [cup_eq]
  refine congrArg (fun l => some (true, true, 0, l)) (rowC_congr (fun j _ => ?_))
  dsimp only
  by_cases w : j = c
  · rw [if_pos w, if_pos w]
  · rw [if_neg w, if_neg w]
theorem exC_s {d c : Nat} : exC t nl (d + 1) c ↔ exC t nl d c ∨ (¬ ouT t c ∧ ouT t (bsd c d) ∧ psB t nl d (cX c) (cY c)) := by
  unfold exC
  constructor
  · rintro ⟨h1, k, h2, h3, h4⟩
    by_cases z : k = d
    · rw [z] at h3 h4; exact Or.inr ⟨h1, h3, h4⟩
    · exact Or.inl ⟨h1, k, by omega, h3, h4⟩
  · rintro (⟨h1, k, h2, h3, h4⟩ | ⟨h1, h3, h4⟩)
    · exact ⟨h1, k, by omega, h3, h4⟩
    · exact ⟨h1, d, by omega, h3, h4⟩
noncomputable def exL (t : TS) (nl n : Nat) : List Nat := by classical exact ((List.range n).filter (fun c => decide (exA t nl c)))
noncomputable def exG (t : TS) (nl : Nat) (h0 : Nat → Int32) (n c : Nat) : Int32 := by classical exact (if c < n then (if exA t nl c then 1 else -1) else h0 c)
theorem exL_s {n : Nat} : by classical exact (exL t nl (n + 1) = exL t nl n ++ if exA t nl n then [n] else []) := by
  classical
  unfold exL
  rw [List.range_succ, List.filter_append]
  congr 1
  by_cases z : exA t nl n
  · rw [if_pos z]; exact List.filter_cons_of_pos (p := fun c => decide (exA t nl c)) (decide_eq_true z)
  · rw [if_neg z]; exact List.filter_cons_of_neg (p := fun c => decide (exA t nl c)) (fun w => z (of_decide_eq_true w))
theorem exL_len {n : Nat} : (exL t nl n).length ≤ n := by
  classical
  unfold exL
  exact Nat.le_trans (List.length_filter_le _ _) (by rw [List.length_range]; exact Nat.le_refl _)
theorem sp_edge (b : SpB B t nl nr ne W e q) {g : Nat → Int32} (r : SpR B S g Lq m) {c d : Nat} (hc : c < 576) (hd : d < 4) : aI S [0, 12] 172 (Int32.ofNat (4 * c + d)) = some (e (4 * c + d)) ∧ (e (4 * c + d) = -2 ↔ ¬ psB t nl d (cX c) (cY c)) := by
  obtain ⟨_, b1, _, _, _, b3, b4, ⟨b5, _⟩, b6, _⟩ := b
  have a2 : S.1 172 = _ := (r.2.2.1 172 (by omega) (by decide)).trans b3
  refine ⟨aI_r a2 (by decide) rfl (by omega) (by omega) rfl, ?_⟩
  have h := b6 (4 * c + d) (by omega)
  rw [show (4 * c + d) / 4 = c by omega, show (4 * c + d) % 4 = d by omega] at h
  exact edg_ps b4 b5 h
theorem sp_exit (b : SpB B t nl nr ne W e q) (h61 : aLen B 61 = some 4) {h0 : Nat → Int32} (r : SpR B S h0 [] 0) : Tr (wh (S := CS × Int32) (X := CS) (fun p6 => (if p6.2 < 576 then Option.bind (xN p6.1 [(50, 6)] 170) (fun a3 => Option.bind (aPut p6.1 0 a3 p6.2 (.int (-1))) (fun s4 => Option.bind (wh (S := CS × Int32) (X := CS) (fun p16 => Option.bind (aLen p16.1 61) (fun x5 => (if p16.2 < x5 then (if isK p16.1 [50] 170 = true then Option.bind (c_542 170 p6.2 p16.1) (fun x6 => (if x6 = 0 then Option.bind (xN p16.1 [(50, 6)] 170) (fun a7 => Option.bind (aI p16.1 [0, 12] a7 p6.2) (fun x8 => Option.bind ((if x8 = (-1) then Option.bind (xN p16.1 [(50, 3)] 170) (fun a9 => Option.bind (aI p16.1 [0, 12] a9 ((4 * p6.2) + p16.2)) (fun x10 => (if x10 = (-2) then some p16.1 else Option.bind (c_543 p6.2 p16.2 p16.1) (fun x11 => (if isK p16.1 [50] 170 = true then Option.bind (c_542 170 x11 p16.1) (fun x12 => (if x12 = 0 then some p16.1 else Option.bind (xN p16.1 [(50, 6)] 170) (fun a13 => Option.bind (aPut p16.1 0 a13 p6.2 (.int 1)) (fun s14 => Option.bind (some (chg s14 1 1)) (fun s15 => (if isK s15 [4] B.2.1 = true then Option.bind (adAdd s15 B.2.1 (.int p6.2)) (fun s16 => some s16) else none)))))) else none))))) else some p16.1)) (fun v55 => some (.inl (v55, p16.2 + 1))))) else some (.inr p16.1))) else none) else some (.inr p16.1)))) (s4, 0)) (fun v57 => some (.inl (v57, p6.2 + 1))))) else some (.inr p6.1))) (S, 0)) (fun U => SpR B U (exG t nl h0 576) (exL t nl 576) (exL t nl 576).length) := by
  classical
  obtain ⟨_, h179, _, ⟨z1, v1, b170⟩, _⟩ := id b
  have s170 : ∀ {V : CS} {g Lq m}, SpR B V g Lq m → V.1 170 = some (true, false, 50, .ref 101 :: z1 :: .ref 171 :: .ref 172 :: .ref 173 :: .ref 174 :: .ref 175 :: v1) := fun h => (h.2.2.1 170 (by omega) (by decide)).trans b170
  refine wh_cnt 576 (fun n (a : CS × Int32) => a.2 = Int32.ofNat n ∧ SpR B a.1 (exG t nl h0 n) (exL t nl n) (exL t nl n).length) ?_ ?_ ⟨rfl, ?_⟩
  · rintro n ⟨U, _⟩ hn ⟨rfl, hU⟩
    right
    dsimp only at hU ⊢
    have ll := exL_len (t := t) (nl := nl) (n := n)
    obtain ⟨V0, e0, hV0⟩ := sp_put h179 hU hn (-1)
    rw [if_pos ((i_ltL (by omega) (by decide)).mpr hn), xN_o (b := 175) (s170 hU) rfl rfl, Option.bind_some, e0, Option.bind_some]
    have key2 : ∀ X : Option CS, Tr X (fun S' => SpR B S' (exG t nl h0 (n + 1)) (exL t nl (n + 1)) (exL t nl (n + 1)).length) → ∃ a', Option.bind X (fun v57 => (some (.inl (v57, Int32.ofNat n + 1)) : Option (Sum (CS × Int32) CS))) = some (.inl a') ∧ a'.2 = Int32.ofNat (n + 1) ∧ SpR B a'.1 (exG t nl h0 (n + 1)) (exL t nl (n + 1)) (exL t nl (n + 1)).length := by
      rintro X ⟨S', rfl, h⟩
      exact ⟨_, rfl, i_suc n, h⟩
    refine key2 _ ?_
    have last : ∀ {V : CS} {g : Nat → Int32} {L : List Nat}, SpR B V g L L.length → (∀ c, g c = if c = n then (if exA t nl n then 1 else -1) else exG t nl h0 n c) → L = exL t nl n ++ (if exA t nl n then [n] else []) → SpR B V (exG t nl h0 (n + 1)) (exL t nl (n + 1)) (exL t nl (n + 1)).length := by
      intro V g L h hg hL
      rw [exL_s, ← hL]
      refine SpR_g h (fun c _ => ?_)
      rw [hg]
      unfold exG
      by_cases z : c = n
      · rw [if_pos z, z, if_pos (show n < n + 1 by omega)]
      · rw [if_neg z]
        by_cases y : c < n
        · rw [if_pos y, if_pos (show c < n + 1 by omega)]
        · rw [if_neg y, if_neg (show ¬ c < n + 1 by omega)]
    by_cases o : ouT t n
    · have nex : ¬ exA t nl n := fun h => h.2.1 o
      refine wh_cnt 0 (fun _ (a : CS × Int32) => a = (V0, 0)) (fun k a hk => absurd hk (Nat.not_lt_zero _)) ?_ rfl
      rintro a rfl
      dsimp only
      have so := sp_out b hV0 (show n ≤ 576 by omega)
      rw [if_neg (by omega), if_pos o] at so
      rw [(aLen_cg (hV0.2.2.1 61 (by omega) (by decide))).trans h61, Option.bind_some, if_pos (by decide), if_pos (isK_t (s170 hV0) rfl), so, Option.bind_some, if_neg n10]
      refine ⟨_, rfl, last hV0 (fun c => by rw [if_neg nex]) (by rw [if_neg nex, List.append_nil])⟩
    · refine wh_cnt 4 (fun d (a : CS × Int32) => a.2 = Int32.ofNat d ∧ SpR B a.1 (fun c => if c = n then (if exC t nl d n then 1 else -1) else exG t nl h0 n c) (exL t nl n ++ (if exC t nl d n then [n] else [])) (exL t nl n ++ (if exC t nl d n then [n] else [])).length) ?_ ?_ ⟨rfl, ?_⟩
      · rintro d ⟨V, _⟩ hd ⟨rfl, hV⟩
        right
        dsimp only at hV ⊢
        have so := sp_out b hV (show n ≤ 576 by omega)
        rw [if_neg (by omega), if_neg o] at so
        have k175 := hV.2.2.2.1
        obtain ⟨d1, d2⟩ := sp_edge b hV hn hd
        have sb := sp_out b hV (bsd_le (d := d) hn)
        have iff := exC_s (t := t) (nl := nl) (d := d) (c := n)
        rw [(aLen_cg (hV.2.2.1 61 (by omega) (by decide))).trans h61, Option.bind_some, if_pos ((i_ltL (by omega) (by decide)).mpr hd), if_pos (isK_t (s170 hV) rfl), so, Option.bind_some, if_pos rfl, xN_o (b := 175) (s170 hV) rfl rfl, Option.bind_some, aI_r (x := if exC t nl d n then 1 else -1) k175 (by decide) rfl hn (by omega) (by dsimp only; rw [if_pos rfl]), Option.bind_some]
        by_cases a : exC t nl d n
        · have a2 : exC t nl (d + 1) n := iff.mpr (Or.inl a)
          rw [if_pos a, if_neg (by decide), Option.bind_some, i_suc]
          refine ⟨_, rfl, rfl, ?_⟩
          rw [if_pos a, if_pos a] at hV
          rw [if_pos a2, if_pos a2]
          exact hV
        · rw [if_neg a, if_neg a] at hV
          rw [if_neg a, if_pos rfl, xN_o (b := 172) (s170 hV) rfl rfl, Option.bind_some, i_mulL, i_add, d1, Option.bind_some]
          have stay : ¬ exC t nl (d + 1) n → ∃ a', Option.bind (some V) (fun v55 => (some (.inl (v55, Int32.ofNat d + 1)) : Option (Sum (CS × Int32) CS))) = some (.inl a') ∧ a'.2 = Int32.ofNat (d + 1) ∧ SpR B a'.1 (fun c => if c = n then (if exC t nl (d + 1) n then 1 else -1) else exG t nl h0 n c) (exL t nl n ++ (if exC t nl (d + 1) n then [n] else [])) (exL t nl n ++ (if exC t nl (d + 1) n then [n] else [])).length := by
            intro z
            rw [Option.bind_some, i_suc, if_neg z, if_neg z]
            exact ⟨_, rfl, rfl, hV⟩
          by_cases p : psB t nl d (cX n) (cY n)
          · rw [if_neg (fun w => d2.mp w p), c_bes (sp_k9 b hV) hn hd, Option.bind_some, if_pos (isK_t (s170 hV) rfl), sb, Option.bind_some]
            by_cases u : ouT t (bsd n d)
            · obtain ⟨V', c1, c2⟩ := sp_add h179 hV (by rw [List.length_append]; show _ + 0 < _; omega) hn 1
              have a2 : exC t nl (d + 1) n := iff.mpr (Or.inr ⟨o, u, p⟩)
              rw [if_pos u, if_neg n10, Option.bind_some, c1, Option.bind_some, i_suc]
              refine ⟨_, rfl, rfl, ?_⟩
              rw [if_pos a2, if_pos a2]
              dsimp only
              have ea : exL t nl n ++ [] ++ [n] = exL t nl n ++ [n] := by rw [List.append_nil]
              rw [ea] at c2
              have el : (exL t nl n ++ []).length + 1 = (exL t nl n ++ [n]).length := by rw [List.append_nil, List.length_append]; rfl
              rw [el] at c2
              refine SpR_g c2 (fun c _ => ?_)
              by_cases z : c = n
              · rw [if_pos z, if_pos z]
              · rw [if_neg z, if_neg z, if_neg z]
            · rw [if_neg u, if_pos rfl]
              exact stay (fun w => by rcases iff.mp w with w | w; exact a w; exact u w.2.1)
          · rw [if_pos (d2.mpr p)]
            exact stay (fun w => by rcases iff.mp w with w | w; exact a w; exact p w.2.2)
      · rintro ⟨V, _⟩ ⟨rfl, hV⟩
        dsimp only at hV ⊢
        have iffA : exC t nl 4 n ↔ exA t nl n := ⟨fun h => ⟨hn, h⟩, fun h => h.2⟩
        rw [(aLen_cg (hV.2.2.1 61 (by omega) (by decide))).trans h61, Option.bind_some, if_neg (show ¬ Int32.ofNat 4 < 4 by decide)]
        refine ⟨_, rfl, last hV (fun c => ?_) ?_⟩
        · by_cases z : exA t nl n
          · rw [if_pos z, if_pos (iffA.mpr z)]
          · rw [if_neg z, if_neg (fun w => z (iffA.mp w))]
        · by_cases z : exA t nl n
          · rw [if_pos z, if_pos (iffA.mpr z)]
          · rw [if_neg z, if_neg (fun w => z (iffA.mp w))]
      · have z : ¬ exC t nl 0 n := fun ⟨_, k, hk, _⟩ => absurd hk (Nat.not_lt_zero _)
        dsimp only
        rw [if_neg z, if_neg z, List.append_nil]
        exact hV0
  · rintro ⟨U, _⟩ ⟨rfl, hU⟩
    dsimp only at hU ⊢
    rw [if_neg (show ¬ Int32.ofNat 576 < 576 by decide)]
    exact ⟨_, rfl, hU⟩
  · exact SpR_g r (fun c _ => by unfold exG; rw [if_neg (Nat.not_lt_zero _)])
end
