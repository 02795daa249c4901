/-! the plan's readers: ways, whole -/
section
variable {own : Nat → Nat} {s S : CS} {t T : TS} {L : PLn} {nl nr : Nat} {st ln : Nat → Nat} {lab : Int → Int → Int} {LC LD : Nat → Nat} {DC : Nat → Nat → Nat} {fd fL ou ol mp : Nat} {pid nid aid : Nat → Nat → Nat} {si rc rl sp sl : Nat → Nat} {nd : Nat → Nat}
theorem WX_b (F : FNx s t L nl nr st ln lab LC fd fL ou ol mp pid nid aid si rc rl sp sl) {dl : List Nat} (h : dl.Nodup) : WX ln (dl.flatMap (rgN L nl nr st lab)) ≤ 6000 ∧ WZ ln (dl.flatMap (rgN L nl nr st lab)) ≤ 9600 := by
  have hle := FN_le F
  have nd : (dl.flatMap (rgN L nl nr st lab)).Nodup := nd_flat h (fun k _ => rgN_nd k) (fun k _ k' _ q h1 h2 => by
    have := rgN_fc h1
    have := rgN_fc h2
    omega)
  have lt : ∀ k ∈ dl.flatMap (rgN L nl nr st lab), k < nr := fun k hk => by
    obtain ⟨i, _, h2⟩ := List.mem_flatMap.mp hk
    exact rgN_lt h2
  have h1 := lnS_le F.1.1 F.1.2.1 nd lt
  have h2 := List.Nodup.length_le_of_subset nd (l₂ := List.range nr) (fun i hi => List.mem_range.mpr (lt i hi))
  rw [List.length_range] at h2
  unfold WX WZ
  omega
/-- numbers of all that is reached -/
theorem wy_loop (hw : wfS s) (F : FNx s t L nl nr st ln lab LC fd fL ou ol mp pid nid aid si rc rl sp sl) (H : DrH s t L nl LC LD DC nd) {a0 : Nat} {f : Nat → Nat} {cc : lCell} (r : WyS s S (spn L nl st ln nr) ou sp f [a0] [] 10 100) (J : quJ (fun c => c = a0) (adW t L nl lab nd) f [a0] (fun z => z ∈ ([] : List Nat))) (g : s.1 102 = some (true, false, 67, cc.2.2.2)) : Tr (wh (S := CS) (X := CS) (fun p30 => (if isK p30 [4] (s.2.1 + 1) = true then Option.bind (adEmpty p30 (s.2.1 + 1)) (fun x18 => (if x18 = 0 then (if isK p30 [4] (s.2.1 + 1) = true then Option.bind (adRem p30 (s.2.1 + 1)) (fun x19 => Option.bind (toN x19.2 [62] x19.1) (fun a20 => (if isK x19.2 [67] 102 = true then Option.bind (c_915 102 a20 s.2.1 (s.2.1 + 1) x19.2) (fun x21 => some (.inl x21)) else none))) else none) else some (.inr p30))) else none)) S) (fun S' => ∃ f' dl, WyS s S' (spn L nl st ln nr) ou sp f' [] dl (10 + WX ln (dl.flatMap (rgN L nl nr st lab))) (100 + WZ ln (dl.flatMap (rgN L nl nr st lab))) ∧ quJ (fun c => c = a0) (adW t L nl lab nd) f' [] (fun z => z ∈ dl)) := by
  have hle := FN_le F
  have old : ∀ {V : CS}, (∀ q, q < s.2.1 → V.1 q = s.1 q) → ∀ a c, s.1 a = some c → V.1 a = some c := fun {V} h a c e => by rw [h a (wf_lt hw e)]; exact e
  refine wh_cnt (spn L nl st ln nr + 2) (fun k (U : CS) => ∃ f' Lq dl, dl.length = k ∧ WyS s U (spn L nl st ln nr) ou sp f' Lq dl (10 + WX ln (dl.flatMap (rgN L nl nr st lab))) (100 + WZ ln (dl.flatMap (rgN L nl nr st lab))) ∧ quJ (fun c => c = a0) (adW t L nl lab nd) f' Lq (fun z => z ∈ dl)) ?_ ?_ ⟨f, [a0], [], rfl, r, J⟩
  · rintro k U hk ⟨f', Lq, dl, h1, u1, u2⟩
    have s100 := spn_100 F.1.1 F.1.2.1 F.1.2.2.2.1.1
    have len := Wy_len u1
    obtain ⟨w1, w2, w3, w4, w5, w6, w7, w8, w9, w10⟩ := u1
    rw [if_pos (isK_t w5 rfl), adEmpty_r w5, Option.bind_some]
    cases Lq with
    | nil =>
      left
      rw [if_pos (show ([] : List Nat).length = 0 from rfl), if_neg (by decide)]
      exact ⟨_, rfl, f', dl, ⟨w1, w2, w3, w4, w5, w6, w7, w8, w9, w10⟩, u2⟩
    | cons b R =>
      right
      rw [if_neg (show ¬ (b :: R).length = 0 by simp), if_pos rfl]
      have w5' : U.1 (s.2.1 + 1) = some (true, false, 1004, rowC (fun j => .ref (ndC ou sp ((b :: R).getD j 0))) (R.length + 1)) := w5
      rw [if_pos (isK_t w5 rfl), adRem_r w5', Option.bind_some]
      dsimp only
      obtain ⟨V, hV⟩ : ∃ V, V = cput U 1004 (s.2.1 + 1) 0 0 (rowC (fun j => Value.ref (ndC ou sp ((b :: R).getD (j + 1) 0))) R.length) := ⟨_, rfl⟩
      rw [← hV]
      have n1 : ∀ q, q ≠ s.2.1 + 1 → V.1 q = U.1 q := fun q hq => by rw [hV]; exact cput_ne hq
      have hb : b ≤ spn L nl st ln nr := w6 b (w8 b (by simp))
      have app : dl ++ b :: R = (dl ++ [b]) ++ R := by rw [List.append_assoc]; rfl
      have rV : WyS s V (spn L nl st ln nr) ou sp f' R (dl ++ [b]) (10 + WX ln (dl.flatMap (rgN L nl nr st lab))) (100 + WZ ln (dl.flatMap (rgN L nl nr st lab))) := by
        rw [app] at w4 w7 w8 w9 w10
        refine ⟨?_, by rw [hV]; exact w2, fun q hq => by rw [n1 q (by omega)]; exact w3 q hq, ?_, by rw [hV]; exact cput_eq .., w6, w7, w8, by rw [hV]; exact w9, by rw [hV]; exact w10⟩
        · intro q hq
          have hq : U.2.1 ≤ q := by rw [hV] at hq; exact hq
          rw [n1 q (by omega)]; exact w1 q hq
        · rw [n1 _ (by omega)]; exact w4
      have exV := old rV.2.2.1
      have FV := FN_ext F exV
      obtain ⟨c1, c2, c3, ec⟩ := FN_nd FV hb
      obtain ⟨S', f2, L2, e1, e2, e3⟩ := wy_join (v0 := 102) hw F H rV (qmJ_in u2) hb
      rw [show (b :: R).getD 0 0 = b from rfl, toN_o ec rfl, Option.bind_some, if_pos (isK_t (exV _ _ g) rfl), e1, Option.bind_some]
      have fm : (dl ++ [b]).flatMap (rgN L nl nr st lab) = dl.flatMap (rgN L nl nr st lab) ++ rgN L nl nr st lab b := by
        rw [List.flatMap_append]; simp
      have wa := WX_a (ln := ln) (dl.flatMap (rgN L nl nr st lab)) (rgN L nl nr st lab b)
      refine ⟨_, rfl, f2, L2, dl ++ [b], by rw [List.length_append]; show dl.length + 1 = _; omega, ?_, ?_⟩
      · rw [fm]
        exact Wy_xy e2 (by omega) (by omega)
      · rw [show (fun z => z ∈ dl ++ [b]) = fun z => z ∈ dl ∨ z = b from funext (fun z => propext (by simp))]
        exact e3
  · rintro U ⟨f', Lq, dl, h1, u1, u2⟩
    have := Wy_len u1
    rw [List.length_append] at this
    omega
/-- the start: the space itself has number 0 -/
theorem wy_start (hw : wfS s) {N ou : Nat} {sp : Nat → Nat} {a0 : Nat} (ha : a0 ≤ N) (hN : N ≤ 1000) {A : Type} (g : Nat → Nat → CS → Option A) {k1 k2 k3 : Value} (ec : s.1 (ndC ou sp a0) = some (true, false, 62, [.int (Int32.ofInt ((a0 : Int) - 1)), k1, k2, k3])) : ∃ S, Option.bind (some (nw s 42 [.null, .null, .null, .null, .int 0, .int 0, .null, .null, .null])) (fun n8 => (if isK n8.2 [42] n8.1 = true then Option.bind (tmInit n8.2 n8.1) (fun s9 => Option.bind (some (nw s9 4 [.null, .int 0, .int 0])) (fun n10 => (if isK n10.2 [4] n10.1 = true then Option.bind (adInit n10.2 n10.1) (fun s11 => Option.bind (some (ndC ou sp a0)) (fun a12 => Option.bind (xI s11 [(62, 0)] a12) (fun x13 => Option.bind (some (chg s11 1 1)) (fun s14 => Option.bind (some (chg s14 1 1)) (fun s15 => (if isK s15 [42] n8.1 = true then Option.bind (tmPut s15 n8.1 (.int x13) (.int 0)) (fun x16 => (if isK x16.2 [4] n10.1 = true then Option.bind (adAdd x16.2 n10.1 (.ref a12)) (fun s17 => g n8.1 n10.1 s17) else none)) else none)))))) else none))) else none)) = g s.2.1 (s.2.1 + 1) S ∧ WyS s S N ou sp (fun i => if i = a0 then 1 else 0) [a0] [] 10 100 := by
  obtain ⟨S1, e1, u1⟩ := nw_o (s := s) 42 [.null, .null, .null, .null, .int 0, .int 0, .null, .null, .null] hw
  rw [e1, Option.bind_some]
  dsimp only
  rw [if_pos (isK_t u1.1 rfl), tmInit_o u1.1, Option.bind_some]
  have n1 := u1.2.2.1
  have w2 : wfS (cup S1 s.2.1 (true, false, 1042, [.int 0])) := wf_cup u1.2.2.2.1 (by omega)
  obtain ⟨S2, e2, u2⟩ := nw_o (s := cup S1 s.2.1 (true, false, 1042, [.int 0])) 4 [.null, .int 0, .int 0] w2
  rw [e2, Option.bind_some]
  have n2 : (cup S1 s.2.1 (true, false, 1042, [.int 0])).2.1 = s.2.1 + 1 := n1
  unfold Nw at u2
  rw [n2] at u2
  dsimp only
  rw [n2, if_pos (isK_t u2.1 rfl), adInit_o u2.1, Option.bind_some, Option.bind_some]
  have la := wf_lt hw ec
  obtain ⟨V, hV⟩ : ∃ V, V = chg (chg (chg (cup S2 (s.2.1 + 1) (true, false, 1004, [])) 1 17) 1 1) 1 1 := ⟨_, rfl⟩
  have v0 : ∀ q, q < s.2.1 → S2.1 q = s.1 q := fun q hq => by
    rw [u2.2.1 q (by omega), cup_ne (by omega), u1.2.1 q (by omega)]
  have vo : ∀ q, q < s.2.1 → (chg (cup S2 (s.2.1 + 1) (true, false, 1004, [])) 1 17).1 q = s.1 q := fun q hq => (cup_ne (by omega)).trans (v0 q hq)
  rw [xI_o (x := Int32.ofInt ((a0 : Int) - 1)) ((vo _ la).trans ec) rfl rfl, Option.bind_some, Option.bind_some, Option.bind_some, ← hV]
  have v1 : V.1 s.2.1 = some (true, false, 1042, .int 0 :: fl []) := by
    rw [hV]
    show (cup S2 (s.2.1 + 1) (true, false, 1004, [])).1 s.2.1 = _
    rw [cup_ne (by omega), u2.2.1 _ (by omega), cup_eq]
    rfl
  have v2 : V.1 (s.2.1 + 1) = some (true, false, 1004, []) := by
    rw [hV]
    show (cup S2 (s.2.1 + 1) (true, false, 1004, [])).1 (s.2.1 + 1) = _
    exact cup_eq ..
  have v3 : ∀ q, q < s.2.1 → V.1 q = s.1 q := fun q hq => by rw [hV]; exact vo q hq
  have v4 : V.2.1 = s.2.1 + 2 := by rw [hV]; exact u2.2.2.1
  have v5 : V.2.2.1 = s.2.2.1 + 5 := by rw [hV]; show S2.2.2.1 + 1 + 1 + 1 = _; rw [u2.2.2.2.2.1]; show S1.2.2.1 + 1 + 1 + 1 + 1 = _; rw [u1.2.2.2.2.1]
  have v6 : V.2.2.2 = s.2.2.2 + 31 := by rw [hV]; show S2.2.2.2 + 17 + 1 + 1 = _; rw [u2.2.2.2.2.2]; show S1.2.2.2 + 3 + 17 + 1 + 1 = _; rw [u1.2.2.2.2.2]; rfl
  have v7 : ∀ q, s.2.1 + 2 ≤ q → V.1 q = none := fun q hq => by
    rw [hV]
    show (cup S2 (s.2.1 + 1) (true, false, 1004, [])).1 q = none
    rw [cup_ne (by omega)]
    exact u2.2.2.2.1 q (by rw [u2.2.2.1]; exact hq)
  have hk : KOk V rkI (.int (Int32.ofInt ((a0 : Int) - 1)) :: ([] : List (Value × Value)).map Prod.fst) := KOk_int (fun x hx => by
    rcases List.mem_cons.mp hx with rfl | hx
    · exact ⟨_, rfl⟩
    · cases hx)
  have er : rkI (.int (Int32.ofInt ((a0 : Int) - 1))) = (a0 : Int) - 1 := Int32.toInt_ofInt_of_le (by omega) (by omega)
  obtain ⟨es', mc', n, j, t1, t2, t3, t4, t5, t6, _⟩ := tm_put (v := .int 0) (m := fun _ => none) v1 hk ⟨List.Pairwise.nil, fun e he => by (cases he), fun z v h => by (cases h)⟩ (by decide)
  rw [if_pos (isK_t v1 rfl), t1, Option.bind_some]
  dsimp only
  rw [er] at t4
  have t6 : es'.length = 1 := t6
  obtain ⟨W, hW⟩ : ∃ W, W = cput V 1042 s.2.1 n j (.int mc' :: fl es') := ⟨_, rfl⟩
  rw [← hW]
  have q2 : ∀ p, p ≠ s.2.1 → W.1 p = V.1 p := fun p hp => by rw [hW]; exact cput_ne hp
  have q3 : W.1 (s.2.1 + 1) = some (true, false, 1004, rowC (fun _ => Value.null) 0) := by rw [q2 _ (by omega)]; exact v2
  rw [if_pos (isK_t q3 rfl), adAdd_r q3 (by omega) (by simp) (elO_o ((q2 _ (Nat.ne_of_lt (wf_lt hw ec))).trans ((v3 _ (wf_lt hw ec)).trans ec))), Option.bind_some]
  refine ⟨_, rfl, ?_, by show W.2.1 = _; rw [hW]; exact v4, fun p hp => ?_, ⟨mc', es', ?_, ?_, fun v hv => ?_, Mp_cg t4 (fun z => ?_)⟩, ?_, fun i hi => ?_, ?_, fun i hi => ?_, ?_, ?_⟩
  · intro p hp
    have hp : s.2.1 + 2 ≤ p := by
      have hp : W.2.1 ≤ p := hp
      rw [hW] at hp
      rw [← v4]; exact hp
    rw [cput_ne (by omega), q2 p (by omega)]
    exact v7 p hp
  · rw [cput_ne (by omega), q2 p (by omega)]; exact v3 p hp
  · rw [cput_ne (by omega), hW]; exact cput_eq ..
  · show _ ≤ 1
    omega
  · rcases t5 v hv with w | w
    · exact ⟨_, w⟩
    · cases w
  · by_cases w : z = (a0 : Int) - 1
    · rw [if_pos w, w, mpW_n, if_pos (by rw [if_pos rfl]; decide), if_pos rfl]
      rfl
    · rw [if_neg w]
      unfold mpW
      rw [if_neg]
      rintro ⟨h1, h2⟩
      by_cases v : (z + 1).toNat = a0
      · omega
      · exact h2 (if_neg v)
  · rw [cput_eq]
    rfl
  · dsimp only at hi
    by_cases w : i = a0
    · rw [w]; exact ha
    · rw [if_neg w] at hi; exact absurd rfl hi
  · show [a0].Nodup
    simp
  · have : i = a0 := List.mem_singleton.mp hi
    dsimp only
    rw [if_pos this]
    decide
  · show W.2.2.1 + 0 ≤ s.2.2.1 + 10 + 5
    rw [hW]
    show V.2.2.1 + n + 0 ≤ _
    omega
  · show W.2.2.2 + 0 ≤ s.2.2.2 + 100 + 300
    rw [hW]
    show V.2.2.2 + j + 0 ≤ _
    omega
end
