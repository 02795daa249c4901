/-! the plan: gaps, the component whole -/
section
variable {s S : CS} {t T : TS} {L : PLn} {nl nr : Nat} {st ln : Nat → Nat} {lab : Int → Int → Int} {LC LD : Nat → Nat} {DC : Nat → Nat → Nat} {fd fL ou ol mp : Nat} {pid nid aid : Nat → Nat → Nat} {si rc rl sp sl : Nat → Nat} {nd : Nat → Nat} {gps : List (Nat × Nat × Nat)} {x y : Nat}
theorem c_gapLn (hw : wfS s) (F : FNx s t L nl nr st ln lab LC fd fL ou ol mp pid nid aid si rc rl sp sl) (H : DrH s t L nl LC LD DC nd) (r : GpS s S t L nl lab gps x y) {f : List Value} (g : s.1 102 = some (true, false, 67, .ref 103 :: .ref fd :: f)) {l d : Nat} (hl : l < nl) (hd : d < nd l) (hlen : (gps ++ gapL t L nl lab l d (plst L nl l).length).length < 2000) : ∃ S', c_925 102 (LC l) (Int32.ofNat d) s.2.1 S = some S' ∧ GpS s S' t L nl lab (gps ++ gapL t L nl lab l d (plst L nl l).length) (x + 1) (y + 2) := by
  have hle := FN_le F
  have old : ∀ {V : CS}, (∀ q, q < s.2.1 → V.1 q = s.1 q) → ∀ a c, s.1 a = some c → V.1 a = some c := fun {V} h a c e => by rw [h a (wf_lt hw e)]; exact e
  have ex := old r.2.2.1
  obtain ⟨h1, h2, ⟨m, h3⟩, h4⟩ := H _ hl
  obtain ⟨da, db, dr, d1, d2, d3, d4, d5⟩ := h4 d hd
  have hg := F.1.1
  have sm : smL L l := ⟨(hg.2.1 l hl).1, (hg.2.1 l hl).2.1, (hg.2.1 l hl).2.2⟩
  have smb := smL_b sm
  have pt0 := (cts_mem.mp (cts_0 (L := L) hl)).2
  have ptN := (cts_mem.mp (cts_N (L := L) hl)).2
  have aX0 : aX L l 0 = pX L l := by unfold aX; split <;> rfl
  have aY0 : aY L l 0 = pY L l := by unfold aY; split <;> rfl
  rw [aX0, aY0] at pt0
  unfold c_925
  rw [xN_o (b := LD l) (ex _ _ h1) rfl rfl, Option.bind_some, if_pos (isK_t (ex _ _ h3) rfl), alGet_r (ex _ _ h3) hd (by omega), Option.bind_some, toN_o (ex _ _ d1) rfl, Option.bind_some, xN_o (b := fd) (ex _ _ g) rfl rfl, Option.bind_some, xN_o (b := mp) (ex _ _ F.2.2.1) rfl rfl, Option.bind_some]
  have hr := r
  obtain ⟨r1, r2, r3, ⟨mc, GA, r4, r5⟩, r6, r7⟩ := r
  obtain ⟨S1, e1, u1⟩ := nw_o (s := S) 63 [.int 0, .int 0] r1
  rw [e1, Option.bind_some]
  dsimp only
  have k1 : ∀ a c, S.1 a = some c → S1.1 a = some c := fun a c e => by rw [u1.2.1 a (by have := wf_lt r1 e; omega)]; exact e
  rw [xI_o (x := Int32.ofNat (pX L l)) (k1 _ _ (ex _ _ h1)) rfl rfl, Option.bind_some, xI_o (x := Int32.ofNat (pY L l)) (k1 _ _ (ex _ _ h1)) rfl rfl, Option.bind_some, if_pos (isK_t u1.1 rfl), c_pntI u1.1, Option.bind_some]
  obtain ⟨V, hV⟩ : ∃ V, V = cup S1 S.2.1 (true, false, 63, [.int (Int32.ofNat (pX L l)), .int (Int32.ofNat (pY L l))]) := ⟨_, rfl⟩
  rw [← hV]
  have v0 : V.1 S.2.1 = some (poC (pX L l) (pY L l)) := by rw [hV]; exact cup_eq ..
  have v1 : ∀ a c, S.1 a = some c → V.1 a = some c := fun a c e => by rw [hV, cup_ne (by have := wf_lt r1 e; omega)]; exact k1 a c e
  have v2 : V.2.1 = S.2.1 + 1 := by rw [hV]; exact u1.2.2.1
  have rV : GpS s V t L nl lab (gps ++ gapL t L nl lab l d 0) (x + 1) (y + 2) := by
    rw [gapL_0, List.append_nil]
    refine ⟨fun q hq => ?_, by omega, fun q hq => ?_, ⟨mc, GA, v1 _ _ r4, fun k hk => ⟨(r5 k hk).1, v1 _ _ (r5 k hk).2⟩⟩, ?_, ?_⟩
    · rw [v2] at hq
      rw [hV, cup_ne (by omega)]
      exact u1.2.2.2.1 q (by rw [u1.2.2.1]; exact hq)
    · rw [hV, cup_ne (by omega), u1.2.1 q (by omega)]; exact r3 q hq
    · rw [hV]; show S1.2.2.1 ≤ _; rw [u1.2.2.2.2.1]; omega
    · rw [hV]; show S1.2.2.2 ≤ _; rw [u1.2.2.2.2.2]; show S.2.2.2 + 2 ≤ _; omega
  have exV : ∀ a c, s.1 a = some c → V.1 a = some c := fun a c e => v1 _ _ (ex a c e)
  obtain ⟨⟨rv, G, _⟩, _⟩ := F.2
  have N0 := G.1
  have NV : NDs 179 V.1 L nl mp (nP L nl) (isPt L nl) pid nid aid si := NDs_ext N0 exV
  have m0 : ∃ cm es, s.1 mp = some (true, false, 1042, .int cm :: fl es) := by obtain ⟨⟨mc, es, q, _⟩, _⟩ := N0; exact ⟨mc, es, q⟩
  obtain ⟨cm, es, m0⟩ := m0
  obtain ⟨_, _, _, _, _, _, n64, _⟩ := NV.2.1 _ _ pt0
  obtain ⟨_, c00⟩ := plst_0 hl sm.1
  have cw0 : cwG L nl l 0 = 0 := by unfold cwG; rw [if_pos (plst_0 hl sm.1).1]; exact c00
  rw [if_pos (isK_t (exV _ _ m0) rfl), (NDs_get NV v0 (by omega) (by omega)).1 pt0, Option.bind_some, toR_o n64 rfl, Option.bind_some]
  have key : ∀ X : Option CS, Tr X (fun S' => GpS s S' t L nl lab (gps ++ gapL t L nl lab l d (plst L nl l).length) (x + 1) (y + 2)) → ∃ S', Option.bind X (fun v104 => some v104) = some S' ∧ GpS s S' t L nl lab (gps ++ gapL t L nl lab l d (plst L nl l).length) (x + 1) (y + 2) := by
    rintro X ⟨S', rfl, h⟩
    exact ⟨S', rfl, h⟩
  refine key _ ?_
  refine wh_cnt (plst L nl l).length (fun i (a : CS × Option Nat) => a.2 = some (nid (aX L l (cwG L nl l i)) (aY L l (cwG L nl l i))) ∧ GpS s a.1 t L nl lab (gps ++ gapL t L nl lab l d i) (x + 1) (y + 2)) ?_ ?_ ⟨by dsimp only; rw [cw0, aX0, aY0], rV⟩
  · rintro i ⟨U, _⟩ hi ⟨rfl, hU⟩
    right
    dsimp only at hU
    have li : (gps ++ gapL t L nl lab l d i).length < 2000 := by
      have : (gapL t L nl lab l d i).length ≤ (gapL t L nl lab l d (plst L nl l).length).length := by
        unfold gapL
        rw [List.length_map, List.length_map]
        refine List.Sublist.length_le (List.Sublist.filter _ ?_)
        rw [List.take_length]
        exact List.take_sublist _ _
      rw [List.length_append] at hlen ⊢
      omega
    obtain ⟨S', e, h⟩ := gp_step hw F H hU li hl hd hi
    refine ⟨_, e, rfl, ?_⟩
    rw [gapL_s hi, ← List.append_assoc]
    exact h
  · rintro ⟨U, _⟩ ⟨rfl, hU⟩
    dsimp only at hU ⊢
    have exU := old hU.2.2.1
    have NU : NDs 179 U.1 L nl mp (nP L nl) (isPt L nl) pid nid aid si := NDs_ext N0 exU
    have cwm : cwG L nl l (plst L nl l).length = pN L l := by unfold cwG; rw [if_neg (by omega)]
    rw [cwm]
    obtain ⟨_, _, _, _, _, n63, n64, _⟩ := NU.2.1 _ _ ptN
    have lC := exU _ _ h1
    rw [Option.bind_some, xN_o (b := pid (aX L l (pN L l)) (aY L l (pN L l))) n64 rfl rfl, Option.bind_some, xI_o (x := Int32.ofNat (aX L l (pN L l))) n63 rfl rfl, Option.bind_some, if_pos (isK_t lC rfl), c_eX lC, Option.bind_some, if_pos (show Int32.ofNat (aX L l (pN L l)) = Int32.ofNat (pHX L l) from rfl), Option.bind_some, xI_o (x := Int32.ofNat (aY L l (pN L l))) n63 rfl rfl, Option.bind_some, if_pos (isK_t lC rfl), c_eY lC, Option.bind_some, if_pos (show Int32.ofNat (aY L l (pN L l)) = Int32.ofNat (pHY L l) from rfl)]
    exact ⟨_, rfl, hU⟩
theorem c_gaps (hw : wfS s) (F : FNx s t L nl nr st ln lab LC fd fL ou ol mp pid nid aid si rc rl sp sl) (H : DrH s t L nl LC LD DC nd) {f : List Value} (g : s.1 102 = some (true, false, 67, .ref 103 :: .ref fd :: f)) {ml : Int32} (g3 : s.1 103 = some (true, false, 1013, .int ml :: rowC (fun l => .ref (LC l)) nl)) : ∃ S, c_924 102 s = some (s.2.1, S) ∧ GpS s S t L nl lab (gapA t L nl lab nd nl) 130 260 := by
  have n20 := F.1.1.1
  have n6 : ∀ l, l < nl → nd l ≤ 6 := fun l hl => (H l hl).2.1
  have old : ∀ {V : CS}, (∀ q, q < s.2.1 → V.1 q = s.1 q) → ∀ a c, s.1 a = some c → V.1 a = some c := fun {V} h a c e => by rw [h a (wf_lt hw e)]; exact e
  have tot : ∀ l d, l < nl → d < nd l → ((gapA t L nl lab nd l ++ gapD t L nl lab l d) ++ gapL t L nl lab l d (plst L nl l).length).length < 2000 := fun l d hl hd => by
    have h1 := gapA_1320 (t := t) (lab := lab) F.1.1 (n := l + 1) (nd := nd) (fun k hk => n6 k (by omega))
    rw [gapA_s, List.length_append] at h1
    have h2 : (gapD t L nl lab l (d + 1)).length ≤ (gapD t L nl lab l (nd l)).length := by
      have : ∀ a b, (gapD t L nl lab l a).length ≤ (gapD t L nl lab l (a + b)).length := fun a b => by
        induction b with
        | zero => exact Nat.le_refl _
        | succ b ih => rw [show a + (b + 1) = (a + b) + 1 from rfl, gapD_s, List.length_append]; omega
      have := this (d + 1) (nd l - (d + 1))
      rwa [show d + 1 + (nd l - (d + 1)) = nd l by omega] at this
    rw [gapD_s, List.length_append] at h2
    rw [List.length_append, List.length_append]
    omega
  unfold c_924
  obtain ⟨S1, e1, u1⟩ := nw_o (s := s) 13 [.int 0, .null, .int 0] hw
  rw [e1, Option.bind_some]
  dsimp only
  have k1 : ∀ a c, s.1 a = some c → (cup S1 s.2.1 (true, false, 1013, [.int 0])).1 a = some c := fun a c e => by
    have := wf_lt hw e
    rw [cup_ne (by omega), u1.2.1 a (by omega)]; exact e
  rw [if_pos (isK_t u1.1 rfl), alInit_o u1.1, Option.bind_some, xN_o (b := 103) (k1 _ _ g) rfl rfl, Option.bind_some, if_pos (isK_t (k1 _ _ g3) rfl), alMc_l (k1 _ _ g3), Option.bind_some]
  dsimp only
  have r0 : GpS s (chg (cup S1 s.2.1 (true, false, 1013, [.int 0])) 1 4) t L nl lab (gapA t L nl lab nd 0) 2 7 := by
    refine ⟨fun q hq => ?_, by show s.2.1 + 1 ≤ S1.2.1; rw [u1.2.2.1]; exact Nat.le_refl _, fun q hq => ?_, ⟨0, fun _ => 0, cup_eq .., fun k hk => absurd hk (Nat.not_lt_zero _)⟩, ?_, ?_⟩
    · have hq : S1.2.1 ≤ q := hq
      rw [u1.2.2.1] at hq
      show (cup S1 s.2.1 _).1 q = none
      rw [cup_ne (by omega)]
      exact u1.2.2.2.1 q (by rw [u1.2.2.1]; exact hq)
    · show (cup S1 s.2.1 _).1 q = _
      rw [cup_ne (by omega), u1.2.1 q (by omega)]
    · show S1.2.2.1 + 1 ≤ _; rw [u1.2.2.2.2.1]; omega
    · show S1.2.2.2 + 4 ≤ _; rw [u1.2.2.2.2.2]; show s.2.2.2 + 3 + 4 ≤ _; omega
  have key : ∀ X : Option CS, Tr X (fun S' => GpS s S' t L nl lab (gapA t L nl lab nd nl) 130 260) → ∃ S, Option.bind X (fun v30 => some (s.2.1, v30)) = some (s.2.1, S) ∧ GpS s S t L nl lab (gapA t L nl lab nd nl) 130 260 := by
    rintro X ⟨S', rfl, h⟩
    exact ⟨S', rfl, h⟩
  refine key _ ?_
  refine wh_cnt nl (fun l (a : CS × Int32) => a.2 = Int32.ofNat l ∧ GpS s a.1 t L nl lab (gapA t L nl lab nd l) (2 + 6 * l) (7 + 12 * l)) ?_ ?_ ⟨rfl, r0⟩
  · rintro l ⟨U, _⟩ hl ⟨rfl, hU⟩
    right
    dsimp only at hU ⊢
    have exU := old hU.2.2.1
    obtain ⟨h1, h2, ⟨m, h3⟩, h4⟩ := H _ hl
    rw [alHas_r (exU _ _ g3) (by omega) (by omega), if_neg (by omega), Option.bind_some, if_neg (by decide), alNext_r (exU _ _ g3) hl (by omega), Option.bind_some, toN_o (exU _ _ h1) rfl, Option.bind_some]
    have key2 : ∀ X : Option CS, Tr X (fun S' => GpS s S' t L nl lab (gapA t L nl lab nd (l + 1)) (2 + 6 * (l + 1)) (7 + 12 * (l + 1))) → ∃ a', Option.bind X (fun v29 => (some (.inl (v29, Int32.ofNat l + 1)) : Option (Sum (CS × Int32) CS))) = some (.inl a') ∧ a'.2 = Int32.ofNat (l + 1) ∧ GpS s a'.1 t L nl lab (gapA t L nl lab nd (l + 1)) (2 + 6 * (l + 1)) (7 + 12 * (l + 1)) := by
      rintro X ⟨S', rfl, h⟩
      exact ⟨_, rfl, i_suc l, h⟩
    refine key2 _ ?_
    refine wh_cnt (nd l) (fun d (a : CS × Int32) => a.2 = Int32.ofNat d ∧ GpS s a.1 t L nl lab (gapA t L nl lab nd l ++ gapD t L nl lab l d) (2 + 6 * l + d) (7 + 12 * l + 2 * d)) ?_ ?_ ⟨rfl, ?_⟩
    · rintro d ⟨W, _⟩ hd ⟨rfl, hW⟩
      right
      dsimp only at hW ⊢
      have exW := old hW.2.2.1
      rw [xN_o (b := LD l) (exW _ _ h1) rfl rfl, Option.bind_some, if_pos (isK_t (exW _ _ h3) rfl), alSize_r (exW _ _ h3), Option.bind_some, if_pos ((i_lt (by omega) (by omega)).mpr hd), if_pos (isK_t (exW _ _ g) rfl)]
      obtain ⟨S', e, h⟩ := c_gapLn hw F H hW g hl hd (tot l d hl hd)
      rw [e, Option.bind_some, i_suc]
      refine ⟨_, rfl, rfl, ?_⟩
      rw [gapD_s, ← List.append_assoc]
      exact h
    · rintro ⟨W, _⟩ ⟨rfl, hW⟩
      dsimp only at hW ⊢
      have exW := old hW.2.2.1
      rw [xN_o (b := LD l) (exW _ _ h1) rfl rfl, Option.bind_some, if_pos (isK_t (exW _ _ h3) rfl), alSize_r (exW _ _ h3), Option.bind_some, if_neg (fun z => by have := (i_lt (by omega) (by omega)).mp z; omega)]
      refine ⟨_, rfl, ?_⟩
      rw [gapA_s]
      obtain ⟨q1, q2, q3, q4, q5, q6⟩ := hW
      exact ⟨q1, q2, q3, q4, by omega, by omega⟩
    · show GpS s U t L nl lab (gapA t L nl lab nd l ++ []) _ _
      rw [List.append_nil]
      exact hU
  · rintro ⟨U, _⟩ ⟨rfl, hU⟩
    dsimp only at hU ⊢
    have exU := old hU.2.2.1
    rw [alHas_r (exU _ _ g3) (by omega) (by omega), if_pos rfl, Option.bind_some, if_pos rfl]
    obtain ⟨q1, q2, q3, q4, q5, q6⟩ := hU
    exact ⟨_, rfl, q1, q2, q3, q4, by omega, by omega⟩
end
