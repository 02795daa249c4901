/-! the plan's readers: how much is between two spaces -/
section
variable {own : Nat → Nat} {s S : CS} {t T : TS} {L : PLn} {nl nr : Nat} {st ln : Nat → Nat} {lab : Int → Int → Int} {LC : Nat → Nat} {fd fL ou ol mp : Nat} {pid nid aid : Nat → Nat → Nat} {si rc rl sp sl : Nat → Nat} {nm : Nat → Int32}
theorem FN_ext (F : FNx s t L nl nr st ln lab LC fd fL ou ol mp pid nid aid si rc rl sp sl) (e : ∀ a c, s.1 a = some c → S.1 a = some c) : FNx S t L nl nr st ln lab LC fd fL ou ol mp pid nid aid si rc rl sp sl := ⟨F.1, FD_own (LC' := LC) F.2 (Nat.le_refl _) (fun a c _ h => e a c h) (fun _ _ => rfl)⟩
noncomputable def wB (L : PLn) (nl : Nat) (lab : Int → Int → Int) (i q : Nat) : Int := if gLL (gS L nl) lab (bkS q) = (i : Int) - 1 then sln L nl q else 0
/-- the row of neighbours being filled -/
def NbS (s S : CS) (n : Nat) (W : Nat → Int) (p : Nat) : Prop := wfS S ∧ S.1 s.2.1 = some (true, true, 0, rowC (fun i => .int (Int32.ofInt (W i))) n) ∧ (∀ q, q ≠ s.2.1 → S.1 q = s.1 q) ∧ S.2.1 = s.2.1 + 1 ∧ S.2.2.1 = s.2.2.1 + 1 + p ∧ S.2.2.2 = s.2.2.2 + n + 4 * p
theorem NbS_W {n p : Nat} {W W' : Nat → Int} (r : NbS s S n W p) (h : ∀ i, i < n → W i = W' i) : NbS s S n W' p := by
  obtain ⟨r1, r2, r3⟩ := r
  refine ⟨r1, ?_, r3⟩
  rw [r2]
  congr 4
  exact rowC_congr (fun i hi => by rw [h i hi])
theorem nb_side (hw : wfS s) (F : FNx s t L nl nr st ln lab LC fd fL ou ol mp pid nid aid si rc rl sp sl) {p q : Nat} {W : Nat → Int} (r : NbS s S (spn L nl st ln nr + 1) W p) (hq : q < 2 * nP L nl) {A : Type} (g : CS → Option A) : ∃ S', Option.bind (toN S [65] (.ref (si q))) (fun a12 => Option.bind (xN S [(65, 4)] a12) (fun a13 => Option.bind (xN S [(65, 5)] a13) (fun a14 => Option.bind (xN S [(66, 3)] a14) (fun a15 => Option.bind (xI S [(62, 0)] a15) (fun x16 => Option.bind (aI S [0, 12] s.2.1 (x16 + 1)) (fun x17 => (if isK S [65] a12 = true then Option.bind (c_884 a12 S) (fun x18 => Option.bind (aPut S 0 s.2.1 (x16 + 1) (.int (x17 + x18))) (fun s19 => g s19)) else none))))))) = g S' ∧ NbS s S' (spn L nl st ln nr + 1) (fun i => W i + wB L nl lab i q) p := by
  have hle := FN_le F
  obtain ⟨r1, r2, r3, r4, r5, r6⟩ := r
  have F' : FNx S t L nl nr st ln lab LC fd fL ou ol mp pid nid aid si rc rl sp sl := FN_ext F (fun a c e => by rw [r3 a (by have := wf_lt hw e; omega)]; exact e)
  obtain ⟨_, _, _, _, _, _, _, z1, _, _⟩ := FN_sr F' hq
  obtain ⟨kb, svb, a', b', c', _, _, w1, w2, w3⟩ := FN_sr F' (bkS_lt hq)
  obtain ⟨i, hi, ei⟩ : ∃ i, i < spn L nl st ln nr + 1 ∧ gLL (gS L nl) lab (bkS q) = (i : Int) - 1 := by
    rcases LL_lt F.1 (bkS q) with h | ⟨n, h, hn⟩
    · exact ⟨0, by omega, by omega⟩
    · exact ⟨n + 1, by omega, by omega⟩
  have e1 : Int32.ofInt (gLL (gS L nl) lab (bkS q)) + 1 = Int32.ofNat i := by
    rw [ei, show (1 : Int32) = Int32.ofInt 1 from rfl, i_addI, ← i_ofI]
    congr 1; omega
  rw [toN_o z1 rfl, Option.bind_some, xN_o (b := si (bkS q)) z1 rfl rfl, Option.bind_some, xN_o (b := rc kb) w1 rfl rfl, Option.bind_some, xN_o (b := spo ou sp (gLL (gS L nl) lab (bkS q))) w2 rfl rfl, Option.bind_some, xI_o (x := Int32.ofInt (gLL (gS L nl) lab (bkS q))) w3 rfl rfl, Option.bind_some, e1, aI_r r2 (by decide) rfl hi (by omega) rfl, Option.bind_some, if_pos (isK_t z1 rfl), c_slen F' hq, Option.bind_some, aPut_r r2 hi (by omega), Option.bind_some]
  refine ⟨_, rfl, wf_cup r1 (wf_lt r1 r2), ?_, fun b hb => ?_, r4, r5, r6⟩
  · rw [cup_eq]
    congr 4
    refine rowC_congr (fun k hk => ?_)
    rw [i_addI]
    show _ = Value.int (Int32.ofInt (W k + if gLL (gS L nl) lab (bkS q) = (k : Int) - 1 then (sln L nl q : Int) else 0))
    by_cases z : k = i
    · rw [if_pos z, if_pos (by rw [ei, z]), z]
    · rw [if_neg z, if_neg (by omega), Int.add_zero]
  · rw [cup_ne hb]; exact r3 b hb
/-- all sides of a ring -/
theorem nb_ring (hw : wfS s) (F : FNx s t L nl nr st ln lab LC fd fL ou ol mp pid nid aid si rc rl sp sl) {p k : Nat} {W : Nat → Int} (r : NbS s S (spn L nl st ln nr + 1) W p) (hk : k < nr) {m : Int32} (r2 : s.1 (rl k) = some (true, false, 1013, .int m :: rowC (fun j => .ref (si (itn (gNx L nl) j (st k)))) (ln k))) : Tr (wh (S := CS × Int32) (X := CS) (fun p20 => Option.bind (alHas p20.1 (rl k) p20.2) (fun x10 => (if x10 = 0 then some (.inr p20.1) else Option.bind (alNext p20.1 (rl k) m p20.2) (fun e11 => Option.bind (toN p20.1 [65] e11) (fun a12 => Option.bind (xN p20.1 [(65, 4)] a12) (fun a13 => Option.bind (xN p20.1 [(65, 5)] a13) (fun a14 => Option.bind (xN p20.1 [(66, 3)] a14) (fun a15 => Option.bind (xI p20.1 [(62, 0)] a15) (fun x16 => Option.bind (aI p20.1 [0, 12] s.2.1 (x16 + 1)) (fun x17 => (if isK p20.1 [65] a12 = true then Option.bind (c_884 a12 p20.1) (fun x18 => Option.bind (aPut p20.1 0 s.2.1 (x16 + 1) (.int (x17 + x18))) (fun s19 => some (.inl (s19, p20.2 + 1)))) else none))))))))))) (S, 0)) (fun S' => NbS s S' (spn L nl st ln nr + 1) (fun i => W i + gsm (wB L nl lab i) (rgs L nl st ln k)) p) := by
  have hle := FN_le F
  obtain ⟨_, _, _, _, r3, r4⟩ := FN_rc F hk
  refine wh_cnt (ln k) (fun q (a : CS × Int32) => a.2 = Int32.ofNat q ∧ NbS s a.1 (spn L nl st ln nr + 1) (fun i => W i + gsm (wB L nl lab i) (orb (gNx L nl) q (st k))) p) ?_ ?_ ⟨rfl, NbS_W r (fun i _ => by show W i = W i + 0; omega)⟩
  · rintro q ⟨U, _⟩ hq ⟨rfl, hU⟩
    right
    dsimp only at hU ⊢
    have u2 : U.1 (rl k) = some (true, false, 1013, .int m :: rowC (fun j => .ref (si (itn (gNx L nl) j (st k)))) (ln k)) := by
      rw [hU.2.2.1 _ (by have := wf_lt hw r2; omega)]; exact r2
    rw [alHas_r u2 (by omega) (by omega), if_neg (by omega), Option.bind_some, if_neg (by decide), alNext_r u2 hq (by omega), Option.bind_some]
    obtain ⟨S', h1, h2⟩ := nb_side hw F hU (r3 q) (A := Sum (CS × Int32) CS) (fun s19 => some (.inl (s19, Int32.ofNat q + 1)))
    rw [h1, i_suc]
    refine ⟨_, rfl, rfl, NbS_W h2 (fun i _ => ?_)⟩
    rw [orb_s, sm_app, sm_sg, Int.add_assoc]
  · rintro ⟨U, _⟩ ⟨rfl, hU⟩
    dsimp only at hU ⊢
    have u2 : U.1 (rl k) = some (true, false, 1013, .int m :: rowC (fun j => .ref (si (itn (gNx L nl) j (st k)))) (ln k)) := by
      rw [hU.2.2.1 _ (by have := wf_lt hw r2; omega)]; exact r2
    rw [alHas_r u2 (by omega) (by omega), if_pos rfl, Option.bind_some, if_pos rfl]
    exact ⟨_, rfl, hU⟩
theorem c_nb (hw : wfS s) (F : FNx s t L nl nr st ln lab LC fd fL ou ol mp pid nid aid si rc rl sp sl) {f : List Value} (g : s.1 102 = some (true, false, 67, .ref 103 :: .ref fd :: f)) {j : Nat} (hj : j < spn L nl st ln nr) : ∃ S, c_913 102 (sp j) s = some (s.2.1, S) ∧ NbS s S (spn L nl st ln nr + 1) (fun i => gsm (fun k => gsm (wB L nl lab i) (rgs L nl st ln k)) (rgl L nl nr st ln lab j)) (rgl L nl nr st ln lab j).length := by
  have hle := FN_le F
  have rle := rgl_len F hj
  have c1 := (F.2.2.2.2.2.1 j hj).1
  obtain ⟨_, d1, ⟨m, d2⟩, _⟩ := F.2
  unfold c_913
  rw [xN_o (b := fd) g rfl rfl, Option.bind_some, xN_o (b := fL) d1 rfl rfl, Option.bind_some, if_pos (isK_t d2 rfl), alSize_r d2, Option.bind_some, i_suc]
  obtain ⟨S0, e0, w0⟩ := nwa_o (s := s) 0 (.int 0) (spn L nl st ln nr + 1) (by omega) hw
  rw [e0, Option.bind_some]
  dsimp only
  have key : ∀ X : Option CS, Tr X (fun S => NbS s S (spn L nl st ln nr + 1) (fun i => gsm (fun k => gsm (wB L nl lab i) (rgs L nl st ln k)) (rgl L nl nr st ln lab j)) (rgl L nl nr st ln lab j).length) → ∃ S, Option.bind X (fun v44 => some (s.2.1, v44)) = some (s.2.1, S) ∧ NbS s S (spn L nl st ln nr + 1) (fun i => gsm (fun k => gsm (wB L nl lab i) (rgs L nl st ln k)) (rgl L nl nr st ln lab j)) (rgl L nl nr st ln lab j).length := by
    rintro X ⟨x, rfl, h⟩
    exact ⟨x, rfl, h⟩
  refine key _ ?_
  refine wh_cnt (rgl L nl nr st ln lab j).length (fun p (a : CS × Int32) => a.2 = Int32.ofNat p ∧ NbS s a.1 (spn L nl st ln nr + 1) (fun i => gsm (fun k => gsm (wB L nl lab i) (rgs L nl st ln k)) ((rgl L nl nr st ln lab j).take p)) p) ?_ ?_ ⟨rfl, w0.2.2.2.1, w0.1, w0.2.1, w0.2.2.1, by rw [w0.2.2.2.2.1], by rw [w0.2.2.2.2.2]; rfl⟩
  · rintro p ⟨U, _⟩ hp ⟨rfl, hU⟩
    right
    dsimp only at hU ⊢
    have FU : FNx U t L nl nr st ln lab LC fd fL ou ol mp pid nid aid si rc rl sp sl := FN_ext F (fun a c e => by rw [hU.2.2.1 a (by have := wf_lt hw e; omega)]; exact e)
    have c1' := (FU.2.2.2.2.2.1 j hj).1
    have hm := rgl_lt hj (show (rgl L nl nr st ln lab j).getD p 0 ∈ _ by rw [getD_lt hp]; exact List.getElem_mem hp)
    obtain ⟨sv, _, r1, ⟨m, r2⟩, _, r4⟩ := FN_rc F hm
    have r2s := r2
    rw [← hU.2.2.1 _ (by have := wf_lt hw r1; omega)] at r1
    rw [← hU.2.2.1 _ (by have := wf_lt hw r2; omega)] at r2
    rw [if_pos (isK_t c1' rfl), c_rgs FU hj, Option.bind_some, if_pos ((i_lt (by omega) (by omega)).mpr hp), if_pos (isK_t c1' rfl), c_rgA FU hj hp, Option.bind_some, Option.bind_some, xN_o (b := rl ((rgl L nl nr st ln lab j).getD p 0)) r1 rfl rfl, Option.bind_some, if_pos (isK_t r2 rfl), alMc_l r2, Option.bind_some]
    dsimp only
    have hU1 : NbS s (chg U 1 4) (spn L nl st ln nr + 1) (fun i => gsm (fun k => gsm (wB L nl lab i) (rgs L nl st ln k)) ((rgl L nl nr st ln lab j).take p)) (p + 1) := by
      obtain ⟨a1, a2, a3, a4, a5, a6⟩ := hU
      exact ⟨wf_chg a1, a2, a3, a4, by show U.2.2.1 + 1 = _; omega, by show U.2.2.2 + 4 = _; omega⟩
    obtain ⟨x, h1, h2⟩ := nb_ring hw F hU1 hm r2s
    rw [h1, Option.bind_some, i_suc]
    refine ⟨_, rfl, rfl, NbS_W h2 (fun i _ => ?_)⟩
    rw [take_s hp, sm_app, sm_sg]
  · rintro ⟨U, _⟩ ⟨rfl, hU⟩
    dsimp only at hU ⊢
    have FU : FNx U t L nl nr st ln lab LC fd fL ou ol mp pid nid aid si rc rl sp sl := FN_ext F (fun a c e => by rw [hU.2.2.1 a (by have := wf_lt hw e; omega)]; exact e)
    have c1' := (FU.2.2.2.2.2.1 j hj).1
    rw [if_pos (isK_t c1' rfl), c_rgs FU hj, Option.bind_some, if_neg (fun z => by have := (i_lt (by omega) (by omega)).mp z; omega)]
    rw [List.take_length] at hU
    exact ⟨_, rfl, hU⟩
theorem t_bes (F : FT T L nl nr st ln lab nm) {j i : Nat} (hj : j < spn L nl st ln nr) (hi : i < spn L nl st ln nr + 1) : t_719 (Int32.ofNat j) (Int32.ofInt ((i : Int) - 1)) T = some (Int32.ofInt (gsm (fun k => gsm (wB L nl lab i) (rgs L nl st ln k)) (rgl L nl nr st ln lab j))) := by
  have hle := FT_le F
  rw [rgl_eq F.1 F.2.1 F.2.2.2.1 hj, ← rg_sumF F.1 F.2.1 F.2.2.2.1.1 (j : Int) (wB L nl lab i)]
  unfold t_719
  rw [FT_130 F, i_mulL]
  refine tr_eq (Tr.bd (P := fun v => v = Int32.ofInt (gsm (fun q => if gLL (gS L nl) lab q = j then wB L nl lab i q else 0) (List.range (2 * nP L nl)))) (wh_cnt (2 * nP L nl) (fun n (a : Int32 × Int32) => a.2 = Int32.ofNat n ∧ a.1 = Int32.ofInt (gsm (fun q => if gLL (gS L nl) lab q = j then wB L nl lab i q else 0) (List.range n))) ?_ ?_ ⟨rfl, rfl⟩) ?_)
  · rintro n ⟨v, _⟩ hn ⟨rfl, hv⟩
    right
    dsimp only at hv ⊢
    rw [if_pos ((i_lt (by omega) (by omega)).mpr hn), t_lf F hn, Option.bind_some, i_suc]
    have e := LL_eq F (s := n) hj
    have e3 := sm_r (fun q => if gLL (gS L nl) lab q = j then wB L nl lab i q else 0) n
    by_cases z : gLL (gS L nl) lab n = j
    · rw [if_pos z] at e3
      rw [if_pos (e.mpr z), t_rt F hn, Option.bind_some]
      have e4 : Int32.ofInt (gLL (gS L nl) lab (bkS n)) = Int32.ofInt ((i : Int) - 1) ↔ gLL (gS L nl) lab (bkS n) = (i : Int) - 1 := by
        constructor
        · intro h
          have h := congrArg Int32.toInt h
          have b := LL_lt F (bkS n)
          rw [Int32.toInt_ofInt_of_le (by omega) (by omega), Int32.toInt_ofInt_of_le (by omega) (by omega)] at h
          exact h
        · intro h; rw [h]
      unfold wB at e3
      by_cases y : gLL (gS L nl) lab (bkS n) = (i : Int) - 1
      · rw [if_pos y] at e3
        rw [if_pos (e4.mpr y), t_ln F hn, Option.bind_some, Option.bind_some]
        refine ⟨_, rfl, rfl, ?_⟩
        dsimp only
        unfold wB at hv ⊢
        rw [e3, hv, i_addI]
      · rw [if_neg y] at e3
        rw [if_neg (fun w => y (e4.mp w)), Option.bind_some]
        refine ⟨_, rfl, rfl, ?_⟩
        dsimp only
        unfold wB at hv ⊢
        rw [e3, hv, ← i_addI]; rfl
    · rw [if_neg z] at e3
      rw [if_neg (fun w => z (e.mp w)), Option.bind_some]
      refine ⟨_, rfl, rfl, ?_⟩
      dsimp only
      rw [e3, hv, ← i_addI]; rfl
  · rintro ⟨v, _⟩ ⟨rfl, hv⟩
    dsimp only at hv ⊢
    rw [if_neg (fun z => by have := (i_lt (by omega) (by omega)).mp z; omega)]
    exact ⟨_, rfl, hv⟩
  · rintro v rfl
    exact ⟨_, rfl, rfl⟩
end
