/-! the plan's readers: how many there are -/
section
variable {own : Nat → Nat} {s : CS} {t T : TS} {L : PLn} {nl nr : Nat} {st ln : Nat → Nat} {lab : Int → Int → Int} {LC : Nat → Nat} {fd fL ou ol mp : Nat} {pid nid aid : Nat → Nat → Nat} {si rc rl sp sl : Nat → Nat} {nm : Nat → Int32}
theorem NDs_pts {mp0 b0 c : Nat} (hg : gdL L nl) (r : NDs b0 s.1 L nl mp0 c (isPt L nl) pid nid aid si) {mc : Int32} {es : List (Value × Value)} (e : s.1 mp0 = some (true, false, 1042, .int mc :: fl es)) {ps : List Nat} (hS : ptS L nl ps) : es.length = ps.length := by
  obtain ⟨⟨mc', es', r1, ⟨m, r2, r2b, r2c⟩, r3⟩, r4, r5, r6⟩ := r
  have ee : es' = es := by
    rw [r1] at e
    have e := Option.some.inj e
    simp only [Prod.mk.injEq, List.cons.injEq, true_and] at e
    have := congrArg prs e.2
    rwa [prs_fl, prs_fl] at this
  subst ee
  have hb : ∀ q ∈ es', ∃ x y, isPt L nl x y ∧ x < 25 ∧ y < 25 ∧ rkP s.1 q.1 = 25 * x + y := by
    intro q hq
    obtain ⟨x, y, hV, e2⟩ := r3 q.1 (List.mem_map.mpr ⟨q, hq, rfl⟩)
    obtain ⟨a1, a2, _, _, _, a3, _⟩ := r4 x y hV
    exact ⟨x, y, hV, a1, a2, by rw [e2, rkP_pt a3 a1 a2]⟩
  have key : es'.map (fun q => (rkP s.1 q.1).toNat) = ps := by
    refine sorted_ext ?_ hS.1 (fun q => ?_)
    · rw [List.pairwise_map]
      refine r2.1.imp_of_mem (fun {a b} ha hb' hab => ?_)
      obtain ⟨_, _, _, _, _, e1⟩ := hb a ha
      obtain ⟨_, _, _, _, _, e2⟩ := hb b hb'
      omega
    · rw [hS.2 q, List.mem_map]
      constructor
      · rintro ⟨k, hk, rfl⟩
        obtain ⟨x, y, h1, h2, h3, h4⟩ := hb k hk
        have := isQ_of hg h1
        rw [show (rkP s.1 k.1).toNat = 25 * x + y by omega]
        exact this
      · rintro ⟨h1, h2⟩
        obtain ⟨k, hk, hr⟩ := r2.2.2 _ _ (r2b _ _ (by omega) (by omega) h2)
        exact ⟨k, hk, by omega⟩
  rw [← key, List.length_map]
theorem inF_out (hg : gdL L nl) (hL : LabN L nl nr st ln lab) : inF L nl st lab (KRs L nl nr st ln) (-1) = (List.range nr).filter (fun k => decide (fcS L nl st lab k = -1)) := by
  refine sorted_ext ?_ (List.pairwise_lt_range.sublist List.filter_sublist) (fun x => ?_)
  · unfold inF KRs
    rw [List.filter_filter]
    exact List.pairwise_lt_range.sublist List.filter_sublist
  · rw [inF_m, KRs_m, List.mem_filter, List.mem_range, decide_eq_true_iff]
    constructor
    · rintro ⟨⟨h1, h2⟩, h3⟩
      exact ⟨h1, h3⟩
    · rintro ⟨h1, h2⟩
      refine ⟨⟨h1, fun z => ?_⟩, h2⟩
      have := hL.2.2 x h1 z
      omega
theorem sm_1 (l : List Nat) : gsm (fun _ => (1 : Int)) l = l.length := by
  induction l with
  | nil => rfl
  | cons a r ih =>
    show 1 + gsm _ r = ((r.length + 1 : Nat) : Int)
    rw [ih]
    omega
theorem t_outer (F : FT T L nl nr st ln lab nm) : t_707 T = some (Int32.ofInt (gsm (fun k => (ln k : Int)) (inF L nl st lab (KRs L nl nr st ln) (-1)))) := by
  have hle := FT_le F
  have law := rg_sumF F.1 F.2.1 F.2.2.2.1.1 (-1) (fun _ => 1)
  rw [← inF_out F.1 F.2.2.2.1] at law
  have e2 : gsm (fun k => gsm (fun _ => (1 : Int)) (rgs L nl st ln k)) (inF L nl st lab (KRs L nl nr st ln) (-1)) = gsm (fun k => (ln k : Int)) (inF L nl st lab (KRs L nl nr st ln) (-1)) := sm_congr (fun k _ => by rw [sm_1]; unfold rgs; rw [orb_len])
  rw [← e2, ← law]
  unfold t_707
  rw [FT_130 F, i_mulL]
  refine tr_eq (Tr.bd (P := fun v => v = Int32.ofInt (gsm (fun q => if gLL (gS L nl) lab q = -1 then 1 else 0) (List.range (2 * nP L nl)))) (wh_cnt (2 * nP L nl) (fun n (a : Int32 × Int32) => a.2 = Int32.ofNat n ∧ a.1 = Int32.ofInt (gsm (fun q => if gLL (gS L nl) lab q = -1 then 1 else 0) (List.range n))) ?_ ?_ ⟨rfl, rfl⟩) ?_)
  · rintro n ⟨v, _⟩ hn ⟨rfl, hv⟩
    right
    dsimp only at hv ⊢
    rw [if_pos ((i_lt (by omega) (by omega)).mpr hn), t_lf F hn, Option.bind_some, i_suc]
    have e := LL_n F (s := n)
    have e3 : gsm (fun q => if gLL (gS L nl) lab q = -1 then 1 else 0) (List.range (n + 1)) = gsm (fun q => if gLL (gS L nl) lab q = -1 then 1 else 0) (List.range n) + (if gLL (gS L nl) lab n = -1 then 1 else 0) := by
      rw [List.range_succ, sm_app, sm_sg]
    by_cases z : gLL (gS L nl) lab n = -1
    · rw [if_pos z] at e3
      rw [if_pos (e.mpr z), Option.bind_some]
      refine ⟨_, rfl, rfl, ?_⟩
      dsimp only
      rw [e3, hv, ← i_addI]; rfl
    · rw [if_neg z] at e3
      rw [if_neg (fun w => z (e.mp w)), Option.bind_some]
      refine ⟨_, rfl, rfl, ?_⟩
      dsimp only
      rw [e3, hv, ← i_addI]; rfl
  · rintro ⟨v, _⟩ ⟨rfl, hv⟩
    dsimp only at hv ⊢
    rw [if_neg (fun z => by have := (i_lt (by omega) (by omega)).mp z; omega)]
    exact ⟨_, rfl, hv⟩
  · rintro v rfl
    exact ⟨_, rfl, rfl⟩
/-- sides of the rings inside the outside -/
theorem c_outer (F : FNx s t L nl nr st ln lab LC fd fL ou ol mp pid nid aid si rc rl sp sl) {m : Int32} (e : s.1 ol = some (true, false, 1013, .int m :: (inF L nl st lab (KRs L nl nr st ln) (-1)).map (fun k => .ref (rc k)))) : wh (S := Int32 × Int32) (X := Int32) (fun p36 => Option.bind (alHas s ol p36.2) (fun x10 => (if x10 = 0 then some (.inr p36.1) else Option.bind (alNext s ol m p36.2) (fun e11 => Option.bind (toN s [66] e11) (fun a12 => Option.bind (xN s [(66, 0)] a12) (fun a13 => (if isK s [13] a13 = true then Option.bind (alSize s a13) (fun x14 => some (.inl (p36.1 + x14, p36.2 + 1))) else none))))))) (0, 0) = some (Int32.ofInt (gsm (fun k => (ln k : Int)) (inF L nl st lab (KRs L nl nr st ln) (-1)))) := by
  have hle := FN_le F
  have il := inF_len (L := L) (nl := nl) (nr := nr) (st := st) (ln := ln) (lab := lab) (F := (-1 : Int))
  have key : ∀ X : Option Int32, Tr X (fun x => x = Int32.ofInt (gsm (fun k => (ln k : Int)) (inF L nl st lab (KRs L nl nr st ln) (-1)))) → X = some (Int32.ofInt (gsm (fun k => (ln k : Int)) (inF L nl st lab (KRs L nl nr st ln) (-1)))) := by
    rintro X ⟨x, rfl, rfl⟩; rfl
  refine key _ ?_
  have ll : ((inF L nl st lab (KRs L nl nr st ln) (-1)).map (fun k => Value.ref (rc k))).length = (inF L nl st lab (KRs L nl nr st ln) (-1)).length := List.length_map ..
  refine wh_cnt (inF L nl st lab (KRs L nl nr st ln) (-1)).length (fun n (a : Int32 × Int32) => a.2 = Int32.ofNat n ∧ a.1 = Int32.ofInt (gsm (fun k => (ln k : Int)) ((inF L nl st lab (KRs L nl nr st ln) (-1)).take n))) ?_ ?_ ⟨rfl, rfl⟩
  · rintro n ⟨v, _⟩ hn ⟨rfl, hv⟩
    right
    dsimp only at hv ⊢
    have e3 : ((inF L nl st lab (KRs L nl nr st ln) (-1)).map (fun k => Value.ref (rc k)))[n]? = some (.ref (rc ((inF L nl st lab (KRs L nl nr st ln) (-1))[n]))) := by
      rw [List.getElem?_map, List.getElem?_eq_getElem hn]; rfl
    have hm : (inF L nl st lab (KRs L nl nr st ln) (-1))[n] < nr := (KRs_m.mp (inF_m.mp (List.getElem_mem hn)).1).1
    obtain ⟨sv, _, r1, ⟨m', r2⟩, r3, r4⟩ := FN_rc F hm
    rw [alHas_l e (by omega) (by omega), if_neg (by omega), Option.bind_some, if_neg (by decide), alNext_l e e3 (by omega), Option.bind_some, toN_o r1 rfl, Option.bind_some, xN_o (b := rl _) r1 rfl rfl, Option.bind_some, if_pos (isK_t r2 rfl), alSize_r r2, Option.bind_some, i_suc]
    refine ⟨_, rfl, rfl, ?_⟩
    dsimp only
    rw [take_s hn, sm_app, sm_sg, hv, getD_lt hn, ← i_ofI, i_addI]
  · rintro ⟨v, _⟩ ⟨rfl, hv⟩
    dsimp only at hv ⊢
    rw [alHas_l e (by omega) (by omega), if_pos (by rw [ll]), Option.bind_some, if_pos rfl]
    rw [List.take_length] at hv
    exact ⟨_, rfl, hv⟩
end
