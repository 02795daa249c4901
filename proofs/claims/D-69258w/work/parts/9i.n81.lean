/-! the plan's readers: sizes -/
section
variable {own : Nat → Nat} {s : CS} {t T : TS} {L : PLn} {nl nr : Nat} {st ln : Nat → Nat} {lab : Int → Int → Int} {nm : Nat → Int32}
noncomputable def arL (lab : Int → Int → Int) (j : Nat) : Int := gsB (fun a b => if lab a b = j then 1 else 0)
noncomputable def rwA (L : PLn) (nl : Nat) (lab : Int → Int → Int) (j r c : Nat) : Int := if lab ((edX L nl).getD c 0 : Nat) ((edY L nl).getD r 0 : Nat) = j then (((edX L nl).getD (c + 1) 0 : Int) - (edX L nl).getD c 0) * (((edY L nl).getD (r + 1) 0 : Int) - (edY L nl).getD r 0) else 0
theorem arL_eq (F : FT T L nl nr st ln lab nm) (j : Nat) : gsm (fun r => gsm (fun c => rwA L nl lab j r c) (List.range ((edX L nl).length - 1))) (List.range ((edY L nl).length - 1)) = arL lab j := by
  rw [sm_swap]
  have h := cmA_mg (L := L) (Lo := L) F.1 F.2.2.2.1.1 F.2.2.2.1.2.1 F.1 F.2.2.2.1.1 F.2.2.2.1.2.1 (mx := edX L nl) (my := edY L nl) ⟨edX_pw L nl, fun q => ⟨Or.inl, fun h => h.elim id id⟩⟩ ⟨edY_pw L nl, fun q => ⟨Or.inl, fun h => h.elim id id⟩⟩ j j
  unfold cmA at h
  unfold arL
  have e : (fun a b => if lab a b = j then (1 : Int) else 0) = fun a b => if lab a b = j ∧ lab a b = j then 1 else 0 := by
    funext a b
    by_cases z : lab a b = j
    · rw [if_pos z, if_pos ⟨z, z⟩]
    · rw [if_neg z, if_neg (fun w => z w.1)]
  rw [e, ← h]
  refine sm_congr (fun k _ => sm_congr (fun l _ => ?_))
  unfold rwA
  by_cases z : lab ((edX L nl).getD k 0 : Nat) ((edY L nl).getD l 0 : Nat) = j
  · rw [if_pos z, if_pos ⟨z, z⟩]
  · rw [if_neg z, if_neg (fun w => z w.1)]
theorem sm_r (f : Nat → Int) (n : Nat) : gsm f (List.range (n + 1)) = gsm f (List.range n) + f n := by rw [List.range_succ, sm_app, sm_sg]
theorem t_area (F : FT T L nl nr st ln lab nm) {j : Nat} (hj : j < spn L nl st ln nr) : wh (S := Int32 × Int32) (X := Int32) (fun p4 => (if p4.2 < (T.1 113) then Option.bind (wh (S := Int32 × Int32) (X := Int32) (fun p10 => (if p10.2 < (T.1 112) then Option.bind (rdI T 60 1764 ((42 * p4.2) + p10.2)) (fun x1 => Option.bind ((if x1 = Int32.ofNat j then Option.bind (rdI T 58 40 p10.2) (fun x2 => Option.bind (rdI T 58 40 (p10.2 - 1)) (fun x3 => Option.bind (rdI T 59 40 p4.2) (fun x4 => Option.bind (rdI T 59 40 (p4.2 - 1)) (fun x5 => some ((x2 - x3) * (x4 - x5)))))) else some 0)) (fun v50 => some (.inl (p10.1 + v50, p10.2 + 1)))) else some (.inr p10.1))) (p4.1, 1)) (fun v54 => some (.inl (v54, p4.2 + 1))) else some (.inr p4.1))) (0, 1) = some (Int32.ofInt (arL lab j)) := by
  have hle := FT_le F
  obtain ⟨ps, tg⟩ := F.2.2.2.2.1
  obtain ⟨e1, e2, e3, e4⟩ := tg.2.1
  have lx := edX_len F.1 (Nat.le_refl nl)
  have ly := edY_len F.1 (Nat.le_refl nl)
  have r1 : ∀ k, k < (edX L nl).length → rdI T 58 40 (Int32.ofNat k) = some (Int32.ofInt ((edX L nl).getD k 0 : Nat)) := fun k hk => by
    rw [rdI_n (by omega) (by decide), e3 k hk, ← i_ofI]
  have r2 : ∀ k, k < (edY L nl).length → rdI T 59 40 (Int32.ofNat k) = some (Int32.ofInt ((edY L nl).getD k 0 : Nat)) := fun k hk => by
    rw [rdI_n (by omega) (by decide), e4 k hk, ← i_ofI]
  have key : ∀ X : Option Int32, Tr X (fun x => x = Int32.ofInt (arL lab j)) → X = some (Int32.ofInt (arL lab j)) := by
    rintro X ⟨x, rfl, rfl⟩; rfl
  refine key _ ?_
  rw [← arL_eq F j, e1, e2]
  refine wh_cnt ((edY L nl).length - 1) (fun r (a : Int32 × Int32) => a.2 = Int32.ofNat (r + 1) ∧ a.1 = Int32.ofInt (gsm (fun r => gsm (fun c => rwA L nl lab j r c) (List.range ((edX L nl).length - 1))) (List.range r))) ?_ ?_ ⟨rfl, rfl⟩
  · rintro r ⟨v, _⟩ hr ⟨rfl, hv⟩
    right
    dsimp only at hv ⊢
    rw [if_pos ((i_lt (by omega) (by omega)).mpr (by omega)), hv]
    have inner : wh (S := Int32 × Int32) (X := Int32) (fun p10 => (if p10.2 < Int32.ofNat (edX L nl).length then Option.bind (rdI T 60 1764 ((42 * Int32.ofNat (r + 1)) + p10.2)) (fun x1 => Option.bind ((if x1 = Int32.ofNat j then Option.bind (rdI T 58 40 p10.2) (fun x2 => Option.bind (rdI T 58 40 (p10.2 - 1)) (fun x3 => Option.bind (rdI T 59 40 (Int32.ofNat (r + 1))) (fun x4 => Option.bind (rdI T 59 40 (Int32.ofNat (r + 1) - 1)) (fun x5 => some ((x2 - x3) * (x4 - x5)))))) else some 0)) (fun v50 => some (.inl (p10.1 + v50, p10.2 + 1)))) else some (.inr p10.1))) (Int32.ofInt (gsm (fun r => gsm (fun c => rwA L nl lab j r c) (List.range ((edX L nl).length - 1))) (List.range r)), 1) = some (Int32.ofInt (gsm (fun r => gsm (fun c => rwA L nl lab j r c) (List.range ((edX L nl).length - 1))) (List.range (r + 1)))) := by
      have key : ∀ X : Option Int32, Tr X (fun x => x = Int32.ofInt (gsm (fun r => gsm (fun c => rwA L nl lab j r c) (List.range ((edX L nl).length - 1))) (List.range (r + 1)))) → X = some (Int32.ofInt (gsm (fun r => gsm (fun c => rwA L nl lab j r c) (List.range ((edX L nl).length - 1))) (List.range (r + 1)))) := by
        rintro X ⟨x, rfl, rfl⟩; rfl
      refine key _ ?_
      rw [sm_r]
      generalize gsm (fun r => gsm (fun c => rwA L nl lab j r c) (List.range ((edX L nl).length - 1))) (List.range r) = A
      refine wh_cnt ((edX L nl).length - 1) (fun c (a : Int32 × Int32) => a.2 = Int32.ofNat (c + 1) ∧ a.1 = Int32.ofInt (A + gsm (fun c => rwA L nl lab j r c) (List.range c))) ?_ ?_ ⟨rfl, by show _ = Int32.ofInt (A + 0); rw [Int.add_zero]⟩
      · rintro c ⟨v, _⟩ hc ⟨rfl, hv⟩
        right
        dsimp only at hv ⊢
        rw [if_pos ((i_lt (by omega) (by omega)).mpr (by omega)), i_mulL, i_add, lb_at tg.2.2 lx ly (colO_in (edX_pw L nl) (show c < (edX L nl).length by omega)).2 (colO_in (edY_pw L nl) (show r < (edY L nl).length by omega)).2, Option.bind_some]
        have le : Int32.ofInt (lab ((edX L nl).getD c 0 : Nat) ((edY L nl).getD r 0 : Nat)) = Int32.ofNat j ↔ lab ((edX L nl).getD c 0 : Nat) ((edY L nl).getD r 0 : Nat) = j := by
          have b := F.2.2.2.1.lt F.1 F.2.1 ((edX L nl).getD c 0 : Nat) ((edY L nl).getD r 0 : Nat)
          refine ofI_eq ?_ ?_ ?_ <;> rcases b with b | ⟨n, b, _⟩ <;> omega
        rw [sm_r]
        have rw1 : rwA L nl lab j r c = if lab ((edX L nl).getD c 0 : Nat) ((edY L nl).getD r 0 : Nat) = j then (((edX L nl).getD (c + 1) 0 : Int) - (edX L nl).getD c 0) * (((edY L nl).getD (r + 1) 0 : Int) - (edY L nl).getD r 0) else 0 := rfl
        by_cases z : lab ((edX L nl).getD c 0 : Nat) ((edY L nl).getD r 0 : Nat) = j
        · rw [if_pos z] at rw1
          rw [if_pos (le.mpr z), r1 (c + 1) (by omega), Option.bind_some, i_subL (by omega), show c + 1 - 1 = c from rfl, r1 c (by omega), Option.bind_some, r2 (r + 1) (by omega), Option.bind_some, i_subL (by omega), show r + 1 - 1 = r from rfl, r2 r (by omega), Option.bind_some, Option.bind_some, i_suc, i_subI, i_subI, ← Int32.ofInt_mul]
          refine ⟨_, rfl, rfl, ?_⟩
          dsimp only
          rw [hv, i_addI, rw1, Int.add_assoc]
        · rw [if_neg z] at rw1
          rw [if_neg (fun w => z (le.mp w)), Option.bind_some, i_suc]
          refine ⟨_, rfl, rfl, ?_⟩
          dsimp only
          rw [hv, rw1, show (0 : Int32) = Int32.ofInt 0 from rfl, i_addI, Int.add_assoc]
      · rintro ⟨v, _⟩ ⟨rfl, hv⟩
        dsimp only at hv ⊢
        rw [if_neg (fun z => by have := (i_lt (by omega) (by omega)).mp z; omega)]
        exact ⟨_, rfl, hv⟩
    rw [inner, Option.bind_some, i_suc]
    exact ⟨_, rfl, rfl, rfl⟩
  · rintro ⟨v, _⟩ ⟨rfl, hv⟩
    dsimp only at hv ⊢
    rw [if_neg (fun z => by have := (i_lt (by omega) (by omega)).mp z; omega)]
    exact ⟨_, rfl, hv⟩
theorem t_perim (F : FT T L nl nr st ln lab nm) {j : Nat} (hj : j < spn L nl st ln nr) : wh (S := Int32 × Int32) (X := Int32) (fun p60 => (if p60.2 < (2 * (T.1 130)) then Option.bind (t_702 p60.2 T) (fun x6 => Option.bind ((if x6 = Int32.ofNat j then Option.bind (t_714 p60.2 T) (fun x7 => some x7) else some 0)) (fun v77 => some (.inl (p60.1 + v77, p60.2 + 1)))) else some (.inr p60.1))) (0, 0) = some (Int32.ofInt (gsm (fun k => gsm (fun q => (sln L nl q : Int)) (rgs L nl st ln k)) (rgl L nl nr st ln lab j))) := by
  have hle := FT_le F
  rw [rgl_eq F.1 F.2.1 F.2.2.2.1 hj, ← rg_sumF F.1 F.2.1 F.2.2.2.1.1 (j : Int) (fun q => (sln L nl q : Int)), FT_130 F, i_mulL]
  have key : ∀ (y : Int) (X : Option Int32), Tr X (fun x => x = Int32.ofInt y) → X = some (Int32.ofInt y) := by
    rintro y X ⟨x, rfl, rfl⟩; rfl
  refine key _ _ ?_
  refine wh_cnt (2 * nP L nl) (fun n (a : Int32 × Int32) => a.2 = Int32.ofNat n ∧ a.1 = Int32.ofInt (gsm (fun q => if gLL (gS L nl) lab q = j then (sln L nl q : Int) else 0) (List.range n))) ?_ ?_ ⟨rfl, rfl⟩
  · rintro n ⟨v, _⟩ hn ⟨rfl, hv⟩
    right
    dsimp only at hv ⊢
    rw [if_pos ((i_lt (by omega) (by omega)).mpr hn), t_lf F hn, Option.bind_some, i_suc]
    have e := LL_eq F (s := n) hj
    have e3 := sm_r (fun q => if gLL (gS L nl) lab q = j then (sln L nl q : Int) else 0) n
    by_cases z : gLL (gS L nl) lab n = j
    · rw [if_pos z] at e3
      rw [if_pos (e.mpr z), t_ln F hn, Option.bind_some, Option.bind_some]
      refine ⟨_, rfl, rfl, ?_⟩
      dsimp only
      rw [e3, hv, i_addI]
    · rw [if_neg z] at e3
      rw [if_neg (fun w => z (e.mp w)), Option.bind_some]
      refine ⟨_, rfl, rfl, ?_⟩
      dsimp only
      rw [e3, hv, ← i_addI]; rfl
  · rintro ⟨v, _⟩ ⟨rfl, hv⟩
    dsimp only at hv ⊢
    rw [if_neg (fun z => by have := (i_lt (by omega) (by omega)).mp z; omega)]
    exact ⟨_, rfl, hv⟩
theorem t_nrg (F : FT T L nl nr st ln lab nm) {j : Nat} (hj : j < spn L nl st ln nr) : t_715 (Int32.ofNat j) T = some (Int32.ofNat (rgl L nl nr st ln lab j).length) := by
  have hle := FT_le F
  obtain ⟨r1, r2⟩ := FT_rg F
  rw [rgl_eq F.1 F.2.1 F.2.2.2.1 hj]
  unfold t_715
  rw [r1]
  refine tr_eq (Tr.bd (P := fun v => v = Int32.ofNat ((List.range nr).filter (fun k => decide (fcS L nl st lab k = j))).length) (wh_cnt nr (fun n (a : Int32 × Int32) => a.2 = Int32.ofNat n ∧ a.1 = Int32.ofNat ((List.range n).filter (fun k => decide (fcS L nl st lab k = j))).length) ?_ ?_ ⟨rfl, rfl⟩) ?_)
  · rintro n ⟨v, _⟩ hn ⟨rfl, hv⟩
    right
    dsimp only at hv ⊢
    rw [if_pos ((i_lt (by omega) (by omega)).mpr hn), (r2 n hn).1, Option.bind_some, t_lf F (st_lt F hn), Option.bind_some, i_suc]
    have eL := LL_eq F (s := st n) hj
    have ef := flt_s (p := fun k => decide (fcS L nl st lab k = j)) (k := n)
    by_cases z : fcS L nl st lab n = j
    · rw [if_pos (decide_eq_true z)] at ef
      rw [if_pos (eL.mpr z), Option.bind_some]
      refine ⟨_, rfl, rfl, ?_⟩
      dsimp only
      rw [ef, hv, i_suc]
    · rw [if_neg (fun w => z (of_decide_eq_true w))] at ef
      rw [if_neg (fun w => z (eL.mp w)), Option.bind_some]
      refine ⟨_, rfl, rfl, ?_⟩
      dsimp only
      rw [ef, hv]
      exact Int32.add_zero _
  · rintro ⟨v, _⟩ ⟨rfl, hv⟩
    dsimp only at hv ⊢
    rw [if_neg (fun z => by have := (i_lt (by omega) (by omega)).mp z; omega)]
    exact ⟨_, rfl, hv⟩
  · rintro v rfl
    exact ⟨_, rfl, rfl⟩
theorem t_size (F : FT T L nl nr st ln lab nm) {j : Nat} (hj : j < spn L nl st ln nr) (v2 : Int32) : t_713 (Int32.ofNat j) v2 T = some (if v2 = 0 then Int32.ofInt (arL lab j) else if v2 = 1 then Int32.ofInt (gsm (fun k => gsm (fun q => (sln L nl q : Int)) (rgs L nl st ln k)) (rgl L nl nr st ln lab j)) else Int32.ofNat (rgl L nl nr st ln lab j).length) := by
  unfold t_713
  rw [t_area F hj, Option.bind_some, t_perim F hj, Option.bind_some, t_nrg F hj, Option.bind_some]
  by_cases a : v2 = 0
  · rw [if_pos a, if_pos a]
  · rw [if_neg a, if_neg a]
    by_cases b : v2 = 1
    · rw [if_pos b, if_pos b]
    · rw [if_neg b, if_neg b]
end
