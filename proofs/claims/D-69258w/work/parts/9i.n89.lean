/-! the plan's readers: ways, the component: rings of a space, doors in sides -/
section
variable {s S : CS} {t T : TS} {L : PLn} {nl nr : Nat} {st ln : Nat → Nat} {lab : Int → Int → Int} {LC LD : Nat → Nat} {fd fL ou ol mp : Nat} {pid nid aid : Nat → Nat → Nat} {si rc rl sp sl : Nat → Nat} {nd : Nat → Nat}
/-- the rings of a node (number from 1 on, the outside 0) -/
noncomputable def rgN (L : PLn) (nl nr : Nat) (st : Nat → Nat) (lab : Int → Int → Int) (i : Nat) : List Nat := (List.range nr).filter (fun k => decide (fcS L nl st lab k = (i : Int) - 1))
/-- the cell of a node -/
def ndC (ou : Nat) (sp : Nat → Nat) (i : Nat) : Nat := spo ou sp ((i : Int) - 1)
theorem ndC_0 : ndC ou sp 0 = ou := by
  unfold ndC spo
  exact if_pos (by decide)
theorem ndC_s {j : Nat} : ndC ou sp (j + 1) = sp j := by
  unfold ndC spo
  rw [if_neg (by omega), show (((j + 1 : Nat) : Int) - 1).toNat = j by omega]
theorem rgN_lt {i k : Nat} (h : k ∈ rgN L nl nr st lab i) : k < nr := List.mem_range.mp (List.mem_filter.mp h).1
theorem rgN_fc {i k : Nat} (h : k ∈ rgN L nl nr st lab i) : fcS L nl st lab k = (i : Int) - 1 := of_decide_eq_true (List.mem_filter.mp h).2
theorem rgN_nd (i : Nat) : (rgN L nl nr st lab i).Nodup := List.nodup_range.sublist List.filter_sublist
theorem rgN_len (i : Nat) : (rgN L nl nr st lab i).length ≤ nr := Nat.le_trans (List.length_filter_le _ _) (by rw [List.length_range]; exact Nat.le_refl _)
theorem FN_nd (F : FNx s t L nl nr st ln lab LC fd fL ou ol mp pid nid aid si rc rl sp sl) {i : Nat} (hi : i ≤ spn L nl st ln nr) : ∃ a b c, s.1 (ndC ou sp i) = some (true, false, 62, [.int (Int32.ofInt ((i : Int) - 1)), a, b, c]) := by
  refine c_spo F ?_
  by_cases z : i = 0
  · left; omega
  · exact Or.inr ⟨i - 1, by omega, by omega⟩
theorem FN_rgs (F : FNx s t L nl nr st ln lab LC fd fL ou ol mp pid nid aid si rc rl sp sl) {i : Nat} (hi : i ≤ spn L nl st ln nr) : ∃ o r, o ≤ 1 ∧ xR s [(62, 1)] (ndC ou sp i) = some r ∧ (if r = none then some (1 : Int32) else some 0) = some (Int32.ofNat o) ∧ c_875 (ndC ou sp i) s = some (Int32.ofNat ((rgN L nl nr st lab i).length + o)) ∧ ∀ p, p < (rgN L nl nr st lab i).length → c_876 (ndC ou sp i) (Int32.ofNat (p + o)) s = some (some (rc ((rgN L nl nr st lab i).getD p 0))) := by
  have hle := FN_le F
  cases i with
  | zero =>
    have il := inF_len (L := L) (nl := nl) (nr := nr) (st := st) (ln := ln) (lab := lab) (F := (-1 : Int))
    have eN : rgN L nl nr st lab 0 = inF L nl st lab (KRs L nl nr st ln) (-1) := (inF_out F.1.1 F.1.2.2.2.1).symm
    obtain ⟨_, _, _, ⟨e1, m, e2⟩, _, d5, _⟩ := F.2
    rw [ndC_0, eN]
    refine ⟨1, none, Nat.le_refl _, xR_z e1 rfl rfl, by rw [if_pos rfl]; rfl, c_rgO F, fun p hp => ?_⟩
    have e3 : ((inF L nl st lab (KRs L nl nr st ln) (-1)).map (fun k => Value.ref (rc k)))[p]? = some (.ref (rc ((inF L nl st lab (KRs L nl nr st ln) (-1))[p]))) := by
      rw [List.getElem?_map, List.getElem?_eq_getElem hp]; rfl
    have hm : (inF L nl st lab (KRs L nl nr st ln) (-1))[p] < nr := (KRs_m.mp (inF_m.mp (List.getElem_mem hp)).1).1
    unfold c_876
    rw [if_neg (show ¬ Int32.ofNat (p + 1) = 0 from fun w => by have := (i_inj (k := 0) (by omega) (by omega)).mp w; omega), xN_o (b := ol) e1 rfl rfl, Option.bind_some, if_pos (isK_t e2 rfl), show Int32.ofNat (p + 1) - 1 = Int32.ofNat p by rw [← i_suc, Int32.add_sub_cancel], alGet_l e2 e3 (by omega), Option.bind_some, toN_o (d5 _ hm).2.2.1 rfl, Option.bind_some, getD_lt hp]
  | succ j =>
    have hj : j < spn L nl st ln nr := by omega
    have eN : rgN L nl nr st lab (j + 1) = rgl L nl nr st ln lab j := by
      rw [rgl_eq F.1.1 F.1.2.1 F.1.2.2.2.1 hj]
      unfold rgN
      rw [show (((j + 1 : Nat) : Int) - 1) = (j : Int) by omega]
    rw [ndC_s, eN]
    refine ⟨0, some (rc (lkF L nl nr st ln j)), by omega, xR_o (F.2.2.2.2.2.1 j hj).1 rfl rfl, by rw [if_neg (by simp)]; rfl, c_rgs F hj, fun p hp => c_rgA F hj hp⟩
/-- a door in a side, the component -/
theorem c_isIn (F : FNx s t L nl nr st ln lab LC fd fL ou ol mp pid nid aid si rc rl sp sl) {q a da db : Nat} {dr : Value} (hq : q < 2 * nP L nl) (hl : s.1 (LC (kL L nl (q / 2))) = some (lcC L LD (kL L nl (q / 2)))) (hd : s.1 a = some (true, false, 60, [.int (Int32.ofNat da), .int (Int32.ofNat db), dr])) (h1 : da < 100) (h2 : db < 100) : c_916 a (si q) s = some (if max (kAn L nl (q / 2)) da < min (kB L nl (q / 2)) db then 1 else 0) := by
  have hg := F.1.1
  obtain ⟨⟨rv, G, _⟩, _⟩ := F.2
  obtain ⟨y1, y2, y3, y4, y5, y6, y7⟩ := GSt_sd hg G hq
  obtain ⟨x1, x2, x3, x4, b1, b2, b3, b4⟩ := sX_i hg hq
  obtain ⟨p, l, A, B, rfl, e2, rfl, rfl, rfl, e6, e7, e8, e9⟩ := gS_c hq
  have sm := smL_b (L := L) (l := kL L nl (q / 2)) ⟨(hg.2.1 _ e6).1, (hg.2.1 _ e6).2.1, (hg.2.1 _ e6).2.2⟩
  have off : ∀ x y d : Nat, (x : Int) - pX L (kL L nl (q / 2)) + y - pY L (kL L nl (q / 2)) = d → ((Int32.ofNat x - Int32.ofNat (pX L (kL L nl (q / 2)))) + Int32.ofNat y) - Int32.ofNat (pY L (kL L nl (q / 2))) = Int32.ofNat d := fun x y d h => by
    rw [← i_ofI, ← i_ofI, ← i_ofI, ← i_ofI, ← i_ofI, i_subI, i_addI, i_subI, h]
  obtain ⟨u, v, hu, hv, huv, hub⟩ : ∃ u v : Nat, (sX L nl q : Int) - pX L (kL L nl (q / 2)) + sY L nl q - pY L (kL L nl (q / 2)) = u ∧ (eX L nl q : Int) - pX L (kL L nl (q / 2)) + eY L nl q - pY L (kL L nl (q / 2)) = v ∧ (min u v = kAn L nl (q / 2) ∧ max u v = kB L nl (q / 2)) ∧ u < 1000 ∧ v < 1000 := by
    rcases e9 with ⟨_, _, _, z1, z2, z3, z4⟩ | ⟨_, _, _, z1, z2, z3, z4⟩ | ⟨_, _, _, z1, z2, z3, z4⟩ | ⟨_, _, _, z1, z2, z3, z4⟩
    · exact ⟨kAn L nl (q / 2), kB L nl (q / 2), by omega, by omega, by omega, by omega⟩
    · exact ⟨kAn L nl (q / 2), kB L nl (q / 2), by omega, by omega, by omega, by omega⟩
    · exact ⟨kB L nl (q / 2), kAn L nl (q / 2), by omega, by omega, by omega, by omega⟩
    · exact ⟨kB L nl (q / 2), kAn L nl (q / 2), by omega, by omega, by omega, by omega⟩
  have f1 : xN s [(65, 1)] (si q) = some (nid (sX L nl q) (sY L nl q)) := xN_o y1 rfl rfl
  have f2 : xN s [(64, 0)] (nid (sX L nl q) (sY L nl q)) = some (pid (sX L nl q) (sY L nl q)) := xN_o y2 rfl rfl
  have f3 : xI s [(63, 0)] (pid (sX L nl q) (sY L nl q)) = some (Int32.ofNat (sX L nl q)) := xI_o y3 rfl rfl
  have f4 : xI s [(63, 1)] (pid (sX L nl q) (sY L nl q)) = some (Int32.ofNat (sY L nl q)) := xI_o y3 rfl rfl
  have f5 : xN s [(65, 0)] (si q) = some (LC (kL L nl (q / 2))) := xN_o y1 rfl rfl
  have f6 : xI s [(59, 3)] (LC (kL L nl (q / 2))) = some (Int32.ofNat (pX L (kL L nl (q / 2)))) := xI_o hl rfl rfl
  have f7 : xI s [(59, 4)] (LC (kL L nl (q / 2))) = some (Int32.ofNat (pY L (kL L nl (q / 2)))) := xI_o hl rfl rfl
  have f8 : xN s [(65, 2)] (si q) = some (nid (eX L nl q) (eY L nl q)) := xN_o y1 rfl rfl
  have f9 : xN s [(64, 0)] (nid (eX L nl q) (eY L nl q)) = some (pid (eX L nl q) (eY L nl q)) := xN_o y4 rfl rfl
  have g3 : xI s [(63, 0)] (pid (eX L nl q) (eY L nl q)) = some (Int32.ofNat (eX L nl q)) := xI_o y5 rfl rfl
  have g4 : xI s [(63, 1)] (pid (eX L nl q) (eY L nl q)) = some (Int32.ofNat (eY L nl q)) := xI_o y5 rfl rfl
  have g5 : xI s [(60, 0)] a = some (Int32.ofNat da) := xI_o hd rfl rfl
  have g6 : xI s [(60, 1)] a = some (Int32.ofNat db) := xI_o hd rfl rfl
  unfold c_916
  simp only [f1, f2, f3, f4, f5, f6, f7, f8, f9, g3, g4, g5, g6, Option.bind_some, off _ _ _ hu, off _ _ _ hv]
  rw [c_min hub.1 hub.2, huv.1, Option.bind_some, c_max (by omega) (by omega), Option.bind_some, c_max hub.1 hub.2, huv.2, Option.bind_some, c_min (by omega) (by omega), Option.bind_some]
  by_cases z : max (kAn L nl (q / 2)) da < min (kB L nl (q / 2)) db
  · rw [if_pos z, if_pos ((i_lt (by omega) (by omega)).mpr (by omega))]
  · rw [if_neg z, if_neg (fun w => by have := (i_lt (by omega) (by omega)).mp w; omega)]
end
