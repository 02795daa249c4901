/-! the plan's readers: sides with their spaces; size, at, side -/
section
variable {own : Nat → Nat} {s : CS} {t T : TS} {L : PLn} {nl nr : Nat} {st ln : Nat → Nat} {lab : Int → Int → Int} {LC : Nat → Nat} {fd fL ou ol mp : Nat} {pid nid aid : Nat → Nat → Nat} {si rc rl sp sl : Nat → Nat} {nm : Nat → Int32}
theorem c_spo (F : FNx s t L nl nr st ln lab LC fd fL ou ol mp pid nid aid si rc rl sp sl) {G : Int} (hG : G = -1 ∨ ∃ n : Nat, G = n ∧ n < spn L nl st ln nr) : ∃ a b c, s.1 (spo ou sp G) = some (true, false, 62, [.int (Int32.ofInt G), a, b, c]) := by
  obtain ⟨_, _, _, ⟨e1, _⟩, d4, _⟩ := F.2
  rcases hG with rfl | ⟨n, rfl, hn⟩
  · exact ⟨_, _, _, by unfold spo; rw [if_pos rfl]; exact e1⟩
  · refine ⟨_, _, _, by unfold spo; rw [if_neg (by omega), Int.toNat_natCast, i_ofI]; exact (d4 n hn).1⟩
/-- a side: its ring, and the space to its left -/
theorem FN_sr (F : FNx s t L nl nr st ln lab LC fd fL ou ol mp pid nid aid si rc rl sp sl) {q : Nat} (hq : q < 2 * nP L nl) : ∃ k sv a b c, k < nr ∧ q ∈ rgs L nl st ln k ∧ s.1 (si q) = some (sdC L nl LC nid si (.ref (rc k)) q) ∧ s.1 (rc k) = some (true, false, 66, [.ref (rl k), sv, .int (Int32.ofInt (gtrn (gS L nl) (rgs L nl st ln k))), .ref (spo ou sp (gLL (gS L nl) lab q))]) ∧ s.1 (spo ou sp (gLL (gS L nl) lab q)) = some (true, false, 62, [.int (Int32.ofInt (gLL (gS L nl) lab q)), a, b, c]) := by
  obtain ⟨⟨rv, G, hrv⟩, _, _, _, _, d5, _⟩ := F.2
  obtain ⟨k, hk, hm⟩ := F.1.2.1.2.2.2 q hq
  have y1 := (GSt_sd F.1.1 G hq).1
  rw [hrv q k hk hm] at y1
  have eL := lb_fc F.1.1 F.1.2.1 F.1.2.2.2.1.1 hk hm
  obtain ⟨a, b, c, e⟩ := c_spo F (LL_lt F.1 q)
  refine ⟨k, .ref (nid (sX L nl (st k)) (sY L nl (st k))), a, b, c, hk, hm, y1, ?_, e⟩
  have z := (d5 k hk).2.2.1
  unfold rgC at z
  have hv : (if lfB L nl st ln k = true then Value.ref (sp (spn L nl st ln k)) else .ref (spo ou sp (fcS L nl st lab k))) = .ref (spo ou sp (fcS L nl st lab k)) := by
    by_cases w : lfB L nl st ln k = true
    · rw [if_pos w]
      have e2 := F.1.2.2.2.1.2.2 k hk w
      rw [e2]
      unfold spo
      rw [if_neg (by omega), Int.toNat_natCast]
    · rw [if_neg w]
  rw [z, eL]
  exact congrArg (fun v => some (true, false, 66, [.ref (rl k), .ref (nid (sX L nl (st k)) (sY L nl (st k))), .int (Int32.ofInt (gtrn (gS L nl) (rgs L nl st ln k))), v])) hv
theorem arL_b (j : Nat) : 0 ≤ arL lab j ∧ arL lab j ≤ 576 := by
  unfold arL gsB
  refine ⟨sm_nn (fun a _ => sm_nn (fun b _ => by dsimp only; split <;> omega)), ?_⟩
  have h : ∀ a b : Nat, (if lab a b = j then (1 : Int) else 0) ≤ 1 := fun a b => by split <;> omega
  refine Int.le_trans (sm_le (fun a _ => sm_le (fun b _ => h a b))) ?_
  decide
/-- a space's area -/
theorem c_area (F : FNx s t L nl nr st ln lab LC fd fL ou ol mp pid nid aid si rc rl sp sl) {j : Nat} (hj : j < spn L nl st ln nr) : c_877 (sp j) s = some (Int32.ofInt (arL lab j), chg s 1 4) := by
  have hle := FN_le F
  have il := inF_len (L := L) (nl := nl) (nr := nr) (st := st) (ln := ln) (lab := lab) (F := (j : Int))
  obtain ⟨_, _, _, _, d4, d5, _⟩ := F.2
  obtain ⟨e1, _, _, m, e2⟩ := d4 j hj
  obtain ⟨k1, k2, k3⟩ := lkF_o hj
  have law : gsm (fun k => gtrn (gS L nl) (rgs L nl st ln k)) (rgl L nl nr st ln lab j) = 2 * arL lab j := by
    have h := Fam.area (gS_geo F.1.1 F.1.2.2.2.1.1) (RF_fam F.1.1 F.1.2.1 F.1.2.2.2.1.1) (F := (j : Int)) (by rw [F.1.2.2.2.1.2.1]; omega)
    unfold arL
    rw [← h, rgl_eq F.1.1 F.1.2.1 F.1.2.2.2.1 hj, sm_filter]
    refine sm_congr (fun k _ => ?_)
    by_cases z : fcS L nl st lab k = j
    · rw [if_pos z, if_pos (decide_eq_true z)]
    · rw [if_neg z, if_neg (fun w => z (of_decide_eq_true w))]
  have law2 : gtrn (gS L nl) (rgs L nl st ln (lkF L nl nr st ln j)) + gsm (fun k => gtrn (gS L nl) (rgs L nl st ln k)) (inF L nl st lab (KRs L nl nr st ln) j) = 2 * arL lab j := law
  unfold c_877
  have z := (d5 _ k1).2.2.1
  rw [xN_o (b := rc (lkF L nl nr st ln j)) e1 rfl rfl, Option.bind_some, xI_o (x := Int32.ofInt (gtrn (gS L nl) (rgs L nl st ln (lkF L nl nr st ln j)))) z rfl rfl, Option.bind_some, xN_o (b := sl j) e1 rfl rfl, Option.bind_some, if_pos (isK_t e2 rfl), alMc_l e2, Option.bind_some]
  dsimp only
  have e2' : (chg s 1 4).1 (sl j) = _ := e2
  have ll : ((inF L nl st lab (KRs L nl nr st ln) j).map (fun k => Value.ref (rc k))).length = (inF L nl st lab (KRs L nl nr st ln) j).length := List.length_map ..
  have bb := arL_b (lab := lab) j
  refine tr_eq (Tr.bd (P := fun v => v = Int32.ofInt (2 * arL lab j)) (wh_cnt (inF L nl st lab (KRs L nl nr st ln) j).length (fun n (a : Int32 × Int32) => a.2 = Int32.ofNat n ∧ a.1 = Int32.ofInt (gtrn (gS L nl) (rgs L nl st ln (lkF L nl nr st ln j)) + gsm (fun k => gtrn (gS L nl) (rgs L nl st ln k)) ((inF L nl st lab (KRs L nl nr st ln) j).take n))) ?_ ?_ ⟨rfl, by show _ = Int32.ofInt (_ + 0); rw [Int.add_zero]⟩) ?_)
  · rintro n ⟨v, _⟩ hn ⟨rfl, hv⟩
    right
    dsimp only at hv ⊢
    have e3 : ((inF L nl st lab (KRs L nl nr st ln) j).map (fun k => Value.ref (rc k)))[n]? = some (.ref (rc ((inF L nl st lab (KRs L nl nr st ln) j)[n]))) := by
      rw [List.getElem?_map, List.getElem?_eq_getElem hn]; rfl
    have hm : (inF L nl st lab (KRs L nl nr st ln) j)[n] < nr := (KRs_m.mp (inF_m.mp (List.getElem_mem hn)).1).1
    have r1 : (chg s 1 4).1 (rc ((inF L nl st lab (KRs L nl nr st ln) j)[n])) = _ := (d5 _ hm).2.2.1
    rw [alHas_l e2' (by omega) (by omega), if_neg (by omega), Option.bind_some, if_neg (by decide), alNext_l e2' e3 (by omega), Option.bind_some, toN_o r1 rfl, Option.bind_some, xI_o (x := Int32.ofInt (gtrn (gS L nl) (rgs L nl st ln ((inF L nl st lab (KRs L nl nr st ln) j)[n])))) r1 rfl rfl, Option.bind_some, i_suc]
    refine ⟨_, rfl, rfl, ?_⟩
    dsimp only
    rw [take_s hn, sm_app, sm_sg, hv, getD_lt hn, i_addI, Int.add_assoc]
  · rintro ⟨v, _⟩ ⟨rfl, hv⟩
    dsimp only at hv ⊢
    rw [alHas_l e2' (by omega) (by omega), if_pos (by rw [ll]), Option.bind_some, if_pos rfl]
    rw [List.take_length, law2] at hv
    exact ⟨_, rfl, hv⟩
  · rintro v rfl
    refine ⟨_, ?_, rfl⟩
    obtain ⟨n, hn⟩ := Int.eq_ofNat_of_zero_le bb.1
    rw [hn]
    rw [show (2 * (n : Int)) = ((2 * n : Nat) : Int) by omega, i_ofI, i_ofI, i_divL (by omega) (by omega), show 2 * n / 2 = n by omega]
theorem t_col {xs : List Nat} (hp : xs.Pairwise (· < ·)) (hx : xs.length ≤ 25) (hb : ∀ x ∈ xs, x < 25) {c n : Nat} (hr : rwR T c xs) (hn : T.1 n = Int32.ofNat xs.length) {v : Nat} (hv : v < 24) : wh (S := Int32) (X := Int32) (fun p2 => (if p2 < (T.1 n) then Option.bind (rdI T c 40 p2) (fun x1 => (if Int32.ofNat v < x1 then some (.inr p2) else some (.inl (p2 + 1)))) else some (.inr p2))) 0 = some (Int32.ofNat (colO xs v)) := by
  have hl := colO_le xs (v : Int)
  rw [hn]
  have key : ∀ X : Option Int32, Tr X (fun x => x = Int32.ofNat (colO xs v)) → X = some (Int32.ofNat (colO xs v)) := by
    rintro X ⟨x, rfl, rfl⟩; rfl
  have rd : ∀ k, k < xs.length → rdI T c 40 (Int32.ofNat k) = some (Int32.ofNat (xs.getD k 0)) := fun k hk => by
    rw [rdI_n (by omega) (by decide), hr k hk]
  have bx : ∀ k, k < xs.length → xs.getD k 0 < 25 := fun k hk => by rw [getD_lt hk]; exact hb _ (List.getElem_mem hk)
  refine key _ ?_
  refine wh_cnt (colO xs v) (fun k (a : Int32) => a = Int32.ofNat k) ?_ ?_ rfl
  · rintro k a hk rfl
    right
    have := bx k (by omega)
    have h1 := (colO_at hp (v : Int) (show k < xs.length by omega)).mpr hk
    rw [if_pos ((i_lt (by omega) (by omega)).mpr (by omega)), rd k (by omega), Option.bind_some, if_neg (fun z => by have := (i_lt (by omega) (by omega)).mp z; omega), i_suc]
    exact ⟨_, rfl, rfl⟩
  · rintro a rfl
    by_cases z : colO xs v < xs.length
    · have := bx _ z
      have h1 := colO_at hp (v : Int) z
      rw [if_pos ((i_lt (by omega) (by omega)).mpr z), rd _ z, Option.bind_some, if_pos ((i_lt (by omega) (by omega)).mpr (by omega))]
      exact ⟨_, rfl, rfl⟩
    · rw [if_neg (fun w => z ((i_lt (by omega) (by omega)).mp w))]
      exact ⟨_, rfl, rfl⟩
theorem t_spAt (F : FT T L nl nr st ln lab nm) {x y : Nat} (hx : x < 24) (hy : y < 24) : t_716 (Int32.ofNat x) (Int32.ofNat y) T = some (Int32.ofInt (lab x y)) := by
  obtain ⟨ps, tg⟩ := F.2.2.2.2.1
  obtain ⟨e1, e2, e3, e4⟩ := tg.2.1
  have lx := edX_len F.1 (Nat.le_refl nl)
  have ly := edY_len F.1 (Nat.le_refl nl)
  unfold t_716
  rw [t_col (edX_pw L nl) lx (edX_lt F.1 (Nat.le_refl nl)) e3 e1 hx, Option.bind_some, t_col (edY_pw L nl) ly (edY_lt F.1 (Nat.le_refl nl)) e4 e2 hy, Option.bind_some, i_mulL, i_add, lb_at tg.2.2 lx ly rfl rfl, Option.bind_some]
/-- the space at a unit -/
theorem c_spAt (F : FNx s t L nl nr st ln lab LC fd fL ou ol mp pid nid aid si rc rl sp sl) {f : List Value} (g : s.1 102 = some (true, false, 67, .ref 103 :: .ref fd :: f)) {x y : Nat} (hx : x < 24) (hy : y < 24) : c_910 102 (Int32.ofNat x) (Int32.ofNat y) s = some (Int32.ofInt (lab x y), chg s 1 4) := by
  unfold c_910
  rw [xN_o (b := fd) g rfl rfl, Option.bind_some, if_pos (isK_t F.2.2.1 rfl), i_mulL, i_mulL, i_suc, i_suc, ← i_ofI, ← i_ofI]
  rw [c_at F.1.1 F.1.2.1 F.1.2.2.2.1 F.2 (i := x) (j := y) (fun q hq => by omega) (Or.inr (by omega)) (by omega) (by omega), Option.bind_some]
  dsimp only
  obtain ⟨a, b, c, e⟩ := c_spo F (F.1.2.2.2.1.lt F.1.1 F.1.2.1 x y)
  have e' : (chg s 1 4).1 (spo ou sp (lab x y)) = _ := e
  rw [Option.bind_some, xI_o (x := Int32.ofInt (lab x y)) e' rfl rfl, Option.bind_some]
end
