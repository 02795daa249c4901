/-! the library: boxes -/
section
variable {E : lE} {y : lY} {s : CS} {A0 A' : lMem} {G : lHeap}
theorem lAb.up {J : lJ} {M A : lMem} (h : lAb J G M A) {n m : Nat} (h1 : A.2.1 ≤ n) (h2 : A.2.2 ≤ m) : lAb J G M (A.1, n, m) := by
  obtain ⟨own, cr, k1, k2, k3⟩ := h
  exact ⟨own, cr, Nat.le_trans k1 h1, Nat.le_trans k2 h2, k3⟩
theorem jp98 : JP_98 (lAb (lJd E G) G) E := by
  intro y s A0 a w hW hr M hM
  rw [hr.1]
  refine ⟨(.inl none, M), _, ?_, hM, trivial, rfl, rfl⟩
  refine lGo.sp (D := 0) pg_98 (Nat.le_of_ble_eq_true rfl) ?_
  repeat (refine lGo.step rfl (fun _ => rfl) ?_; try dsimp only)
  exact lGo.done rfl (fun _ => rfl)
theorem sp_99 {M : lMem} {a : Nat} : lSp E prog 1 99 [.ref a] M (.inl none, M) := by
  refine lGo.sp (D := 0) pg_99 (Nat.le_of_ble_eq_true rfl) ?_
  repeat (refine lGo.step rfl (fun _ => rfl) ?_; try dsimp only)
  exact lGo.done rfl (fun _ => rfl)
theorem sp_108 {M : lMem} {a : Nat} {v : Int32} {x : Value} (h : M.1 a = some (true, false, 19, [x])) : lSp E prog 2 108 [.ref a, .int v] M (.inl none, (lUpd M.1 a (true, false, 19, [.int v]), M.2.1, M.2.2)) := by
  refine lGo.sp (D := 1) pg_108 (Nat.le_of_ble_eq_true rfl) ?_
  repeat (refine lGo.step rfl (fun _ => rfl) ?_; try dsimp only)
  refine lGo.callV rfl rfl h rfl ⟨Nat.le_of_ble_eq_true rfl, Nat.le_of_ble_eq_true rfl⟩ sp_99 ?_
  repeat (refine lGo.step rfl (fun _ => rfl) ?_; try dsimp only)
  refine lGo.put rfl h rfl (Nat.le_of_ble_eq_true rfl) rfl ?_
  exact lGo.done rfl (fun _ => rfl)
theorem sp_117 {M : lMem} {a : Nat} {v : Int64} {x : Value} (h : M.1 a = some (true, false, 20, [x])) : lSp E prog 2 117 [.ref a, .long v] M (.inl none, (lUpd M.1 a (true, false, 20, [.long v]), M.2.1, M.2.2)) := by
  refine lGo.sp (D := 1) pg_117 (Nat.le_of_ble_eq_true rfl) ?_
  repeat (refine lGo.step rfl (fun _ => rfl) ?_; try dsimp only)
  refine lGo.callV rfl rfl h rfl ⟨Nat.le_of_ble_eq_true rfl, Nat.le_of_ble_eq_true rfl⟩ sp_99 ?_
  repeat (refine lGo.step rfl (fun _ => rfl) ?_; try dsimp only)
  refine lGo.put rfl h rfl (Nat.le_of_ble_eq_true rfl) rfl ?_
  exact lGo.done rfl (fun _ => rfl)
theorem jp109 : JP_109 (lAb (lJd E G) G) E := by
  intro y s A0 v w hW hr M hM
  obtain ⟨own, cr, hA⟩ := id hM
  obtain ⟨q, w', h1, h2, h3⟩ := hr
  obtain ⟨w2, g, _⟩ := hA.pl ((cp_hid h3).trans h2) (by decide)
  rw [h1]
  refine ⟨(.inl (some (.int v)), M), _, ?_, hM, trivial, rfl, rfl⟩
  refine lGo.sp (D := 0) pg_109 (Nat.le_of_ble_eq_true rfl) ?_
  repeat (refine lGo.step rfl (fun _ => rfl) ?_; try dsimp only)
  refine lGo.get rfl g rfl rfl ?_
  exact lGo.done rfl (fun _ => rfl)
/-- the answer is a box that is kept ready -/
theorem jp_old {D mi : Nat} {args : List Value} {M : lMem} {e : Value} {q : Nat} (hW : cW E y s A0) (hM : lAb (lJd E G) G M (cp y s A0)) (hr : relV y.1 A0 e (.ref q)) (h : lSp E prog D mi args M (.inl (some (.ref q)), M)) : ∃ (fin : lF) (A' : lMem), lSp E prog D mi args M fin ∧ lAb (lJd E G) G fin.2 A' ∧ lXk A' fin.1 ∧ oE E y s A0 e (chg s 1 1) fin.1 A' := by
  refine ⟨_, cp y (chg s 1 1) A0, h, ?_, trivial, some q, rfl, y, A0, hW, Ext.same (fun _ _ h => h) (fun _ _ h k => ⟨h, k⟩) (Nat.le_succ _) (fun _ _ h => ⟨h, rfl⟩), hr, rfl⟩
  exact hM.up (Nat.le_succ _) (Nat.le_succ _)
/-- the answer is a new box -/
theorem jp_box {D mi : Nat} {args : List Value} {M : lMem} {e : Value} {ci : Nat} {v : Value} (hW : cW E y s A0) (hM : lAb (lJd E G) G M (cp y s A0)) (hc : ci < 1000) (h6 : raTab.contains (6, ci) = true) (hv : ∀ (A' : lMem) (q : Nat), A'.1 q = some (true, false, ci, [v]) → fx y.1 q = none → relV y.1 A' e (.ref q)) (h : lSp E prog D mi args M (.inl (some (.ref M.2.1)), (lUpd M.1 M.2.1 (true, false, ci, [v]), M.2.1 + 1, M.2.2 + 1))) : ∃ (fin : lF) (A' : lMem), lSp E prog D mi args M fin ∧ lAb (lJd E G) G fin.2 A' ∧ lXk A' fin.1 ∧ oE E y s A0 e (chg s 1 1) fin.1 A' := by
  obtain ⟨hn, hR⟩ := (lAb_ok (G := G) (lJd_ok (E := E) (G := G))).2.2.2 M (cp y s A0) false ci [v] hM hc (fun _ => h6)
  obtain ⟨k1, k2, k3, k4, k5⟩ := jp_hid (m := 1) (c := (true, false, ci, [v])) hW hn
  refine ⟨_, _, h, ?_, trivial, some M.2.1, rfl, y, _, k1, k2, hv _ _ (lUpd_eq ..) k4, rfl⟩
  rw [k3]
  exact hR
theorem jp107 (hJE : jE E G) : JP_107 (lAb (lJd E G) G) E := by
  intro y s A0 v x hW hx M hM
  cases hx
  obtain ⟨own, cr, hA⟩ := id hM
  obtain ⟨_, _, hE, _⟩ := hJE
  have hnew : lGo E prog 2 cd_107 12 (lv_args 0 [.int v], [], M) (.inl (some (.ref M.2.1)), (lUpd M.1 M.2.1 (true, false, 19, [.int v]), M.2.1 + 1, M.2.2 + 1)) := by
    repeat (refine lGo.step rfl (fun _ => rfl) ?_; try dsimp only)
    refine lGo.callV rfl rfl (lUpd_eq ..) rfl ⟨Nat.le_of_ble_eq_true rfl, Nat.le_of_ble_eq_true rfl⟩ (sp_108 (lUpd_eq ..)) ?_
    dsimp only
    rw [lUpdU]
    exact lGo.done rfl (fun _ => rfl)
  by_cases h1 : v < -128
  · refine jp_box hW hM (by decide) (by decide) (fun A' q e k => ⟨q, true, rfl, e, k⟩) ?_
    refine lGo.sp (D := 2) pg_107 (Nat.le_of_ble_eq_true rfl) ?_
    repeat (refine lGo.step rfl (fun _ => rfl) ?_; try dsimp only)
    refine lGo.brT (decide_eq_true h1) ?_
    exact hnew
  by_cases h2 : 127 < v
  · refine jp_box hW hM (by decide) (by decide) (fun A' q e k => ⟨q, true, rfl, e, k⟩) ?_
    refine lGo.sp (D := 2) pg_107 (Nat.le_of_ble_eq_true rfl) ?_
    repeat (refine lGo.step rfl (fun _ => rfl) ?_; try dsimp only)
    refine lGo.brF (decide_eq_false h1) ?_
    refine lGo.step rfl (fun _ => rfl) ?_
    refine lGo.env rfl hE ?_
    refine lGo.step rfl (fun _ => rfl) ?_
    refine lGo.brT (decide_eq_true h2) ?_
    exact hnew
  obtain ⟨ca, rs, g1, g2, g3, g4, g5⟩ := hW.2.2.2.2.2.2.2.2.1
  obtain ⟨k, hk, hkv⟩ : ∃ k, k < 256 ∧ v + 128 = Int32.ofNat k := by
    rw [Int32.lt_iff_toInt_lt, show (-128 : Int32).toInt = -128 from rfl] at h1
    rw [Int32.lt_iff_toInt_lt, show (127 : Int32).toInt = 127 from rfl] at h2
    refine ⟨(v.toInt + 128).toNat, by omega, Int32.toInt.inj ?_⟩
    rw [Int32.toInt_add, show (128 : Int32).toInt = 128 from rfl, Int.bmod_eq_of_le (by omega) (by omega), Int32.toInt_ofNat_of_lt (by omega)]
    omega
  obtain ⟨q, q1, q2, q3⟩ := g5 k hk
  obtain ⟨w1, c1, _⟩ := hA.pl ((cp_hid g3).trans g2) (by decide)
  have ev : Int32.ofNat k - 128 = v := by
    rw [← hkv, Int32.add_sub_cancel]
  refine jp_old (q := q) hW hM ⟨q, false, rfl, by rw [← ev]; exact q2, q3⟩ ?_
  refine lGo.sp (D := 2) pg_107 (Nat.le_of_ble_eq_true rfl) ?_
  repeat (refine lGo.step rfl (fun _ => rfl) ?_; try dsimp only)
  refine lGo.brF (decide_eq_false h1) ?_
  refine lGo.step rfl (fun _ => rfl) ?_
  refine lGo.env rfl hE ?_
  refine lGo.step rfl (fun _ => rfl) ?_
  refine lGo.brF (decide_eq_false h2) ?_
  refine lGo.env rfl g1 ?_
  repeat (refine lGo.step rfl (fun _ => rfl) ?_; try dsimp only)
  rw [hkv]
  refine lGo.ald rfl c1 rfl (i_nlt0 (by omega)) (by rw [clampN (by omega)]; exact q1) ?_
  exact lGo.done rfl (fun _ => rfl)
end
