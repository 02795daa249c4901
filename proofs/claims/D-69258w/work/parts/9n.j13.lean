/-! the library: Long.valueOf; ArrayList.addAll -/
section
variable {E : lE} {y : lY} {s : CS} {A0 A' : lMem} {G : lHeap}
theorem lg_lt {a b : Int64} : (lg_cmp a b < 0) ↔ a < b := by
  unfold lg_cmp
  by_cases h : a > b
  · rw [if_pos h]
    refine ⟨fun z => absurd z (by decide), fun z => ?_⟩
    exact absurd (Int64.lt_trans z h) Int64.lt_irrefl
  · rw [if_neg h]
    by_cases e : a = b
    · rw [if_pos e]
      refine ⟨fun z => absurd z (by decide), fun z => ?_⟩
      rw [e] at z
      exact absurd z Int64.lt_irrefl
    · rw [if_neg e]
      refine ⟨fun _ => ?_, fun _ => by decide⟩
      exact Int64.lt_of_le_of_ne (Int64.not_lt.mp h) e
theorem lg_gt {a b : Int64} : (0 < lg_cmp a b) ↔ b < a := by
  unfold lg_cmp
  by_cases h : a > b
  · rw [if_pos h]
    exact ⟨fun _ => h, fun _ => by decide⟩
  · rw [if_neg h]
    by_cases e : a = b
    · rw [if_pos e]
      exact ⟨fun z => absurd z (by decide), fun z => absurd z h⟩
    · rw [if_neg e]
      exact ⟨fun z => absurd z (by decide), fun z => absurd z h⟩
theorem jp116 : JP_116 (lAb (lJd E G) G) E := by
  intro y s A0 v x hW hx M hM
  cases hx
  obtain ⟨own, cr, hA⟩ := id hM
  have hnew : lGo E prog 2 cd_116 17 (st1 2 (.int 128) (lv_args 0 [.long v]), [], M) (.inl (some (.ref M.2.1)), (lUpd M.1 M.2.1 (true, false, 20, [.long v]), M.2.1 + 1, M.2.2 + 1)) := by
    repeat (refine lGo.step rfl (fun _ => rfl) ?_; try dsimp only)
    refine lGo.callV rfl rfl (lUpd_eq ..) rfl ⟨Nat.le_of_ble_eq_true rfl, Nat.le_of_ble_eq_true rfl⟩ (sp_117 (lUpd_eq ..)) ?_
    dsimp only
    rw [lUpdU]
    exact lGo.done rfl (fun _ => rfl)
  by_cases h1 : v < -128
  · refine jp_box hW hM (by decide) (by decide) (fun A' q e k => ⟨q, true, rfl, e, k⟩) ?_
    refine lGo.sp (D := 2) pg_116 (Nat.le_of_ble_eq_true rfl) ?_
    repeat (refine lGo.step rfl (fun _ => rfl) ?_; try dsimp only)
    refine lGo.brT (decide_eq_true (lg_lt.mpr h1)) ?_
    exact hnew
  by_cases h2 : 127 < v
  · refine jp_box hW hM (by decide) (by decide) (fun A' q e k => ⟨q, true, rfl, e, k⟩) ?_
    refine lGo.sp (D := 2) pg_116 (Nat.le_of_ble_eq_true rfl) ?_
    repeat (refine lGo.step rfl (fun _ => rfl) ?_; try dsimp only)
    refine lGo.brF (decide_eq_false (fun z => h1 (lg_lt.mp z))) ?_
    repeat (refine lGo.step rfl (fun _ => rfl) ?_; try dsimp only)
    refine lGo.brT (decide_eq_true (lg_gt.mpr h2)) ?_
    exact hnew
  obtain ⟨ca, rs, g1, g2, g3, g4, g5⟩ := hW.2.2.2.2.2.2.2.2.2
  obtain ⟨k, hk, hkv, hk2⟩ : ∃ k, k < 256 ∧ v.toInt32 + 128 = Int32.ofNat k ∧ Int64.ofNat k - 128 = v := by
    rw [Int64.lt_iff_toInt_lt, show (-128 : Int64).toInt = -128 from rfl] at h1
    rw [Int64.lt_iff_toInt_lt, show (127 : Int64).toInt = 127 from rfl] at h2
    have e1 : (v.toInt + 128).toNat < 256 := by omega
    refine ⟨(v.toInt + 128).toNat, e1, Int32.toInt.inj ?_, Int64.toInt.inj ?_⟩
    · rw [Int32.toInt_add, Int64.toInt_toInt32, show (128 : Int32).toInt = 128 from rfl, Int.bmod_eq_of_le (n := v.toInt) (by omega) (by omega), Int.bmod_eq_of_le (by omega) (by omega), Int32.toInt_ofNat_of_lt (by omega)]
      omega
    · rw [Int64.toInt_sub, Int64.toInt_ofNat_of_lt (by omega), show (128 : Int64).toInt = 128 from rfl, Int.bmod_eq_of_le (by omega) (by omega)]
      omega
  obtain ⟨q, q1, q2, q3⟩ := g5 k hk
  obtain ⟨w1, c1, _⟩ := hA.pl ((cp_hid g3).trans g2) (by decide)
  refine jp_old (q := q) hW hM ⟨q, false, rfl, by rw [← hk2]; exact q2, q3⟩ ?_
  refine lGo.sp (D := 2) pg_116 (Nat.le_of_ble_eq_true rfl) ?_
  repeat (refine lGo.step rfl (fun _ => rfl) ?_; try dsimp only)
  refine lGo.brF (decide_eq_false (fun z => h1 (lg_lt.mp z))) ?_
  repeat (refine lGo.step rfl (fun _ => rfl) ?_; try dsimp only)
  refine lGo.brF (decide_eq_false (fun z => h2 (lg_gt.mp z))) ?_
  refine lGo.env rfl g1 ?_
  repeat (refine lGo.step rfl (fun _ => rfl) ?_; try dsimp only)
  rw [hkv]
  refine lGo.ald rfl c1 rfl (i_nlt0 (by omega)) (by rw [clampN (by omega)]; exact q1) ?_
  exact lGo.done rfl (fun _ => rfl)
end
