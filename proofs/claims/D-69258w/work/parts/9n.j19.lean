/-! the library: ArrayList.addAll -/
section
variable {E : lE} {G : lHeap}
theorem jfil_jfil {rs : List Value} {c N : Nat} (h1 : rs.length ≤ c) (h2 : c ≤ N) : jfil (jfil rs c) N = jfil rs N := by
  have : (jfil rs c).length = c := jfil_len h1
  unfold jfil at this ⊢
  rw [this, List.append_assoc, List.replicate_append_replicate]
  congr 2
  omega
theorem jfil_lay {rs bs : List Value} {c : Nat} (h : rs.length + bs.length ≤ c) : (jfil rs c).take rs.length ++ (bs.drop 0).take bs.length ++ (jfil rs c).drop (rs.length + bs.length) = jfil (rs ++ bs) c := by
  unfold jfil
  rw [List.take_append_of_le_length (Nat.le_refl _), List.take_of_length_le (Nat.le_refl _), List.drop_zero, List.take_of_length_le (Nat.le_refl _), List.drop_append, List.drop_eq_nil_of_le (by omega), List.nil_append, List.drop_replicate, List.length_append]
  congr 2
  omega
/-- the last part: the copy, the size -/
theorem aa_tail {M : lMem} {a d T cap : Nat} {m : Value} {x : Value} {rs bs : List Value} {lv : lL} {w : Bool} (ga : M.1 a = some (true, false, 13, [m, .ref d, x])) (gd : M.1 d = some (true, true, 6, jfil rs cap)) (gT : M.1 T = some (w, true, 6, bs)) (hda : d ≠ a) (hc : rs.length + bs.length ≤ cap) (hcap : cap ≤ 900000) (hv : ∀ v ∈ bs, okV M v) (l0 : lGet lv 0 = some (.ref a)) (l2 : lGet lv 2 = some (.ref T)) (l3 : lGet lv 3 = some (.int (Int32.ofNat bs.length))) (l4 : lGet lv 4 = some (.ref d)) (l5 : lGet lv 5 = some (.int (Int32.ofNat rs.length))) (D : Nat) : lGo E prog D cd_86 34 (lv, [], M) (.inl (some (.int 1)), (lUpd (lUpd M.1 d (true, true, 6, jfil (rs ++ bs) cap)) a (true, false, 13, [m, .ref d, .int (Int32.ofNat (rs.length + bs.length))]), M.2.1, M.2.2)) := by
  refine lGo.loadA rfl l2 ?_
  refine lGo.step rfl (fun _ => rfl) ?_
  refine lGo.loadA rfl l4 ?_
  refine lGo.loadI rfl l5 ?_
  refine lGo.loadI rfl l3 ?_
  have hjl : (jfil rs cap).length = cap := jfil_len (by omega)
  refine lGo.copyO (sp := 0) (dp := rs.length) (n := bs.length) rfl gT gd rfl (by omega) (by omega) (by omega) (by omega) (cat8 (Nat.le_of_ble_eq_true rfl)) ?_ ?_
  · intro v h
    rw [List.drop_zero] at h
    exact hv v (List.mem_of_mem_take h)
  rw [jfil_lay hc]
  refine lGo.loadA rfl l0 ?_
  refine lGo.loadI rfl l5 ?_
  refine lGo.loadI rfl l3 ?_
  refine lGo.step rfl (fun _ => rfl) ?_
  dsimp only
  rw [show Int32.ofNat rs.length + Int32.ofNat bs.length = Int32.ofNat (rs.length + bs.length) from i_add _ _]
  refine lGo.put rfl ((lUpd_ne _ _ (fun z => hda z.symm)).trans ga) rfl (Nat.le_of_ble_eq_true rfl) rfl ?_
  repeat (refine lGo.step rfl (fun _ => rfl) ?_; try dsimp only)
  exact lGo.done rfl (fun _ => rfl)
theorem sp_87 {M : lMem} {b e c1 : Nat} {m : Value} {bs xs : List Value} {w w2 : Bool} (gb : M.1 b = some (w, false, 13, [m, .ref e, .int (Int32.ofNat bs.length)])) (ge : M.1 e = some (w2, true, 6, xs)) (hx : xs.take bs.length = bs) (hl : bs.length ≤ xs.length) (hxl : xs.length ≤ 1000000) (hf : M.1 M.2.1 = none) (hE : E 1 = .ref c1) (hv : ∀ v ∈ bs, okV M v) : lSp E prog 4 87 [.ref b] M (.inl (some (.ref M.2.1)), (lUpd M.1 M.2.1 (true, true, 6, bs), M.2.1 + 1, M.2.2 + bs.length)) := by
  refine lGo.sp (D := 3) pg_87 (Nat.le_of_ble_eq_true rfl) ?_
  repeat (refine lGo.step rfl (fun _ => rfl) ?_; try dsimp only)
  refine lGo.get rfl gb rfl rfl ?_
  repeat (refine lGo.step rfl (fun _ => rfl) ?_; try dsimp only)
  refine lGo.get rfl gb rfl rfl ?_
  have s56 := sp_56 (N := bs.length) ge hf rfl hxl (by omega) hE (by rw [hx]; exact hv)
  rw [hx, jfil_full] at s56
  refine lGo.call (n := 2) rfl ⟨Nat.le_of_ble_eq_true rfl, Nat.le_of_ble_eq_true rfl⟩ s56 ?_
  exact lGo.done rfl (fun _ => rfl)
end
