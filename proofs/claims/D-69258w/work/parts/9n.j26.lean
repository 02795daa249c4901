/-! the library: StringBuilder.append -/
section
variable {E : lE} {G : lHeap}
theorem set_mid {xs r : List Value} {v : Value} (h : 0 < r.length) : (xs ++ r).set xs.length v = (xs ++ [v]) ++ r.drop 1 := by
  cases r with
  | nil => cases h
  | cons u r =>
    rw [List.set_append_right _ _ (Nat.le_refl _), Nat.sub_self, List.set_cons_zero, List.append_assoc]
    rfl
theorem sp_134 {M : lMem} {c : Nat} (hc : c < 128) : lSp E prog 1 134 [.int (Int32.ofNat c)] M (.inl (some (.int 1)), M) := by
  refine lGo.sp (D := 0) pg_134 (Nat.le_of_ble_eq_true rfl) ?_
  repeat (refine lGo.step rfl (fun _ => rfl) ?_; try dsimp only)
  refine lGo.brF (decide_eq_false (fun w => ?_)) ?_
  · have := (i_lt (j := 255) (k := c) (by omega) (by omega)).mp w
    omega
  repeat (refine lGo.step rfl (fun _ => rfl) ?_; try dsimp only)
  exact lGo.done rfl (fun _ => rfl)
/-- what an append may cost -/
def SBk (n m : Nat) (K : Nat) (arr arr' : List Value) (M M' : lMem) : Prop := 8 * n ≤ K + 2 * arr.length → M'.2.2 + (8 * (n + m) - 2 * arr'.length) ≤ M.2.2 + K + 8 * m + 16
theorem sb_appC {own : Nat → Nat} {M0 M : lMem} {a e c : Nat} {x : Value} {xs rest : List Value} (hE27 : E 27 = .int 1) (S : SBs own M0 a e x xs.length (xs ++ rest) M) (hc : c < 128) (hl : xs.length < 100000) : ∃ M' e' rest', lSp E prog 401 168 [.ref a, .int (Int32.ofNat c)] M (.inl (some (.ref a)), M') ∧ SBs own M0 a e' x (xs.length + 1) ((xs ++ [.int (Int32.ofNat c)]) ++ rest') M' ∧ M'.2.1 ≤ M.2.1 + 1 ∧ ∀ K, SBk xs.length 1 K (xs ++ rest) ((xs ++ [.int (Int32.ofNat c)]) ++ rest') M M' := by
  obtain ⟨_, _, _, g, gea, _, ge, hj, hl16, hl3⟩ := id S
  obtain ⟨M1, e1, arr1, s1, S1, ⟨z1, hz1⟩, hm1, hcost⟩ := sb_ens (E := E) S (m := xs.length + 1) (by omega)
  rw [List.append_assoc] at hz1
  obtain ⟨_, _, _, g1, gea1, _, ge1, hj1, hl16', hl3'⟩ := id S1
  have hla : arr1.length = xs.length + (rest ++ z1).length := by rw [hz1, List.length_append]
  have hset : arr1.set xs.length (Value.int (Int32.ofNat c)) = (xs ++ [.int (Int32.ofNat c)]) ++ (rest ++ z1).drop 1 := by
    rw [hz1]
    exact set_mid (by omega)
  have S3 := (S1.wA x (xs.length + 1)).wE (arr' := arr1.set xs.length (Value.int (Int32.ofNat c))) (fun v hv => by
    rcases List.mem_or_eq_of_mem_set hv with z | z
    · exact hj1 v z
    · exact ⟨c, hc, z⟩) List.length_set
  have hln : ((xs ++ [Value.int (Int32.ofNat c)]) ++ (rest ++ z1).drop 1).length = arr1.length := by rw [← hset, List.length_set]
  rw [hset] at S3
  refine ⟨_, e1, (rest ++ z1).drop 1, ?_, S3, ?_, ?_⟩
  · refine lGo.sp (D := 400) pg_168 (Nat.le_of_ble_eq_true rfl) ?_
    repeat (refine lGo.step rfl (fun _ => rfl) ?_; try dsimp only)
    refine lGo.get rfl g rfl rfl ?_
    repeat (refine lGo.step rfl (fun _ => rfl) ?_; try dsimp only)
    rw [i_suc]
    refine lGo.callV rfl rfl g rfl ⟨Nat.le_of_ble_eq_true rfl, Nat.le_of_ble_eq_true rfl⟩ (s1.mono (by decide)) ?_
    repeat (refine lGo.step rfl (fun _ => rfl) ?_; try dsimp only)
    refine lGo.callV rfl rfl g1 rfl ⟨Nat.le_of_ble_eq_true rfl, Nat.le_of_ble_eq_true rfl⟩ ((sp_156 hE27 g1).mono (by decide)) ?_
    refine lGo.step rfl (fun _ => rfl) ?_
    refine lGo.brF (by rfl) ?_
    repeat (refine lGo.step rfl (fun _ => rfl) ?_; try dsimp only)
    refine lGo.call (n := 1) rfl ⟨Nat.le_of_ble_eq_true rfl, Nat.le_of_ble_eq_true rfl⟩ ((sp_134 hc).mono (by decide)) ?_
    refine lGo.step rfl (fun _ => rfl) ?_
    refine lGo.brF (by rfl) ?_
    repeat (refine lGo.step rfl (fun _ => rfl) ?_; try dsimp only)
    refine lGo.get rfl g1 rfl rfl ?_
    repeat (refine lGo.step rfl (fun _ => rfl) ?_; try dsimp only)
    refine lGo.get rfl g1 rfl rfl ?_
    repeat (refine lGo.step rfl (fun _ => rfl) ?_; try dsimp only)
    rw [i_suc]
    refine lGo.put rfl g1 rfl (Nat.le_of_ble_eq_true rfl) rfl ?_
    repeat (refine lGo.step rfl (fun _ => rfl) ?_; try dsimp only)
    rw [chr_o8 ⟨c, hc⟩]
    refine lGo.bst rfl ((lUpd_ne _ _ gea1).trans ge1) (by omega) (by omega) hc ?_
    rw [hset]
    repeat (refine lGo.step rfl (fun _ => rfl) ?_; try dsimp only)
    exact lGo.done rfl (fun _ => rfl)
  · show M1.2.1 ≤ _
    rcases hcost with ⟨_, h, _⟩ | ⟨_, _, h, _⟩ <;> omega
  · intro K hK
    rw [hln]
    show M1.2.2 + _ ≤ _
    rcases hcost with ⟨h1, _, h2⟩ | ⟨h0, h1, _, h2⟩
    · rw [h1, h2]; omega
    · omega
theorem jp205 (hJE : jE E G) : JP_205 (lAb (lJd E G) G) E := by
  intro y s A0 a w v x hW hr hx M hM
  obtain ⟨own, cr, hA⟩ := hM
  obtain ⟨_, _, _, hE27, _⟩ := hJE
  rcases iteC hx with ⟨⟨h0, hi⟩, hx1⟩ | ⟨_, hx1⟩
  case inr => cases hx1
  obtain ⟨xs, hc, hx2⟩ := bindC hx1
  rcases iteC hx2 with ⟨hl, hx3⟩ | ⟨_, hx3⟩
  case inr => cases hx3
  cases hx3
  have hc := cc_some hc
  obtain ⟨e, z, rest, S, hl2, hk⟩ := jp_S hW hA hc
  obtain ⟨c, hc2, rfl⟩ := i_of h0
  have hc3 : c < 128 := (i_lt (j := c) (k := 128) (by omega) (by omega)).mp hi
  have hl : xs.length + 1 < 100000 := hl
  obtain ⟨M1, e1, rest1, s1, S1, hz, hK⟩ := sb_appC (E := E) hE27 S hc3 (by omega)
  have g := S.2.2.2.1
  have g1 := S1.2.2.2.1
  rw [hr.1]
  refine sb_doneE (nn := 2) (m := 8 * [Value.int (Int32.ofNat c)].length + 16) (xs := xs ++ [.int (Int32.ofNat c)]) (rest := rest1) hr.2 hW hA hc (by decide) ?_ S1 rfl (by rw [List.length_append]; rfl) (by rw [List.length_append]; exact Nat.le_of_lt hl) (by omega) ?_
  · refine lGo.sp (D := 401) pg_205 (Nat.le_of_ble_eq_true rfl) ?_
    repeat (refine lGo.step rfl (fun _ => rfl) ?_; try dsimp only)
    refine lGo.callV rfl rfl g rfl ⟨Nat.le_of_ble_eq_true rfl, Nat.le_of_ble_eq_true rfl⟩ s1 ?_
    repeat (refine lGo.step rfl (fun _ => rfl) ?_; try dsimp only)
    exact lGo.done rfl (fun _ => rfl)
  · have := hK _ hk
    rw [List.length_append (as := xs)]
    simp only [List.length_singleton] at this ⊢
    omega
/-- old cells of others stay -/
theorem SBs.old {own : Nat → Nat} {M0 M : lMem} {a e n q : Nat} {x : Value} {arr : List Value} {c : lCell} (S : SBs own M0 a e x n arr M) (h : M0.1 q = some c) (hl : q < M0.2.1) (ho : own q ≠ a) : M.1 q = some c := (S.1.2.2.2.2 q hl ho).trans h
theorem sb_appS {own : Nat → Nat} {M0 M : lMem} {a e b eb : Nat} {x : Value} {xs rest ys : List Value} {wb we : Bool} {h1 h2 : Value} (hE27 : E 27 = .int 1) (S : SBs own M0 a e x xs.length (xs ++ rest) M) (gb : M0.1 b = some (wb, false, 0, [.ref eb, .int 0, h1, h2])) (gy : M0.1 eb = some (we, true, 2, ys)) (hb1 : b < M0.2.1) (hb2 : eb < M0.2.1) (hb3 : own b ≠ a) (hb4 : own eb ≠ a) (hjy : jchr ys) (hl : xs.length + ys.length < 100000) : ∃ M' e' rest', lSp E prog 400 200 [.ref a, .ref b] M (.inl (some (.ref a)), M') ∧ SBs own M0 a e' x (xs.length + ys.length) ((xs ++ ys) ++ rest') M' ∧ (M'.2.1 ≤ M.2.1 + 1 ∧ (ys.length ≤ rest.length → M'.2.1 = M.2.1 ∧ M'.2.2 = M.2.2 ∧ ((xs ++ ys) ++ rest').length = (xs ++ rest).length)) ∧ ∀ K, SBk xs.length ys.length K (xs ++ rest) ((xs ++ ys) ++ rest') M M' := by
  obtain ⟨_, _, _, g, gea, _, ge, hj, hl16, hl3⟩ := id S
  obtain ⟨M1, e1, arr1, s1, S1, ⟨z1, hz1⟩, hm1, hcost⟩ := sb_ens (E := E) S (m := xs.length + ys.length) (by omega)
  rw [List.append_assoc] at hz1
  obtain ⟨_, _, _, g1, gea1, _, ge1, hj1, hl16', hl3'⟩ := id S1
  have gb0 := S.old gb hb1 hb3
  have gy0 := S.old gy hb2 hb4
  have gb1 := S1.old gb hb1 hb3
  have gy1 := S1.old gy hb2 hb4
  have hla : arr1.length = xs.length + (rest ++ z1).length := by rw [hz1, List.length_append]
  have hra : (xs ++ rest).length = xs.length + rest.length := List.length_append
  have hcp : arr1.take xs.length ++ (ys.drop 0).take ys.length ++ arr1.drop (xs.length + ys.length) = (xs ++ ys) ++ (rest ++ z1).drop ys.length := by
    rw [hz1, List.take_left' rfl, List.drop_zero, List.take_length, List.drop_append, List.drop_eq_nil_of_le (by omega), List.nil_append, Nat.add_sub_cancel_left]
  have hcl : ((xs ++ ys) ++ (rest ++ z1).drop ys.length).length = arr1.length := by
    rw [List.length_append, List.length_append, List.length_drop]
    omega
  have hcj : jchr ((xs ++ ys) ++ (rest ++ z1).drop ys.length) := by
    intro v hv
    rcases List.mem_append.mp hv with hv | hv
    · rcases List.mem_append.mp hv with hv | hv
      · exact hj v (List.mem_append_left _ hv)
      · exact hjy v hv
    · exact hj1 v (by rw [hz1]; exact List.mem_append_right _ (List.mem_of_mem_drop hv))
  have S3 := (S1.wE hcj hcl).wA x (xs.length + ys.length)
  have w233 : lSp E prog 300 233 [.ref b, .ref e1, .int (Int32.ofNat xs.length), .int 0] M1 (.inl none, (lUpd M1.1 e1 (true, true, 2, (xs ++ ys) ++ (rest ++ z1).drop ys.length), M1.2.1, M1.2.2)) := by
    refine lGo.sp (D := 299) pg_233 (Nat.le_of_ble_eq_true rfl) ?_
    repeat (refine lGo.step rfl (fun _ => rfl) ?_; try dsimp only)
    refine lGo.callV rfl rfl gb1 rfl ⟨Nat.le_of_ble_eq_true rfl, Nat.le_of_ble_eq_true rfl⟩ ((sp_230 hE27 gb1).mono (by decide)) ?_
    repeat (refine lGo.step rfl (fun _ => rfl) ?_; try dsimp only)
    refine lGo.get rfl gb1 rfl rfl ?_
    repeat (refine lGo.step rfl (fun _ => rfl) ?_; try dsimp only)
    rw [i_shl0]
    refine lGo.get rfl gb1 rfl rfl ?_
    refine lGo.len rfl gy1 ?_
    refine lGo.copyB (sp := 0) (dp := xs.length) (n := ys.length) rfl gy1 ge1 (by omega) (by omega) (by omega) (by omega) (cat8 (Nat.le_of_ble_eq_true rfl)) hjy ?_
    rw [hcp]
    repeat (refine lGo.step rfl (fun _ => rfl) ?_; try dsimp only)
    exact lGo.done rfl (fun _ => rfl)
  have w162 : lSp E prog 302 162 [.ref a, .int (Int32.ofNat xs.length), .ref b] M1 (.inl none, (lUpd M1.1 e1 (true, true, 2, (xs ++ ys) ++ (rest ++ z1).drop ys.length), M1.2.1, M1.2.2)) := by
    refine lGo.sp (D := 301) pg_162 (Nat.le_of_ble_eq_true rfl) ?_
    repeat (refine lGo.step rfl (fun _ => rfl) ?_; try dsimp only)
    refine lGo.callV rfl rfl g1 rfl ⟨Nat.le_of_ble_eq_true rfl, Nat.le_of_ble_eq_true rfl⟩ (M' := M1) (v := none) ?_ ?_
    · refine lGo.sp (D := 300) pg_163 (Nat.le_of_ble_eq_true rfl) ?_
      refine lGo.env rfl hE27 ?_
      refine lGo.step rfl (fun _ => rfl) ?_
      refine lGo.brF (by rfl) ?_
      repeat (refine lGo.step rfl (fun _ => rfl) ?_; try dsimp only)
      refine lGo.get rfl g1 rfl rfl ?_
      repeat (refine lGo.step rfl (fun _ => rfl) ?_; try dsimp only)
      refine lGo.callV rfl rfl gb1 rfl ⟨Nat.le_of_ble_eq_true rfl, Nat.le_of_ble_eq_true rfl⟩ ((sp_230 hE27 gb1).mono (by decide)) ?_
      refine lGo.step rfl (fun _ => rfl) ?_
      refine lGo.brT (by rfl) ?_
      exact lGo.done rfl (fun _ => rfl)
    repeat (refine lGo.step rfl (fun _ => rfl) ?_; try dsimp only)
    refine lGo.get rfl g1 rfl rfl ?_
    repeat (refine lGo.step rfl (fun _ => rfl) ?_; try dsimp only)
    refine lGo.get rfl g1 rfl rfl ?_
    refine lGo.callV rfl rfl gb1 rfl ⟨Nat.le_of_ble_eq_true rfl, Nat.le_of_ble_eq_true rfl⟩ (w233.mono (by decide)) ?_
    exact lGo.done rfl (fun _ => rfl)
  have g2 : lUpd M1.1 e1 (true, true, 2, (xs ++ ys) ++ (rest ++ z1).drop ys.length) a = some (true, false, 35, [.ref e1, .int 0, x, .int (Int32.ofNat xs.length)]) := (lUpd_ne _ _ (fun z => gea1 z.symm)).trans g1
  refine ⟨_, e1, (rest ++ z1).drop ys.length, ?_, S3, ⟨?_, ?_⟩, ?_⟩
  · refine lGo.sp (D := 399) pg_200 (Nat.le_of_ble_eq_true rfl) ?_
    repeat (refine lGo.step rfl (fun _ => rfl) ?_; try dsimp only)
    refine lGo.callV rfl rfl g rfl ⟨Nat.le_of_ble_eq_true rfl, Nat.le_of_ble_eq_true rfl⟩ (M' := (lUpd (lUpd M1.1 e1 (true, true, 2, (xs ++ ys) ++ (rest ++ z1).drop ys.length)) a (true, false, 35, [.ref e1, .int 0, x, .int (Int32.ofNat (xs.length + ys.length))]), M1.2.1, M1.2.2)) (v := some (.ref a)) ?_ ?_
    · refine lGo.sp (D := 398) pg_160 (Nat.le_of_ble_eq_true rfl) ?_
      repeat (refine lGo.step rfl (fun _ => rfl) ?_; try dsimp only)
      refine lGo.callV rfl rfl gb0 rfl ⟨Nat.le_of_ble_eq_true rfl, Nat.le_of_ble_eq_true rfl⟩ ((sp_229 hE27 gb0 gy0 (by omega)).mono (by decide)) ?_
      repeat (refine lGo.step rfl (fun _ => rfl) ?_; try dsimp only)
      refine lGo.get rfl g rfl rfl ?_
      repeat (refine lGo.step rfl (fun _ => rfl) ?_; try dsimp only)
      rw [show Int32.ofNat xs.length + Int32.ofNat ys.length = Int32.ofNat (xs.length + ys.length) from i_add _ _]
      refine lGo.callV rfl rfl g rfl ⟨Nat.le_of_ble_eq_true rfl, Nat.le_of_ble_eq_true rfl⟩ (s1.mono (by decide)) ?_
      repeat (refine lGo.step rfl (fun _ => rfl) ?_; try dsimp only)
      refine lGo.get rfl g1 rfl rfl ?_
      repeat (refine lGo.step rfl (fun _ => rfl) ?_; try dsimp only)
      refine lGo.callV rfl rfl g1 rfl ⟨Nat.le_of_ble_eq_true rfl, Nat.le_of_ble_eq_true rfl⟩ (w162.mono (by decide)) ?_
      repeat (refine lGo.step rfl (fun _ => rfl) ?_; try dsimp only)
      refine lGo.get rfl g2 rfl rfl ?_
      repeat (refine lGo.step rfl (fun _ => rfl) ?_; try dsimp only)
      rw [show Int32.ofNat xs.length + Int32.ofNat ys.length = Int32.ofNat (xs.length + ys.length) from i_add _ _]
      refine lGo.put rfl g2 rfl (Nat.le_of_ble_eq_true rfl) rfl ?_
      repeat (refine lGo.step rfl (fun _ => rfl) ?_; try dsimp only)
      exact lGo.done rfl (fun _ => rfl)
    · repeat (refine lGo.step rfl (fun _ => rfl) ?_; try dsimp only)
      exact lGo.done rfl (fun _ => rfl)
  · show M1.2.1 ≤ _
    rcases hcost with ⟨_, h, _⟩ | ⟨_, _, h, _⟩ <;> omega
  · intro hle
    rw [hcl]
    show M1.2.1 = _ ∧ M1.2.2 = _ ∧ _
    rcases hcost with ⟨h1, h2, h3⟩ | ⟨h0, _⟩
    · exact ⟨h2, h3, by rw [h1]⟩
    · omega
  · intro K hK
    rw [hcl]
    show M1.2.2 + _ ≤ _
    rcases hcost with ⟨h1, _, h2⟩ | ⟨h0, h1, _, h2⟩
    · rw [h1, h2]; omega
    · omega
end
