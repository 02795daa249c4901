/-! the library: StringBuilder.append of a number, the fact -/
section
variable {E : lE} {G : lHeap}
theorem sp_101 {e t1 t2 n : Nat} {w1 w2 : Bool} {pre mid post : List Value} {M : lMem} (hE1 : E 20 = .ref t1) (hE2 : E 21 = .ref t2) (n1 : t1 ≠ e) (n2 : t2 ≠ e) (hn2 : n < 2147483648) (hm : mid.length = (digs 10 n []).length) (hlen : (pre ++ mid ++ post).length ≤ 1000000) (he : M.1 e = some (true, true, 2, pre ++ mid ++ post)) (h1 : M.1 t1 = some (w1, true, 2, dgT1)) (h2 : M.1 t2 = some (w2, true, 2, dgT2)) : lSp E prog 1 101 [.int (Int32.ofNat n), .int (Int32.ofNat (pre.length + mid.length)), .ref e] M (.inl (some (.int (Int32.ofNat pre.length))), (lUpd M.1 e (true, true, 2, pre ++ digs 10 n [] ++ post), M.2.1, M.2.2)) := by
  refine lGo.sp (D := 0) pg_101 (Nat.le_of_ble_eq_true rfl) ?_
  refine lGo.step rfl (fun _ => rfl) ?_; dsimp only
  refine lGo.step rfl (fun _ => rfl) ?_; dsimp only
  refine lGo.step rfl (fun _ => rfl) ?_; dsimp only
  refine lGo.step rfl (fun _ => rfl) ?_; dsimp only
  refine lGo.brT (decide_eq_true (Int32.not_lt.mp (i_nlt0 hn2))) ?_
  refine lGo.step rfl (fun _ => rfl) ?_; dsimp only
  refine lGo.step rfl (fun _ => rfl) ?_; dsimp only
  refine lGo.step rfl (fun _ => rfl) ?_; dsimp only
  refine lGo.step rfl (fun _ => rfl) ?_; dsimp only
  refine lGo.brF (by rfl) ?_
  refine lGo.step rfl (fun _ => rfl) ?_; dsimp only
  refine lGo.step rfl (fun _ => rfl) ?_; dsimp only
  refine lGo.step rfl (fun _ => rfl) ?_; dsimp only
  exact gc_lp hE1 hE2 n1 n2 10 n pre mid post M _ (by decide) (by omega) hn2 hm hlen he h1 h2 rfl rfl rfl rfl 0
theorem digs_j : ∀ (k n : Nat) (r : List Value), jchr r → jchr (digs k n r) := by
  intro k
  induction k with
  | zero => intro n r h; exact h
  | succ k ih =>
    intro n r h
    unfold digs
    by_cases z : n < 10
    · rw [if_pos z]
      intro v hv
      rcases List.mem_cons.mp hv with w | w
      · exact ⟨48 + n, by omega, w⟩
      · exact h v w
    · rw [if_neg z]
      refine ih _ _ (fun v hv => ?_)
      rcases List.mem_cons.mp hv with w | w
      · exact ⟨48 + n % 10, by omega, w⟩
      · exact h v w
theorem sb_appI {own : Nat → Nat} {M0 M : lMem} {a e n t1 t2 : Nat} {w1 w2 : Bool} {x : Value} {xs rest : List Value} (hE27 : E 27 = .int 1) (hE1 : E 20 = .ref t1) (hE2 : E 21 = .ref t2) (S : SBs own M0 a e x xs.length (xs ++ rest) M) (h1 : M0.1 t1 = some (w1, true, 2, dgT1)) (h2 : M0.1 t2 = some (w2, true, 2, dgT2)) (b1 : t1 < M0.2.1) (b2 : t2 < M0.2.1) (b3 : own t1 ≠ a) (b4 : own t2 ≠ a) (b5 : own t1 = t1) (b6 : own t2 = t2) (hn : n < 2147483648) (hl : xs.length + (digs 10 n []).length < 100000) : ∃ M' e' rest', lSp E prog 400 199 [.ref a, .int (Int32.ofNat n)] M (.inl (some (.ref a)), M') ∧ SBs own M0 a e' x (xs.length + (digs 10 n []).length) ((xs ++ digs 10 n []) ++ rest') M' ∧ M'.2.1 ≤ M.2.1 + 1 ∧ ∀ K, SBk xs.length (digs 10 n []).length K (xs ++ rest) ((xs ++ digs 10 n []) ++ rest') M M' := by
  obtain ⟨ys, hys⟩ : ∃ ys, ys = digs 10 n [] := ⟨_, rfl⟩
  have hjy : jchr ys := by rw [hys]; exact digs_j 10 n [] (fun v hv => by cases hv)
  rw [← hys] at hl ⊢
  obtain ⟨_, _, _, g, gea, geo, ge, hj, hl16, hl3⟩ := id S
  obtain ⟨M1, e1, arr1, s1, S1, ⟨z1, hz1⟩, hm1, hcost⟩ := sb_ens (E := E) S (m := xs.length + ys.length) (by omega)
  rw [List.append_assoc] at hz1
  obtain ⟨_, _, _, g1, gea1, geo1, ge1, hj1, hl16', hl3'⟩ := id S1
  have h1' := S1.old h1 b1 b3
  have h2' := S1.old h2 b2 b4
  have n1 : t1 ≠ e1 := fun z => b3 (by rw [z]; exact geo1 (by rw [← z]; exact b1))
  have n2 : t2 ≠ e1 := fun z => b4 (by rw [z]; exact geo1 (by rw [← z]; exact b2))
  have hla : arr1.length = xs.length + (rest ++ z1).length := by rw [hz1, List.length_append]
  have hsp : arr1 = xs ++ (rest ++ z1).take ys.length ++ (rest ++ z1).drop ys.length := by rw [List.append_assoc, List.take_append_drop]; exact hz1
  have hml : ((rest ++ z1).take ys.length).length = (digs 10 n []).length := by rw [List.length_take, ← hys]; omega
  have hcl : ((xs ++ ys) ++ (rest ++ z1).drop ys.length).length = arr1.length := by
    rw [List.length_append, List.length_append, List.length_drop]
    omega
  have hcj : jchr ((xs ++ ys) ++ (rest ++ z1).drop ys.length) := by
    intro v hv
    rcases List.mem_append.mp hv with hv | hv
    · rcases List.mem_append.mp hv with hv | hv
      · exact hj v (List.mem_append_left _ hv)
      · exact hjy v hv
    · exact hj1 v (by rw [hz1]; exact List.mem_append_right _ (List.mem_of_mem_drop hv))
  have S3 := (S1.wE hcj hcl).wA x (xs.length + ys.length)
  have s101 := sp_101 (E := E) (n := n) (pre := xs) (mid := (rest ++ z1).take ys.length) (post := (rest ++ z1).drop ys.length) (M := M1) hE1 hE2 n1 n2 hn hml (by rw [← hsp]; omega) (by rw [← hsp]; exact ge1) h1' h2'
  rw [hml, ← hys] at s101
  have g2 : lUpd M1.1 e1 (true, true, 2, (xs ++ ys) ++ (rest ++ z1).drop ys.length) a = some (true, false, 35, [.ref e1, .int 0, x, .int (Int32.ofNat xs.length)]) := (lUpd_ne _ _ (fun z => gea1 z.symm)).trans g1
  refine ⟨_, e1, (rest ++ z1).drop ys.length, ?_, S3, ?_, ?_⟩
  · refine lGo.sp (D := 399) pg_199 (Nat.le_of_ble_eq_true rfl) ?_
    repeat (refine lGo.step rfl (fun _ => rfl) ?_; try dsimp only)
    refine lGo.callV rfl rfl g rfl ⟨Nat.le_of_ble_eq_true rfl, Nat.le_of_ble_eq_true rfl⟩ (M' := (lUpd (lUpd M1.1 e1 (true, true, 2, (xs ++ ys) ++ (rest ++ z1).drop ys.length)) a (true, false, 35, [.ref e1, .int 0, x, .int (Int32.ofNat (xs.length + ys.length))]), M1.2.1, M1.2.2)) (v := some (.ref a)) ?_ ?_
    · refine lGo.sp (D := 398) pg_157 (Nat.le_of_ble_eq_true rfl) ?_
      repeat (refine lGo.step rfl (fun _ => rfl) ?_; try dsimp only)
      refine lGo.get rfl g rfl rfl ?_
      repeat (refine lGo.step rfl (fun _ => rfl) ?_; try dsimp only)
      have s100 := sp_100 (E := E) (M := M) hn
      rw [← hys] at s100
      refine lGo.call (n := 1) rfl ⟨Nat.le_of_ble_eq_true rfl, Nat.le_of_ble_eq_true rfl⟩ (s100.mono (by decide)) ?_
      refine lGo.step rfl (fun _ => rfl) ?_; dsimp only
      rw [show Int32.ofNat xs.length + Int32.ofNat ys.length = Int32.ofNat (xs.length + ys.length) from i_add _ _]
      repeat (refine lGo.step rfl (fun _ => rfl) ?_; try dsimp only)
      refine lGo.callV rfl rfl g rfl ⟨Nat.le_of_ble_eq_true rfl, Nat.le_of_ble_eq_true rfl⟩ (s1.mono (by decide)) ?_
      repeat (refine lGo.step rfl (fun _ => rfl) ?_; try dsimp only)
      refine lGo.callV rfl rfl g1 rfl ⟨Nat.le_of_ble_eq_true rfl, Nat.le_of_ble_eq_true rfl⟩ ((sp_156 hE27 g1).mono (by decide)) ?_
      refine lGo.step rfl (fun _ => rfl) ?_
      refine lGo.brF (by rfl) ?_
      repeat (refine lGo.step rfl (fun _ => rfl) ?_; try dsimp only)
      refine lGo.get rfl g1 rfl rfl ?_
      refine lGo.call (n := 3) rfl ⟨Nat.le_of_ble_eq_true rfl, Nat.le_of_ble_eq_true rfl⟩ (s101.mono (by decide)) ?_
      repeat (refine lGo.step rfl (fun _ => rfl) ?_; try dsimp only)
      refine lGo.put rfl g2 rfl (Nat.le_of_ble_eq_true rfl) rfl ?_
      repeat (refine lGo.step rfl (fun _ => rfl) ?_; try dsimp only)
      exact lGo.done rfl (fun _ => rfl)
    · repeat (refine lGo.step rfl (fun _ => rfl) ?_; try dsimp only)
      exact lGo.done rfl (fun _ => rfl)
  · show M1.2.1 ≤ _
    rcases hcost with ⟨_, h, _⟩ | ⟨_, _, h, _⟩ <;> omega
  · intro K hK
    rw [hcl]
    show M1.2.2 + _ ≤ _
    rcases hcost with ⟨h1, _, h2⟩ | ⟨h0, h1, _, h2⟩
    · rw [h1, h2]; omega
    · omega
theorem jp199 (hJE : jE E G) : JP_199 (lAb (lJd E G) G) E := by
  intro y s A0 a w i x hW hr hx M hM
  obtain ⟨own, cr, hA⟩ := hM
  obtain ⟨_, _, _, hE27, _, ⟨t1, w1, hE1, hG1⟩, ⟨t2, w2, hE2, hG2⟩, _⟩ := hJE
  rcases iteC hx with ⟨hi0, hx1⟩ | ⟨_, hx1⟩
  case inr => cases hx1
  obtain ⟨xs, hc, hx2⟩ := bindC hx1
  rcases iteC hx2 with ⟨hl, hx3⟩ | ⟨_, hx3⟩
  case inr => cases hx3
  cases hx3
  have hc := cc_some hc
  obtain ⟨n, hn, rfl⟩ := i_of hi0
  rw [clampN hn] at hl ⊢
  obtain ⟨e, z, rest, S, hl2, hk⟩ := jp_S hW hA hc
  have g := S.2.2.2.1
  obtain ⟨k1, k2⟩ := hA.2.2.2.2.1 _ _ hG1
  obtain ⟨k3, k4⟩ := hA.2.2.2.2.1 _ _ hG2
  have b3 : own t1 ≠ adr y.1 a := fun w => by
    rw [k2] at w
    rw [w, g] at k1
    cases k1
  have b4 : own t2 ≠ adr y.1 a := fun w => by
    rw [k4] at w
    rw [w, g] at k3
    cases k3
  obtain ⟨M1, e1, rest1, s1, S1, hz, hK⟩ := sb_appI (E := E) hE27 hE1 hE2 S k1 k3 (hA.lt k1) (hA.lt k3) b3 b4 k2 k4 hn hl
  have hK := hK _ hk
  rw [hr.1]
  exact sb_doneE (nn := 2) (m := 8 * (digs 10 n []).length + 16) (xs := xs ++ digs 10 n []) (rest := rest1) hr.2 hW hA hc (by decide) (s1.mono (by decide)) S1 rfl (by rw [List.length_append]) (by rw [List.length_append]; omega) (by omega) (by rw [List.length_append (as := xs)]; omega)
end
