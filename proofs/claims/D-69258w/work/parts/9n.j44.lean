/-! the library: PriorityQueue.add -/
theorem HpF.cg {f g : Nat → Int32} {n : Nat} (h : HpF f n) (e : ∀ i, i < n → f i = g i) : HpF g n := by
  intro i hi hin
  rw [← e i hin, ← e _ (by omega)]
  exact h i hi hin
theorem tk_gD {L : List Value} {n i : Nat} (h : i < n) : (L.take n).getD i .null = L.getD i .null := by
  rw [List.getD_eq_getElem?_getD, List.getD_eq_getElem?_getD, List.getElem?_take, if_pos h]
theorem jf_gD {rs : List Value} {cap i : Nat} (h : i < rs.length) : (jfil rs cap).getD i .null = rs.getD i .null := by
  unfold jfil
  rw [List.getD_eq_getElem?_getD, List.getD_eq_getElem?_getD, List.getElem?_append_left h]
theorem gD_mem {rs : List Value} {i : Nat} (h : i < rs.length) : rs.getD i .null ∈ rs := by
  rw [List.getD_eq_getElem?_getD, List.getElem?_eq_getElem h]
  exact List.getElem_mem h
theorem jf_drop {rs : List Value} {cap n : Nat} (h : rs.length = n) : (jfil rs cap).drop n = List.replicate (cap - n) .null := by
  unfold jfil
  rw [← h, List.drop_left]
/-- an array that holds other contents, the rest as before -/
theorem jf_perm {rs qs : List Value} {L : List Value} {cap n : Nat} (hn : n ≤ cap) (hl : L.length = cap) (hq : qs.length = n) (hp : L.Perm (jfil qs cap)) (hd : L.drop n = List.replicate (cap - n) .null) (hrs : rs = L.take n) : L = jfil rs cap ∧ rs.length = n ∧ rs.Perm qs := by
  have h1 : L = jfil rs cap := by
    rw [hrs, ← hl]
    exact jfil_of (by omega) (by rw [hl]; exact hd)
  have h2 : rs.length = n := by
    rw [hrs, List.length_take]
    omega
  refine ⟨h1, h2, ?_⟩
  rw [h1] at hp
  unfold jfil at hp
  rw [h2, hq] at hp
  exact (List.perm_append_right_iff _).mp hp
section
variable {E : lE} {ky : Value → Int32} {M : lMem}
/-- an entry laid in, the array has room -/
theorem off_2 {a e n cap xb : Nat} {rs : List Value} {y : Value} {lv : lL} (ga : M.1 a = some (true, false, 37, [.ref e, .int (Int32.ofNat n), .null, y])) (he : M.1 e = some (true, true, 6, jfil rs cap)) (hl : rs.length = n) (hn : n < cap) (hc : cap ≤ 300000) (hea : e ≠ a) (hx : qE ky M (.ref xb)) (hq : ∀ r ∈ rs, qE ky M r) (l0 : lGet lv 0 = some (.ref a)) (l1 : lGet lv 1 = some (.ref xb)) (l2 : lGet lv 2 = some (.int (Int32.ofNat n))) : ∃ rs', rs'.length = n + 1 ∧ rs'.Perm (rs ++ [.ref xb]) ∧ (HpF (fun i => ky (rs.getD i .null)) n → HpF (fun i => ky (rs'.getD i .null)) (n + 1)) ∧ ∀ D, lGo E prog (D + 5) cd_215 25 (lv, [], M) (.inl (some (.int 1)), (lUpd (lUpd M.1 e (true, true, 6, jfil rs' cap)) a (true, false, 37, [.ref e, .int (Int32.ofNat (n + 1)), .null, y]), M.2.1, M.2.2)) := by
  have jl : (jfil rs cap).length = cap := jfil_len (by omega)
  obtain ⟨L', q1, q2, q3, q4, q5⟩ := sp_217 (E := E) (ky := ky) (n := n + 1) (k := n) (xb := xb) ga (by omega) (Nat.lt_succ_self _) (by omega) (by omega) he hx (fun i hi hne => by
    rw [jf_gD (by omega)]
    exact hq _ (gD_mem (by omega)))
  have hset : (jfil rs cap).set n (.ref xb) = jfil (rs ++ [.ref xb]) cap := by
    rw [← hl]
    exact jfil_set (by omega)
  rw [hset] at q2
  have q3' : L'.drop (n + 1) = List.replicate (cap - (n + 1)) .null := by
    rw [q3, ← List.drop_drop, jf_drop hl, List.drop_replicate, Nat.sub_sub]
  obtain ⟨p1, p2, p3⟩ := jf_perm (n := n + 1) (by omega) (q1.trans jl) (by rw [List.length_append, hl]; rfl) q2 q3' rfl
  refine ⟨L'.take (n + 1), p2, p3, fun h => ?_, fun D => ?_⟩
  · refine (q4 ⟨fun i hi hin hne => ?_, fun _ c h1 h2 h3 => by omega⟩).cg (fun i hi => by rw [tk_gD hi])
    dsimp only
    rw [set_gD (by omega), if_neg (by omega), set_gD (by omega), if_neg hne, jf_gD (by omega), jf_gD (by omega)]
    exact h i hi (by omega)
  · refine lGo.loadA rfl l0 ?_
    refine lGo.loadI rfl l2 ?_
    refine lGo.loadA rfl l1 ?_
    refine lGo.callV rfl rfl ga rfl ⟨Nat.le_of_ble_eq_true rfl, Nat.le_of_ble_eq_true rfl⟩ (q5.mono (Nat.le_add_left _ _)) ?_
    refine lGo.loadA rfl l0 ?_
    refine lGo.loadI rfl l2 ?_
    refine lGo.step rfl (fun _ => rfl) ?_; dsimp only
    refine lGo.step rfl (fun _ => rfl) ?_; dsimp only
    rw [i_suc]
    refine lGo.put rfl ((lUpd_ne _ _ (fun z => hea z.symm)).trans ga) rfl (Nat.le_of_ble_eq_true rfl) rfl ?_
    rw [← p1]
    refine lGo.step rfl (fun _ => rfl) ?_; dsimp only
    exact lGo.done rfl (fun _ => rfl)
theorem sp_216 {a e n c1 : Nat} {rs : List Value} {y : Value} (ga : M.1 a = some (true, false, 37, [.ref e, .int (Int32.ofNat n), .null, y])) (he : M.1 e = some (true, true, 6, rs)) (hl : rs.length = n) (hn : n < 100000) (hE : E 1 = .ref c1) (hf : M.1 M.2.1 = none) (hv : ∀ v ∈ rs, okV M v) : ∃ N, n < N ∧ N ≤ 2 * n + 2 ∧ lSp E prog 4 216 [.ref a, .int (Int32.ofNat (n + 1))] M (.inl none, (lUpd (lUpd M.1 M.2.1 (true, true, 6, jfil rs N)) a (true, false, 37, [.ref M.2.1, .int (Int32.ofNat n), .null, y]), M.2.1 + 1, M.2.2 + N)) := by
  have e1 : Int32.ofNat (n + 1) - Int32.ofNat n = Int32.ofNat 1 := by
    rw [i_sub (by omega), show n + 1 - n = 1 by omega]
  have ga' : ∀ N, lUpd M.1 M.2.1 (true, true, 6, jfil rs N) a = some (true, false, 37, [.ref e, .int (Int32.ofNat n), .null, y]) := fun N => (lUpd_ne _ _ (fun z => by rw [z, hf] at ga; cases ga)).trans ga
  -- the second half
  have half : ∀ (N : Nat), n ≤ N → N ≤ 2 * n + 2 → lGo E prog 3 cd_216 19 ((lv_args 0 [.ref a, .int (Int32.ofNat (n + 1))]) |> st1 2 (.int (Int32.ofNat n)), [.int (Int32.ofNat N)], M) (.inl none, (lUpd (lUpd M.1 M.2.1 (true, true, 6, jfil rs N)) a (true, false, 37, [.ref M.2.1, .int (Int32.ofNat n), .null, y]), M.2.1 + 1, M.2.2 + N)) := by
    intro N h1 h2
    refine lGo.step rfl (fun _ => rfl) ?_; dsimp only
    refine lGo.step rfl (fun _ => rfl) ?_; dsimp only
    refine lGo.step rfl (fun _ => rfl) ?_; dsimp only
    refine lGo.get rfl ga rfl rfl ?_
    refine lGo.step rfl (fun _ => rfl) ?_; dsimp only
    refine lGo.call (n := 2) rfl ⟨Nat.le_of_ble_eq_true rfl, Nat.le_of_ble_eq_true rfl⟩ (sp_56 he hf rfl (by omega) (by omega) hE (fun v hv' => hv v (List.mem_of_mem_take hv'))) ?_
    rw [List.take_of_length_le (by rw [hl]; exact h1)]
    refine lGo.put rfl (ga' N) rfl (Nat.le_of_ble_eq_true rfl) rfl ?_
    exact lGo.done rfl (fun _ => rfl)
  have first : ∀ {fin : lF}, lGo E prog 3 cd_216 8 (st1 2 (.int (Int32.ofNat n)) (lv_args 0 [.ref a, .int (Int32.ofNat (n + 1))]), [.int (Int32.ofNat 1), .int (Int32.ofNat n)], M) fin → lSp E prog 4 216 [.ref a, .int (Int32.ofNat (n + 1))] M fin := by
    intro fin h
    refine lGo.sp (D := 3) pg_216 (Nat.le_of_ble_eq_true rfl) ?_
    refine lGo.step rfl (fun _ => rfl) ?_; dsimp only
    refine lGo.get rfl ga rfl rfl ?_
    refine lGo.len rfl he ?_
    rw [show rs.length.toInt32 = Int32.ofNat n from by rw [hl]]
    refine lGo.step rfl (fun _ => rfl) ?_; dsimp only
    refine lGo.step rfl (fun _ => rfl) ?_; dsimp only
    refine lGo.step rfl (fun _ => rfl) ?_; dsimp only
    refine lGo.step rfl (fun _ => rfl) ?_; dsimp only
    refine lGo.step rfl (fun _ => rfl) ?_; dsimp only
    rw [e1]
    exact h
  by_cases z : n < 64
  · refine ⟨n + max 1 (n + 2), by omega, by omega, first ?_⟩
    refine lGo.step rfl (fun _ => rfl) ?_; dsimp only
    refine lGo.step rfl (fun _ => rfl) ?_; dsimp only
    refine lGo.step rfl (fun _ => rfl) ?_; dsimp only
    refine lGo.brF (decide_eq_false (fun w => by have := (i_le (show 64 < 2147483648 by decide) (by omega)).mp w; omega)) ?_
    refine lGo.step rfl (fun _ => rfl) ?_; dsimp only
    refine lGo.step rfl (fun _ => rfl) ?_; dsimp only
    refine lGo.step rfl (fun _ => rfl) ?_; dsimp only
    rw [show Int32.ofNat n + 2 = Int32.ofNat (n + 2) from i_add n 2]
    refine lGo.step rfl (fun _ => rfl) ?_; dsimp only
    refine lGo.call (n := 3) rfl ⟨Nat.le_of_ble_eq_true rfl, Nat.le_of_ble_eq_true rfl⟩ ((sp_36 (n := n) (a := 1) (b := n + 2) (by omega) (by omega)).mono (by decide)) ?_
    exact half _ (by omega) (by omega)
  · refine ⟨n + max 1 (n / 2), by omega, by omega, first ?_⟩
    have e3 : Int32.ofNat n >>> (1 &&& 31 : Int32) = Int32.ofNat (n / 2) := by
      rw [show (1 &&& 31 : Int32) = Int32.ofNat 1 from by decide, i_shr (by omega) (by decide)]
    refine lGo.step rfl (fun _ => rfl) ?_; dsimp only
    refine lGo.step rfl (fun _ => rfl) ?_; dsimp only
    refine lGo.step rfl (fun _ => rfl) ?_; dsimp only
    refine lGo.brT (decide_eq_true ((i_le (show 64 < 2147483648 by decide) (by omega)).mpr (by omega))) ?_
    refine lGo.step rfl (fun _ => rfl) ?_; dsimp only
    refine lGo.step rfl (fun _ => rfl) ?_; dsimp only
    refine lGo.step rfl (fun _ => rfl) ?_; dsimp only
    rw [e3]
    refine lGo.call (n := 3) rfl ⟨Nat.le_of_ble_eq_true rfl, Nat.le_of_ble_eq_true rfl⟩ ((sp_36 (n := n) (a := 1) (b := n / 2) (by omega) (by omega)).mono (by decide)) ?_
    exact half _ (by omega) (by omega)
end
theorem pins_int {x : Int32} : ∀ {fs : List Value}, (∀ v ∈ fs, ∃ z : Int32, v = .int z) → (pins x fs).Perm (fs ++ [.int x]) ∧ (SrV fs → SrV (pins x fs)) := by
  intro fs
  induction fs with
  | nil => exact fun _ => ⟨List.Perm.refl _, fun _ => List.pairwise_singleton ..⟩
  | cons v r ih =>
    intro h
    obtain ⟨z, rfl⟩ := h v (List.mem_cons_self ..)
    obtain ⟨k1, k2⟩ := ih (fun v hv => h v (List.mem_cons_of_mem _ hv))
    by_cases q : x < z
    · rw [show pins x (.int z :: r) = .int x :: .int z :: r from if_pos q]
      refine ⟨?_, fun hs => ?_⟩
      · have : (Value.int x :: (Value.int z :: r)).Perm ((Value.int z :: r) ++ [Value.int x]) := (List.perm_append_singleton _ _).symm
        exact this
      · have h2 : (z.toInt : Int) ≤ z.toInt := Int.le_refl _
        have h3 : x.toInt ≤ z.toInt := Int32.le_iff_toInt_le.mp (Int32.le_of_lt q)
        refine List.pairwise_cons.mpr ⟨fun b hb => ?_, hs⟩
        rcases List.mem_cons.mp hb with w | w
        · rw [w]
          exact h3
        · exact Int.le_trans h3 ((List.pairwise_cons.mp hs).1 b w)
    · rw [show pins x (.int z :: r) = .int z :: pins x r from if_neg q]
      refine ⟨List.Perm.cons _ k1, fun hs => ?_⟩
      obtain ⟨h2, h3⟩ := List.pairwise_cons.mp hs
      refine List.pairwise_cons.mpr ⟨fun b hb => ?_, k2 h3⟩
      rcases List.mem_append.mp (k1.mem_iff.mp hb) with w | w
      · exact h2 b w
      · rw [List.mem_singleton] at w
        rw [w]
        exact Int32.le_iff_toInt_le.mp (Int32.not_lt.mp q)
section
variable {E : lE} {y : lY} {s : CS} {A0 M : lMem} {G : lHeap} {own cr : Nat → Nat} {a : Nat} {fs : List Value}
theorem jp214 (hJE : jE E G) : JP_214 (lAb (lJd E G) G) E := by
  intro y s A0 a w e0 w0 s' hW hr hr0 hx M hM
  obtain ⟨own, cr, hA⟩ := hM
  obtain ⟨fs, hc, hx1⟩ := bindC hx
  obtain ⟨x, hx2, hx3⟩ := bindC hx1
  rcases iteC hx3 with ⟨hlt, hx4⟩ | ⟨_, hx4⟩
  case inr => cases hx4
  cases hx4
  have hc := cc_some hc
  obtain ⟨c1, hE1⟩ := hJE.1
  cases e0 with
  | int x' =>
    cases hx2
    have hky := ky_rel hr0
    obtain ⟨xb, hxb⟩ : ∃ xb, vR w0 = .ref xb := by
      obtain ⟨q, _, h, _⟩ := hr0
      exact ⟨q, h⟩
    rw [hxb] at hr0 hky ⊢
    obtain ⟨⟨p1, p2, p3, p4⟩, ⟨e, cap, m, g1, g2, g3, g4, g5, g6, g7⟩, ho, hla⟩ := jp_Q hW hA hc
    have hlen := p3.length_eq
    rw [List.length_map] at hlen
    have ax : aE y.1 A0 (.ref xb) := by
      unfold aE
      rw [hky]
      exact hr0
    have fint : ∀ v ∈ fs, ∃ z : Int32, v = .int z := fun v hv => by
      obtain ⟨r, _, h⟩ := List.mem_map.mp (p3.mem_iff.mpr hv)
      exact ⟨_, h.symm⟩
    obtain ⟨pi1, pi2⟩ := pins_int (x := x) fint
    rw [hr.1]
    obtain ⟨Ma, hMa⟩ : ∃ Ma : lMem, Ma = (lUpd M.1 (adr y.1 a) (true, false, 37, [.ref e, .int (Int32.ofNat (y.2 a).length), .null, .int (m + 1)]), M.2.1, M.2.2) := ⟨_, rfl⟩
    have W1 := (Jw.rf hA).upd (w' := true) (fs' := [.ref e, .int (Int32.ofNat (y.2 a).length), .null, .int (m + 1)]) g1 (fun _ => ho)
    rw [← hMa] at W1
    have qa : ∀ v, qE (kyA A0) M v → qE (kyA A0) Ma v := fun v h => by
      rw [hMa]
      exact h.upd (fun w fs z => by rw [g1] at z; cases z)
    have ga : Ma.1 (adr y.1 a) = some (true, false, 37, [.ref e, .int (Int32.ofNat (y.2 a).length), .null, .int (m + 1)]) := by
      rw [hMa]
      exact lUpd_eq ..
    have ge : Ma.1 e = some (true, true, 6, jfil (y.2 a) cap) := by
      rw [hMa]
      exact (lUpd_ne _ _ g5).trans g7
    have n1 : Ma.2.1 = M.2.1 := by rw [hMa]
    have n2 : Ma.2.2 = M.2.2 := by rw [hMa]
    have fr : Ma.1 Ma.2.1 = none := W1.2.1 _ (Nat.le_refl _)
    -- offer, up to the comparison of sizes
    have walk : ∀ {M' : lMem}, lGo E prog 401 cd_215 19 (st1 2 (.int (Int32.ofNat (y.2 a).length)) (lv_args 0 [.ref (adr y.1 a), .ref xb]), [.int (Int32.ofNat cap), .int (Int32.ofNat (y.2 a).length)], Ma) (.inl (some (.int 1)), M') → lSp E prog 403 214 [.ref (adr y.1 a), .ref xb] M (.inl (some (.int 1)), M') := by
      intro M' h
      refine lGo.sp (D := 402) pg_214 (Nat.le_of_ble_eq_true rfl) ?_
      refine lGo.step rfl (fun _ => rfl) ?_; dsimp only
      refine lGo.step rfl (fun _ => rfl) ?_; dsimp only
      refine lGo.callV rfl rfl g1 rfl ⟨Nat.le_of_ble_eq_true rfl, Nat.le_of_ble_eq_true rfl⟩ (v := some (.int 1)) (M' := M') ?_ ?_
      · refine lGo.sp (D := 401) pg_215 (Nat.le_of_ble_eq_true rfl) ?_
        refine lGo.step rfl (fun _ => rfl) ?_; dsimp only
        refine lGo.step rfl (fun _ => rfl) ?_; dsimp only
        refine lGo.step rfl (fun _ => rfl) ?_; dsimp only
        refine lGo.step rfl (fun _ => rfl) ?_; dsimp only
        refine lGo.get rfl g1 rfl rfl ?_
        refine lGo.step rfl (fun _ => rfl) ?_; dsimp only
        refine lGo.step rfl (fun _ => rfl) ?_; dsimp only
        refine lGo.put rfl g1 rfl (Nat.le_of_ble_eq_true rfl) rfl ?_
        show lGo E prog 401 cd_215 12 (_, _, (lUpd M.1 (adr y.1 a) (true, false, 37, [.ref e, .int (Int32.ofNat (y.2 a).length), .null, .int (m + 1)]), M.2.1, M.2.2)) _
        rw [← hMa]
        refine lGo.step rfl (fun _ => rfl) ?_; dsimp only
        refine lGo.get rfl ga rfl rfl ?_
        refine lGo.step rfl (fun _ => rfl) ?_; dsimp only
        refine lGo.step rfl (fun _ => rfl) ?_; dsimp only
        refine lGo.step rfl (fun _ => rfl) ?_; dsimp only
        refine lGo.get rfl ga rfl rfl ?_
        refine lGo.len rfl ge ?_
        rw [jfil_len g2]
        exact h
      · exact lGo.done rfl (fun _ => rfl)
    have fin : ∀ (rs' : List Value) (e' cap' : Nat) (M1 : lMem), Jw own (adr y.1 a) M M1 → M1.1 (adr y.1 a) = some (true, false, 37, [.ref e', .int (Int32.ofNat (y.2 a).length), .null, .int (m + 1)]) → M1.1 e' = some (true, true, 6, jfil (y.2 a) cap') → rs'.length = (y.2 a).length + 1 → rs'.Perm (y.2 a ++ [.ref xb]) → (HpF (fun i => kyA A0 ((y.2 a).getD i .null)) (y.2 a).length → HpF (fun i => kyA A0 (rs'.getD i .null)) ((y.2 a).length + 1)) → e' ≠ adr y.1 a → (e' < M.2.1 → own e' = adr y.1 a) → (y.2 a).length < cap' → 11 ≤ cap' → cap' ≤ 300000 → M1.2.1 ≤ M.2.1 + 1 → M1.2.2 ≤ M.2.2 + (2 * fs.length + 40) → lSp E prog 403 214 [.ref (adr y.1 a), .ref xb] M (.inl (some (.int 1)), (lUpd (lUpd M1.1 e' (true, true, 6, jfil rs' cap')) (adr y.1 a) (true, false, 37, [.ref e', .int (Int32.ofNat ((y.2 a).length + 1)), .null, .int (m + 1)]), M1.2.1, M1.2.2)) → ∃ (fin : lF) (A' : lMem), lSp E prog 403 214 [.ref (adr y.1 a), .ref xb] M fin ∧ lAb (lJd E G) G fin.2 A' ∧ lXk A' fin.1 ∧ (fin.1 = .inl (some (.int 1)) ∧ qP E y s A0 (lUpd s.1 a (true, false, 1037, pins x fs), s.2.1, s.2.2.1 + 1, s.2.2.2 + (2 * fs.length + 40)) A') := by
      intro rs' e' cap' M1 hW1 h1 h2 h3 h4 h5 h6 h7 h8 h9 h10 h11 h12 hsp
      have W2 := (hW1.upd (w' := true) (fs' := jfil rs' cap') h2 h7).upd (w' := true) (fs' := [.ref e', .int (Int32.ofNat ((y.2 a).length + 1)), .null, .int (m + 1)]) ((lUpd_ne _ _ (fun z => h6 z.symm)).trans h1) (fun _ => ho)
      refine q_fin (mc := m + 1) (rs' := rs') (fs' := pins x fs) (e := e') (cap := cap') hW hA hc (by decide) hsp W2 ho hla ⟨fun r hr => ?_, by rw [h3]; exact h5 p2, ?_, pi2 p4⟩ ?_ (by omega) h9 h10 h6 h7 ?_ (Nat.le_add_right _ _) (by show M1.2.1 + _ ≤ _; omega) (by show M1.2.2 + _ ≤ _; omega)
      · rcases List.mem_append.mp (h4.mem_iff.mp hr) with z | z
        · exact p1 r z
        · rw [List.mem_singleton] at z
          rw [z]
          exact ax
      · refine (h4.map _).trans (List.Perm.trans ?_ pi1.symm)
        rw [List.map_append, List.map_singleton, hky]
        exact List.Perm.append_right _ p3
      · rw [h3]
        exact lUpd_eq ..
      · exact (lUpd_ne _ _ h6).trans (lUpd_eq ..)
    by_cases z : (y.2 a).length < cap
    · obtain ⟨rs', r1, r2, r3, r4⟩ := off_2 (E := E) (lv := st1 2 (.int (Int32.ofNat (y.2 a).length)) (lv_args 0 [.ref (adr y.1 a), .ref xb])) ga ge rfl z g4 g5 (qa _ (ax.q hA)) (fun r hr => qa r ((p1 r hr).q hA)) rfl rfl rfl
      refine fin rs' e cap Ma W1 ga ge r1 r2 r3 g5 (fun _ => g6) z g3 g4 (by omega) (by omega) (walk ?_)
      refine lGo.step rfl (fun _ => rfl) ?_; dsimp only
      refine lGo.brT (decide_eq_true ((i_lt (by omega) (by omega)).mpr z)) ?_
      exact r4 396
    · have hcap : cap = (y.2 a).length := by omega
      rw [hcap, jfil_full] at ge
      obtain ⟨N, n3, n4, s216⟩ := sp_216 ga ge rfl (by omega) hE1 fr (fun v hv => (qa v ((p1 v hv).q hA)).ok)
      have hnN : adr y.1 a ≠ Ma.2.1 := by omega
      have W2 := (W1.new (c := (true, true, 6, jfil (y.2 a) N)) ⟨(show 6 < 1000 by decide), fun w => by cases w⟩ (Ma.2.2 + N)).upd (w' := true) (fs' := [.ref Ma.2.1, .int (Int32.ofNat (y.2 a).length), .null, .int (m + 1)]) ((lUpd_ne _ _ hnN).trans ga) (fun _ => ho)
      have qb : ∀ v, qE (kyA A0) M v → qE (kyA A0) (lUpd (lUpd Ma.1 Ma.2.1 (true, true, 6, jfil (y.2 a) N)) (adr y.1 a) (true, false, 37, [.ref Ma.2.1, .int (Int32.ofNat (y.2 a).length), .null, .int (m + 1)]), Ma.2.1 + 1, Ma.2.2 + N) v := fun v h =>
        qE.upd (M := (lUpd Ma.1 Ma.2.1 (true, true, 6, jfil (y.2 a) N), Ma.2.1, Ma.2.2)) ((qa v h).upd (fun w fs z => by rw [fr] at z; cases z)) (fun w fs z => by
          have z' := ((lUpd_ne _ _ hnN).trans ga).symm.trans z
          cases z')
      have gN : lUpd (lUpd Ma.1 Ma.2.1 (true, true, 6, jfil (y.2 a) N)) (adr y.1 a) (true, false, 37, [.ref Ma.2.1, .int (Int32.ofNat (y.2 a).length), .null, .int (m + 1)]) Ma.2.1 = some (true, true, 6, jfil (y.2 a) N) := (lUpd_ne _ _ (fun z => hnN z.symm)).trans (lUpd_eq ..)
      obtain ⟨rs', r1, r2, r3, r4⟩ := off_2 (E := E) (M := (lUpd (lUpd Ma.1 Ma.2.1 (true, true, 6, jfil (y.2 a) N)) (adr y.1 a) (true, false, 37, [.ref Ma.2.1, .int (Int32.ofNat (y.2 a).length), .null, .int (m + 1)]), Ma.2.1 + 1, Ma.2.2 + N)) (lv := st1 2 (.int (Int32.ofNat (y.2 a).length)) (lv_args 0 [.ref (adr y.1 a), .ref xb])) (lUpd_eq ..) gN rfl n3 (by omega) (fun z => hnN z.symm) (qb _ (ax.q hA)) (fun r hr => qb r ((p1 r hr).q hA)) rfl rfl rfl
      refine fin rs' Ma.2.1 N _ W2 (lUpd_eq ..) gN r1 r2 r3 (fun z => hnN z.symm) (fun z => by omega) n3 (by omega) (by omega) (by show Ma.2.1 + 1 ≤ _; omega) (by show Ma.2.2 + N ≤ _; omega) (walk ?_)
      refine lGo.step rfl (fun _ => rfl) ?_; dsimp only
      refine lGo.brF (decide_eq_false (fun w => z ((i_lt (by omega) (by omega)).mp w))) ?_
      refine lGo.step rfl (fun _ => rfl) ?_; dsimp only
      refine lGo.step rfl (fun _ => rfl) ?_; dsimp only
      refine lGo.step rfl (fun _ => rfl) ?_; dsimp only
      refine lGo.step rfl (fun _ => rfl) ?_; dsimp only
      rw [i_suc]
      refine lGo.callV rfl rfl ga rfl ⟨Nat.le_of_ble_eq_true rfl, Nat.le_of_ble_eq_true rfl⟩ (s216.mono (by decide)) ?_
      exact r4 396
  | _ => cases hx2
end
