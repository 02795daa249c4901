/-! the library: PriorityQueue.poll -/
theorem HpF.root {f : Nat → Int32} {n : Nat} (h : HpF f n) : ∀ i, i < n → f 0 ≤ f i := by
  intro i
  induction i using Nat.strongRecOn with
  | ind i ih =>
    intro hi
    by_cases z : i = 0
    · rw [z]
      exact Int32.le_refl _
    · exact Int32.le_trans (ih ((i - 1) / 2) (by omega) (by omega)) (h i (by omega) hi)
theorem jf_last {rs : List Value} {x : Value} {cap : Nat} (h : rs.length < cap) : (jfil (rs ++ [x]) cap).set rs.length .null = jfil rs cap := by
  unfold jfil
  rw [List.append_assoc, List.set_append_right _ _ (Nat.le_refl _), Nat.sub_self, List.length_append, List.length_singleton]
  obtain ⟨c, hc⟩ : ∃ c, cap = rs.length + 1 + c := ⟨cap - (rs.length + 1), by omega⟩
  rw [hc, Nat.add_sub_cancel_left, show rs.length + 1 + c - rs.length = c + 1 by omega, List.replicate_succ]
  rfl
section
variable {E : lE} {ky : Value → Int32} {M : lMem}
/-- poll, where something lies in the queue -/
theorem sp_220 {a e cap b0 : Nat} {rs rs1 : List Value} {m : Int32} (hrs : rs = .ref b0 :: rs1) (ga : M.1 a = some (true, false, 37, [.ref e, .int (Int32.ofNat rs.length), .null, .int m])) (he : M.1 e = some (true, true, 6, jfil rs cap)) (hn : rs.length ≤ cap) (hc : cap ≤ 300000) (hea : e ≠ a) (hq : ∀ r ∈ rs, qE ky M r) : ∃ rs', rs'.length = rs1.length ∧ rs'.Perm rs1 ∧ (HpF (fun i => ky (rs.getD i .null)) rs.length → HpF (fun i => ky (rs'.getD i .null)) rs'.length) ∧ lSp E prog 6 220 [.ref a] M (.inl (some (.ref b0)), (lUpd (lUpd M.1 e (true, true, 6, jfil rs' cap)) a (true, false, 37, [.ref e, .int (Int32.ofNat rs'.length), .null, .int (m + 1)]), M.2.1, M.2.2)) := by
  have ln : rs.length = rs1.length + 1 := by rw [hrs]; rfl
  have hsub : Int32.ofNat rs.length - 1 = Int32.ofNat rs1.length := by
    rw [show Int32.ofNat rs.length - 1 = Int32.ofNat (rs.length - 1) from i_sub (k := 1) (by omega), show rs.length - 1 = rs1.length by omega]
  have h0 : (jfil rs cap)[0]? = some (.ref b0) := by
    rw [hrs]
    rfl
  obtain ⟨Ma, hMa⟩ : ∃ Ma : lMem, Ma = (lUpd M.1 a (true, false, 37, [.ref e, .int (Int32.ofNat rs1.length), .null, .int (m + 1)]), M.2.1, M.2.2) := ⟨_, rfl⟩
  have gea : Ma.1 e = some (true, true, 6, jfil rs cap) := by
    rw [hMa]
    exact (lUpd_ne _ _ hea).trans he
  -- up to the last entry
  have walk : ∀ {fin : lF} {xb : Nat}, (jfil rs cap)[rs1.length]? = some (.ref xb) → lGo E prog 5 cd_220 32 (st1 4 (.ref xb) (st1 3 (.int (Int32.ofNat rs1.length)) (st1 2 (.ref b0) (st1 1 (.ref e) (lv_args 0 [.ref a])))), [.int (Int32.ofNat rs1.length)], (lUpd Ma.1 e (true, true, 6, (jfil rs cap).set rs1.length .null), Ma.2.1, Ma.2.2)) fin → lSp E prog 6 220 [.ref a] M fin := by
    intro fin xb hxb h
    refine lGo.sp (D := 5) pg_220 (Nat.le_of_ble_eq_true rfl) ?_
    refine lGo.step rfl (fun _ => rfl) ?_; dsimp only
    refine lGo.get rfl ga rfl rfl ?_
    refine lGo.step rfl (fun _ => rfl) ?_; dsimp only
    refine lGo.step rfl (fun _ => rfl) ?_; dsimp only
    refine lGo.step rfl (fun _ => rfl) ?_; dsimp only
    refine lGo.ald rfl he rfl (by decide) h0 ?_
    refine lGo.step rfl (fun _ => rfl) ?_; dsimp only
    refine lGo.step rfl (fun _ => rfl) ?_; dsimp only
    refine lGo.step rfl (fun _ => rfl) ?_; dsimp only
    refine lGo.step rfl (fun _ => rfl) ?_; dsimp only
    refine lGo.step rfl (fun _ => rfl) ?_; dsimp only
    refine lGo.get rfl ga rfl rfl ?_
    refine lGo.step rfl (fun _ => rfl) ?_; dsimp only
    refine lGo.step rfl (fun _ => rfl) ?_; dsimp only
    refine lGo.put rfl ga rfl (Nat.le_of_ble_eq_true rfl) rfl ?_
    refine lGo.step rfl (fun _ => rfl) ?_; dsimp only
    refine lGo.step rfl (fun _ => rfl) ?_; dsimp only
    refine lGo.step rfl (fun _ => rfl) ?_; dsimp only
    refine lGo.get rfl (lUpd_eq ..) rfl rfl ?_
    refine lGo.step rfl (fun _ => rfl) ?_; dsimp only
    refine lGo.step rfl (fun _ => rfl) ?_; dsimp only
    rw [hsub]
    refine lGo.step rfl (fun _ => rfl) ?_; dsimp only
    refine lGo.put rfl (lUpd_eq ..) rfl (Nat.le_of_ble_eq_true rfl) rfl ?_
    rw [lUpdU]
    show lGo E prog 5 cd_220 23 (_, _, (lUpd M.1 a (true, false, 37, [.ref e, .int (Int32.ofNat rs1.length), .null, .int (m + 1)]), M.2.1, M.2.2)) _
    rw [← hMa]
    refine lGo.step rfl (fun _ => rfl) ?_; dsimp only
    refine lGo.step rfl (fun _ => rfl) ?_; dsimp only
    refine lGo.ald rfl gea rfl (i_nlt0 (by omega)) (by rw [clampN (by omega)]; exact hxb) ?_
    refine lGo.step rfl (fun _ => rfl) ?_; dsimp only
    refine lGo.step rfl (fun _ => rfl) ?_; dsimp only
    refine lGo.step rfl (fun _ => rfl) ?_; dsimp only
    refine lGo.step rfl (fun _ => rfl) ?_; dsimp only
    refine lGo.rstN rfl gea rfl (i_nlt0 (by omega)) (by rw [clampN (by omega), jfil_len hn]; omega) ?_
    rw [clampN (by omega)]
    refine lGo.step rfl (fun _ => rfl) ?_; dsimp only
    exact h
  have nea : ∀ w fs, M.1 a ≠ some (w, false, 19, fs) := fun w fs z => by
    rw [ga] at z
    cases z
  rcases List.eq_nil_or_concat rs1 with z | ⟨mid, x, z⟩
  · subst z
    refine ⟨[], rfl, List.Perm.refl _, fun _ i _ hi => absurd hi (Nat.not_lt_zero _), walk (xb := b0) h0 ?_⟩
    refine lGo.step rfl (fun _ => rfl) ?_; dsimp only
    refine lGo.brT (by decide) ?_
    rw [show (jfil rs cap).set ([] : List Value).length .null = jfil [] cap from by
      rw [hrs]
      exact jf_last (rs := []) (by rw [hrs] at hn; exact hn)]
    have e2 : (lUpd Ma.1 e (true, true, 6, jfil [] cap)) = lUpd (lUpd M.1 e (true, true, 6, jfil [] cap)) a (true, false, 37, [.ref e, .int (Int32.ofNat ([] : List Value).length), .null, .int (m + 1)]) := by
      rw [hMa]
      exact lUpd_sw (fun z => hea z.symm)
    rw [e2, hMa]
    refine lGo.step rfl (fun _ => rfl) ?_; dsimp only
    exact lGo.done rfl (fun _ => rfl)
  · rw [List.concat_eq_append] at z
    subst z
    have l1 : (mid ++ [x]).length = mid.length + 1 := by rw [List.length_append]; rfl
    have hx0 : qE ky M x := hq x (by rw [hrs]; simp)
    obtain ⟨xb, xw, rfl, xg⟩ := id hx0
    have hrs2 : rs = (.ref b0 :: mid) ++ [.ref xb] := hrs
    have hset : (jfil rs cap).set (mid ++ [Value.ref xb]).length .null = jfil (.ref b0 :: mid) cap := by
      rw [hrs2, l1]
      exact jf_last (rs := .ref b0 :: mid) (by show mid.length + 1 < cap; omega)
    have hlast : (jfil rs cap)[(mid ++ [Value.ref xb]).length]? = some (.ref xb) := by
      unfold jfil
      rw [List.getElem?_append_left (by omega), hrs2, l1, List.getElem?_append_right (Nat.le_refl (mid.length + 1)), show (Value.ref b0 :: mid).length = mid.length + 1 from rfl, Nat.sub_self]
      rfl
    have q2 : ∀ v, qE ky M v → qE ky (lUpd Ma.1 e (true, true, 6, jfil (.ref b0 :: mid) cap), Ma.2.1, Ma.2.2) v := fun v h =>
      qE.upd (M := Ma) (by rw [hMa]; exact h.upd nea) (fun w fs z => by rw [gea] at z; cases z)
    have jl : (jfil (.ref b0 :: mid) cap).length = cap := jfil_len (by show mid.length + 1 ≤ cap; omega)
    obtain ⟨L', p1, p2, p3, p4, p5⟩ := sp_221 (E := E) (ky := ky) (n := mid.length + 1) (xb := xb) (M := (lUpd Ma.1 e (true, true, 6, jfil (.ref b0 :: mid) cap), Ma.2.1, Ma.2.2)) (by omega) (Nat.succ_pos _) (by omega) (by omega) (lUpd_eq ..) (q2 _ hx0) (fun i hi hne => by
      rw [jf_gD (show i < mid.length + 1 from hi)]
      refine q2 _ (hq _ ?_)
      rw [hrs2]
      exact List.mem_append_left _ (gD_mem (show i < mid.length + 1 from hi)))
    have hs0 : (jfil (.ref b0 :: mid) cap).set 0 (.ref xb) = jfil (.ref xb :: mid) cap := rfl
    rw [hs0] at p2
    rw [jf_drop (rs := .ref b0 :: mid) (n := mid.length + 1) rfl] at p3
    obtain ⟨r1, r2, r3⟩ := jf_perm (n := mid.length + 1) (by omega) (p1.trans jl) rfl p2 p3 rfl
    refine ⟨L'.take (mid.length + 1), by rw [r2, l1], r3.trans (List.perm_append_singleton _ _).symm, fun h => ?_, walk hlast ?_⟩
    · rw [r2]
      refine (p4 ⟨fun i hi hin hne => ?_, fun z => absurd z (Nat.lt_irrefl _)⟩).cg (fun i hi => by rw [tk_gD hi])
      rw [hs0]
      dsimp only
      rw [jf_gD (rs := .ref xb :: mid) (show (i - 1) / 2 < mid.length + 1 by omega), jf_gD (rs := .ref xb :: mid) (show i < mid.length + 1 from hin)]
      have := h i hi (by omega)
      dsimp only at this
      have g : ∀ j, 0 < j → j < mid.length + 1 → (Value.ref xb :: mid).getD j .null = rs.getD j .null := fun j hj hjn => by
        rw [hrs2]
        cases j with
        | zero => omega
        | succ j =>
          rw [List.getD_eq_getElem?_getD, List.getD_eq_getElem?_getD, List.cons_append, List.getElem?_cons_succ, List.getElem?_cons_succ, List.getElem?_append_left (by omega)]
      rw [g i hi hin, g _ (by omega) (by omega)]
      exact this
    · rw [hset]
      refine lGo.step rfl (fun _ => rfl) ?_; dsimp only
      refine lGo.brF (decide_eq_false (fun w => by have := (i_le (by omega) (by decide)).mp (show Int32.ofNat (mid ++ [Value.ref xb]).length ≤ Int32.ofNat 0 from w); omega)) ?_
      refine lGo.step rfl (fun _ => rfl) ?_; dsimp only
      have gaa : lUpd Ma.1 e (true, true, 6, jfil (.ref b0 :: mid) cap) a = some (true, false, 37, [.ref e, .int (Int32.ofNat (mid ++ [Value.ref xb]).length), .null, .int (m + 1)]) := (lUpd_ne _ _ (fun z => hea z.symm)).trans (by rw [hMa]; exact lUpd_eq ..)
      refine lGo.get rfl gaa rfl rfl ?_
      refine lGo.step rfl (fun _ => rfl) ?_; dsimp only
      refine lGo.step rfl (fun _ => rfl) ?_; dsimp only
      refine lGo.step rfl (fun _ => rfl) ?_; dsimp only
      refine lGo.step rfl (fun _ => rfl) ?_; dsimp only
      refine lGo.step rfl (fun _ => rfl) ?_; dsimp only
      refine lGo.step rfl (fun _ => rfl) ?_; dsimp only
      refine lGo.step rfl (fun _ => rfl) ?_; dsimp only
      rw [l1]
      refine lGo.call (n := 4) rfl ⟨Nat.le_of_ble_eq_true rfl, Nat.le_of_ble_eq_true rfl⟩ (p5.mono (by decide)) ?_
      dsimp only
      rw [lUpdU]
      have e2 : (lUpd Ma.1 e (true, true, 6, L')) = lUpd (lUpd M.1 e (true, true, 6, L')) a (true, false, 37, [.ref e, .int (Int32.ofNat (mid.length + 1)), .null, .int (m + 1)]) := by
        rw [hMa, l1]
        exact lUpd_sw (fun z => hea z.symm)
      rw [e2, hMa, ← r1, r2]
      refine lGo.step rfl (fun _ => rfl) ?_; dsimp only
      refine lGo.step rfl (fun _ => rfl) ?_; dsimp only
      exact lGo.done rfl (fun _ => rfl)
end
section
variable {E : lE} {y : lY} {s : CS} {A0 M : lMem} {G : lHeap} {own cr : Nat → Nat} {a : Nat} {fs : List Value}
theorem jp220 : JP_220 (lAb (lJd E G) G) E := by
  intro y s A0 a w x hW hr hx M hM
  obtain ⟨own, cr, hA⟩ := id hM
  obtain ⟨fs, hc, hx1⟩ := bindC hx
  have hc := cc_some hc
  obtain ⟨⟨p1, p2, p3, p4⟩, ⟨e, cap, m, g1, g2, g3, g4, g5, g6, g7⟩, ho, hla⟩ := jp_Q hW hA hc
  rw [hr.1]
  cases fs with
  | nil =>
    cases hx1
    have hnil : y.2 a = [] := by
      have := p3.length_eq
      rw [List.length_map] at this
      exact List.eq_nil_of_length_eq_zero this
    rw [hnil] at g1 g7
    refine ⟨(.inl (some .null), M), _, ?_, hM, trivial, none, rfl, y, A0, hW, Ext.same (fun _ _ h => h) (fun _ _ h k => ⟨h, k⟩) (Nat.le_refl _) (fun _ _ h => ⟨h, rfl⟩), rfl, rfl⟩
    refine lGo.sp (D := 9) pg_220 (Nat.le_of_ble_eq_true rfl) ?_
    refine lGo.step rfl (fun _ => rfl) ?_; dsimp only
    refine lGo.get rfl g1 rfl rfl ?_
    refine lGo.step rfl (fun _ => rfl) ?_; dsimp only
    refine lGo.step rfl (fun _ => rfl) ?_; dsimp only
    refine lGo.step rfl (fun _ => rfl) ?_; dsimp only
    refine lGo.ald (v := .null) rfl g7 rfl (by decide) ?_ ?_
    · unfold jfil
      rw [List.nil_append, List.getElem?_replicate, if_pos]
      show 0 < cap - 0
      omega
    refine lGo.step rfl (fun _ => rfl) ?_; dsimp only
    refine lGo.step rfl (fun _ => rfl) ?_; dsimp only
    refine lGo.step rfl (fun _ => rfl) ?_; dsimp only
    refine lGo.step rfl (fun _ => rfl) ?_; dsimp only
    exact lGo.done rfl (fun _ => rfl)
  | cons v r =>
    cases hx1
    obtain ⟨r0, rs1, hrs⟩ : ∃ r0 rs1, y.2 a = r0 :: rs1 := by
      cases h : y.2 a with
      | nil =>
        rw [h] at p3
        have := p3.length_eq
        simp at this
      | cons r0 rs1 => exact ⟨r0, rs1, rfl⟩
    have a0 := p1 r0 (by rw [hrs]; exact List.mem_cons_self ..)
    obtain ⟨b0, _, e0, _⟩ := id a0
    subst e0
    -- the least
    have hv : v = .int (kyA A0 (.ref b0)) := by
      obtain ⟨rv, m1, m2⟩ := List.mem_map.mp (p3.mem_iff.mpr (List.mem_cons_self ..))
      have h1 : (kyA A0 (.ref b0)).toInt ≤ vI v := by
        rw [← m2]
        obtain ⟨i, hi, e⟩ := List.getElem_of_mem m1
        have := p2.root i hi
        rw [List.getD_eq_getElem?_getD, List.getD_eq_getElem?_getD, List.getElem?_eq_getElem hi, e] at this
        rw [hrs] at this
        exact Int32.le_iff_toInt_le.mp this
      have h2 : vI v ≤ (kyA A0 (.ref b0)).toInt := by
        have hm : Value.int (kyA A0 (.ref b0)) ∈ v :: r := p3.mem_iff.mp (List.mem_map.mpr ⟨.ref b0, by rw [hrs]; exact List.mem_cons_self .., rfl⟩)
        rcases List.mem_cons.mp hm with z | z
        · rw [← z]
          exact Int.le_refl _
        · exact (List.pairwise_cons.mp p4).1 _ z
      rw [← m2] at h1 h2 ⊢
      exact congrArg Value.int (Int32.toInt_inj.mp (Int.le_antisymm h2 h1))
    have hr0 : relV y.1 A0 v (.ref b0) := by
      rw [hv]
      exact a0
    have hp5 : (rs1.map (fun r => Value.int (kyA A0 r))).Perm r := by
      rw [hrs, List.map_cons, hv] at p3
      exact List.Perm.cons_inv p3
    obtain ⟨rs', q1, q2, q3, q4⟩ := sp_220 (E := E) (ky := kyA A0) hrs g1 g7 g2 g4 g5 (fun r hr => (p1 r hr).q hA)
    have ln : (y.2 a).length = rs1.length + 1 := by rw [hrs]; rfl
    have W2 := ((Jw.rf hA).upd (w' := true) (fs' := jfil rs' cap) g7 (fun _ => g6)).upd (w' := true) (fs' := [.ref e, .int (Int32.ofNat rs'.length), .null, .int (m + 1)]) ((lUpd_ne _ _ (fun z => g5 z.symm)).trans g1) (fun _ => ho)
    obtain ⟨fin, A', k1, k2, k3, k4, y', A'', k5, k6, k7⟩ := q_fin (mc := m + 1) (rs' := rs') (fs' := r) (e := e) (cap := cap) (n := s.2.2.1 + 0) (m := s.2.2.2 + 0) hW hA hc (by decide) (q4.mono (D' := 10) (by decide)) W2 ho hla ⟨fun z hz => p1 z (by rw [hrs]; exact List.mem_cons_of_mem _ (q2.mem_iff.mp hz)), q3 p2, (q2.map _).trans hp5, (List.pairwise_cons.mp p4).2⟩ (lUpd_eq ..) (by omega) g3 g4 g5 (fun _ => g6) ((lUpd_ne _ _ g5).trans (lUpd_eq ..)) (Nat.le_add_right _ _) (by show M.2.1 + _ ≤ _; omega) (by show M.2.2 + _ ≤ _; omega)
    exact ⟨fin, A', k1, k2, k3, some b0, k4, y', A'', k5, k6, k6.1 _ _ hr0, k7⟩
end
