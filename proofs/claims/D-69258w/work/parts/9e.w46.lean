/-! the warden: matrix -/
section
variable {own : Nat → Nat} {s : CS} {t : TS}
/-- the order's list is filled -/
theorem c_fill {S : CS} {k : Nat} {mc mo : Int32} {es : List (Value × Value)} {fs : List Value} (h1 : S.1 151 = some (true, false, 47, fs)) (h1' : fs[7]? = some (.ref 161)) (h2 : S.1 161 = some (true, false, 1013, [.int mo])) (h3 : S.1 k = some (true, false, 1042, .int mc :: fl es)) (hk : k ≠ 161) (hl : es.length ≤ 20) (hcnt : S.2.2.1 < 3990000000) (A : Nat → Nat) (hv : ∀ i (hi : i < es.length), es[i].2 = .ref (A i) ∧ A i ≠ 161 ∧ ∃ fs, S.1 (A i) = some (true, false, 91, fs)) :
    ∃ S' mo', wh (S := CS × Nat) (X := CS) (fun p39 => Option.bind (tmIHas p39.1 k mc p39.2) (fun x19 => (if x19 = 0 then some (.inr p39.1) else Option.bind (tmNxV p39.1 k mc p39.2) (fun e20 => Option.bind (toN p39.1 [91] e20) (fun a21 => Option.bind (xN p39.1 [(47, 7)] 151) (fun a22 => (if isK p39.1 [13] a22 = true then Option.bind (alAdd p39.1 a22 (.ref a21)) (fun s23 => some (.inl (s23, p39.2 + 1))) else none))))))) (S, 0) = some S' ∧ S' = cput S 1013 161 es.length (16 * es.length) (.int mo' :: rowC (fun i => .ref (A i)) es.length) := by
  suffices q : Tr (wh (S := CS × Nat) (X := CS) (fun p39 => Option.bind (tmIHas p39.1 k mc p39.2) (fun x19 => (if x19 = 0 then some (.inr p39.1) else Option.bind (tmNxV p39.1 k mc p39.2) (fun e20 => Option.bind (toN p39.1 [91] e20) (fun a21 => Option.bind (xN p39.1 [(47, 7)] 151) (fun a22 => (if isK p39.1 [13] a22 = true then Option.bind (alAdd p39.1 a22 (.ref a21)) (fun s23 => some (.inl (s23, p39.2 + 1))) else none))))))) (S, 0)) (fun S' => ∃ mo', S' = cput S 1013 161 es.length (16 * es.length) (.int mo' :: rowC (fun i => .ref (A i)) es.length)) by
    obtain ⟨S', e1, mo', e2⟩ := q
    exact ⟨S', mo', e1, e2⟩
  refine wh_cnt es.length (fun i a => a.2 = i ∧ ∃ mo' : Int32, a.1 = cput S 1013 161 i (16 * i) (.int mo' :: rowC (fun i => .ref (A i)) i)) ?_ ?_ ⟨rfl, mo, ?_⟩
  · rintro i ⟨a, i'⟩ hi ⟨rfl, mo', e⟩
    dsimp only at e hi
    subst e
    obtain ⟨v1, v2, fs, v3⟩ := hv i' hi
    have c1 : (cput S 1013 161 i' (16 * i') (.int mo' :: rowC (fun i => .ref (A i)) i')).1 k = _ := (cput_ne hk).trans h3
    have c2 : (cput S 1013 161 i' (16 * i') (.int mo' :: rowC (fun i => .ref (A i)) i')).1 151 = _ := (cput_ne (by omega)).trans h1
    have c3 : (cput S 1013 161 i' (16 * i') (.int mo' :: rowC (fun i => .ref (A i)) i')).1 (A i') = _ := (cput_ne v2).trans v3
    have c4 := cput_eq S 1013 161 i' (16 * i') (.int mo' :: rowC (fun i => .ref (A i)) i')
    have hc4 : (cput S 1013 161 i' (16 * i') (.int mo' :: rowC (fun i => .ref (A i)) i')).2.2.1 < 4000000000 := by show S.2.2.1 + i' < _; omega
    refine Or.inr ⟨(cput (cput S 1013 161 i' (16 * i') (.int mo' :: rowC (fun i => .ref (A i)) i')) 1013 161 1 16 (.int (mo' + 1) :: rowC (fun j => if j = i' then .ref (A i') else .ref (A j)) (i' + 1)), i' + 1), ?_, rfl, mo' + 1, ?_⟩
    · dsimp only
      rw [tmIHas_l c1 hc4, Option.bind_some, if_pos hi, if_neg (by decide)]
      unfold tmNxV
      rw [tmVal_l c1 hc4 hi, v1, Option.bind_some, toN_o c3 rfl, Option.bind_some, xN_o (b := 161) c2 rfl h1', Option.bind_some, if_pos (isK_t c4 rfl), alAdd_r c4 (by omega) (elO_o c3)]; rfl
    · dsimp only
      have hr : rowC (fun j => if j = i' then Value.ref (A i') else .ref (A j)) (i' + 1) = rowC (fun j => .ref (A j)) (i' + 1) := rowC_congr (fun j hj => by
        by_cases y : j = i'
        · rw [if_pos y, y]
        · rw [if_neg y])
      rw [hr]
      refine Prod.ext (show lUpd (lUpd S.1 161 _) 161 _ = lUpd S.1 161 _ from lUpdU ..) (Prod.ext rfl (Prod.ext ?_ ?_))
      · show S.2.2.1 + i' + 1 = S.2.2.1 + (i' + 1); omega
      · show S.2.2.2 + 16 * i' + 16 = S.2.2.2 + 16 * (i' + 1); omega
  · rintro ⟨a, i'⟩ ⟨rfl, mo', e⟩
    dsimp only at e
    subst e
    have c1 : (cput S 1013 161 es.length (16 * es.length) (.int mo' :: rowC (fun i => .ref (A i)) es.length)).1 k = _ := (cput_ne hk).trans h3
    have hc4 : (cput S 1013 161 es.length (16 * es.length) (.int mo' :: rowC (fun i => .ref (A i)) es.length)).2.2.1 < 4000000000 := by show S.2.2.1 + es.length < _; omega
    refine ⟨_, ?_, mo', rfl⟩
    dsimp only
    rw [tmIHas_l c1 hc4, Option.bind_some, if_neg (Nat.lt_irrefl _), if_pos rfl]
  · show S = cput S 1013 161 0 0 [.int mo]
    unfold cput
    rw [cup_id h2]; rfl
end
/-- the places of the acts -/
theorem od_of {s : CS} {V : TS} {A : Nat → Nat} {es : List (Value × Value)} (hm : Mp (rkS s) es (tolF V A (tolL V))) (hA : ∀ a, a < 20 → V.2.2.1 109 a = 1 → s.1 (A a) = some (actC V a)) : ∃ od : Nat → Nat, (∀ i (hi : i < es.length), es[i].2 = .ref (A (od i))) ∧ (∀ i, i < es.length → od i < 20 ∧ V.2.2.1 109 (od i) = 1 ∧ bef V (od i) = i) ∧ ∀ a, a < 20 → V.2.2.1 109 a = 1 → bef V a < es.length := by
  have key : ∀ i (hi : i < es.length), ∃ a, a ∈ tolL V ∧ rkN V a = rkS s es[i].1 ∧ es[i].2 = .ref (A a) := by
    intro i hi
    have h1 := hm.2.1 es[i] (List.getElem_mem hi)
    unfold tolF at h1
    cases hf : (tolL V).find? (fun a => rkN V a == rkS s es[i].1) with
    | none => rw [hf] at h1; cases h1
    | some a =>
      rw [hf] at h1
      have h2 := List.find?_some hf
      simp only [beq_iff_eq] at h2
      exact ⟨a, List.mem_of_find?_eq_some hf, h2, (Option.some.inj h1).symm⟩
  have hod : ∃ od : Nat → Nat, ∀ i (hi : i < es.length), od i ∈ tolL V ∧ rkN V (od i) = rkS s es[i].1 ∧ es[i].2 = .ref (A (od i)) := by
    refine ⟨fun i => if hi : i < es.length then (key i hi).choose else 0, fun i hi => ?_⟩
    dsimp only
    rw [dif_pos hi]
    exact (key i hi).choose_spec
  obtain ⟨od, ho⟩ := hod
  have hnd : (tolL V).Nodup := List.Pairwise.sublist List.filter_sublist List.nodup_range
  have hmono : ∀ i j, i < j → j < es.length → rkN V (od i) < rkN V (od j) := by
    intro i j hij hj
    rw [(ho i (by omega)).2.1, (ho j hj).2.1]
    exact List.pairwise_iff_getElem.mp hm.1 i j (by omega) hj hij
  have hsur : ∀ a ∈ tolL V, ∃ i, i < es.length ∧ od i = a := by
    intro a ha
    have h1 : tolF V A (tolL V) (rkN V a) ≠ none := by
      unfold tolF
      rw [ne_eq, Option.map_eq_none_iff, List.find?_eq_none]
      intro h
      exact absurd (h a ha) (by simp)
    obtain ⟨v, hv⟩ := Option.ne_none_iff_exists'.mp h1
    obtain ⟨e, he, hr⟩ := hm.2.2 _ _ hv
    obtain ⟨i, hi, rfl⟩ := List.getElem_of_mem he
    refine ⟨i, hi, ?_⟩
    have h2 := (ho i hi).2.1
    rw [hr] at h2
    exact rkN_inj (tolL_mem.mp (ho i hi).1).1 (tolL_mem.mp ha).1 h2
  have hbef : ∀ i, i < es.length → bef V (od i) = i := by
    intro i hi
    have hi20 := (tolL_mem.mp (ho i hi).1).1
    have := ord_cnt hnd (n := es.length) (f := rkN V) (od := od) (fun i hi => (ho i hi).1) hmono hsur hi
    refine Eq.trans ?_ this
    unfold bef tolL
    rw [List.filter_filter]
    congr 1
    refine List.filter_congr (fun b hb => ?_)
    rw [rkN_soon hi20 (List.mem_range.mp hb), Bool.and_comm]
  refine ⟨od, fun i hi => (ho i hi).2.2, fun i hi => ⟨(tolL_mem.mp (ho i hi).1).1, (tolL_mem.mp (ho i hi).1).2, hbef i hi⟩, fun a ha hta => ?_⟩
  obtain ⟨i, hi, rfl⟩ := hsur a (tolL_mem.mpr ⟨ha, hta⟩)
  rw [hbef i hi]; exact hi
theorem RM_cgB {h h' : lHeap} {V : TS} {np b0 mx zm am rl nr : Nat} {Z ZP A RW : Nat → Nat} (r : RM h V np b0 mx zm am rl nr Z ZP A RW) (k : ∀ q c, b0 ≤ q → h q = some c → h' q = some c) : RM h' V np b0 mx zm am rl nr Z ZP A RW := by
  obtain ⟨m1, m2, ⟨mz, ez, m3, m4, m5⟩, ⟨ma, ea, m6, m7, m8⟩, ⟨mr, m9⟩, m10, m11, m12, m13, m14, m15⟩ := r
  refine ⟨k _ _ m2.1 m1, m2, ⟨mz, ez, k _ _ m2.2.1 m3, m4, m5⟩, ⟨ma, ea, k _ _ m2.2.2.1 m6, m7, m8⟩, ⟨mr, k _ _ m2.2.2.2.1 m9⟩, m10, m11, fun z hz => ?_, fun q hq => ?_, fun a ha y => ?_, m15⟩
  · obtain ⟨a1, a2, a3⟩ := m12 z hz
    refine ⟨a1, a2, fun y => ?_⟩
    obtain ⟨⟨b1, b2, b3, b4, n, b5, b6, ⟨mc, b7⟩, b8⟩, b9⟩ := a3 y
    exact ⟨⟨k _ _ b9.1 b1, b2, b3, b4, n, b5, b6, ⟨mc, k _ _ b9.2.1 b7⟩, b8⟩, b9⟩
  · obtain ⟨a1, a2⟩ := m13 q hq
    exact ⟨k _ _ a2.1 a1, a2⟩
  · obtain ⟨a1, a2⟩ := m14 a ha y
    exact ⟨k _ _ a2.1 a1, a2⟩
/-- the other parts stay -/
theorem rt_w {t T : TS} (h1 : ∀ c, c ≠ 0 → ¬ (300 ≤ c ∧ c < 400) → T.1 c = t.1 c) (h2 : T.2.1 = t.2.1) (h3 : ∀ c j, ¬ (99 ≤ c ∧ c < 125) → T.2.2.1 c j = t.2.2.1 c j) (h4 : T.2.2.2 = t.2.2.2) {Z : Nat} (h7 : Z ≠ 7) (h9 : Z ≠ 99) : rt T Z = rt t Z := by
  unfold rt
  refine Prod.ext ?_ (Prod.ext ?_ (Prod.ext ?_ ?_))
  · funext c
    dsimp only
    by_cases y : mI c = Z
    · rw [if_pos y, if_pos y]
      refine h1 c ?_ ?_
      · intro z; unfold mI at y; rw [if_pos z] at y; omega
      · intro z; unfold mI at y
        rw [if_neg (by omega), if_neg (by omega), if_neg (by omega), if_neg (by omega), if_neg (by omega), if_pos (by omega)] at y
        omega
    · rw [if_neg y, if_neg y]
  · rw [h2]
  · funext c j
    dsimp only
    by_cases y : mR c = Z
    · rw [if_pos y, if_pos y]
      refine h3 c j ?_
      intro z
      unfold mR at y
      rw [if_neg (by omega), if_neg (by omega), if_neg (by omega), if_neg (by omega), if_neg (by omega), if_pos (by omega)] at y
      omega
    · rw [if_neg y, if_neg y]
  · rw [h4]
