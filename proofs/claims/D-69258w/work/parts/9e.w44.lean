/-! the warden: the acts in their order, as a map -/
section
variable {s : CS} {V : TS} {np b0 mx zm am rl nr : Nat} {Z ZP A RW : Nat → Nat}
def tolF (V : TS) (A : Nat → Nat) (L : List Nat) (z : Int) : Option Value := (L.find? (fun a => rkN V a == z)).map (fun a => .ref (A a))
theorem tolF_app {V : TS} {A : Nat → Nat} {L : List Nat} {a : Nat} (hn : ∀ b ∈ L, rkN V b ≠ rkN V a) : tolF V A (L ++ [a]) = fun z => if z = rkN V a then some (.ref (A a)) else tolF V A L z := by
  funext z
  unfold tolF
  rw [List.find?_append]
  by_cases y : z = rkN V a
  · rw [if_pos y]
    have : L.find? (fun a => rkN V a == z) = none := by
      rw [List.find?_eq_none]
      intro b hb
      have := hn b hb
      simp [y, this]
    rw [this]
    simp [y]
  · rw [if_neg y]
    have : ¬ rkN V a = z := fun q => y q.symm
    cases hh : L.find? (fun a => rkN V a == z) with
    | none => simp [this]
    | some x => simp
theorem take_app {L : List Nat} {i : Nat} (h : i < L.length) : L.take (i + 1) = L.take i ++ [L[i]] := by
  rw [List.take_succ, List.getElem?_eq_getElem h]; rfl
theorem c_rank (hw : wfS s) (rm : RM s.1 V np b0 mx zm am rl nr Z ZP A RW) (hcnt : s.2.2.1 < 3999000000) : ∃ S mc es, c_518 mx s = some (s.2.1, S) ∧ wfS S ∧ S.2.1 = s.2.1 + 1 ∧ (∀ q, q < s.2.1 → S.1 q = s.1 q) ∧ S.1 s.2.1 = some (true, false, 1042, .int mc :: fl es) ∧ Mp (rkS s) es (tolF V A (tolL V)) ∧ es.length = (tolL V).length ∧ S.2.2.1 ≤ s.2.2.1 + 25 ∧ S.2.2.2 ≤ s.2.2.2 + 150 := by
  obtain ⟨m1, m2, _, ⟨ma, ea, m6, m7, m8⟩, _, _, _, m12, _, m14, _⟩ := rm
  have hkeys := mp_keys (P := fun c => V.2.2.1 109 c = 1) (f := fun c => .ref (A c)) m7
  have hlen : ea.length = (tolL V).length := by unfold tolL; rw [← hkeys, List.length_map]
  have hl20 : (tolL V).length ≤ 20 := by
    unfold tolL
    exact Nat.le_trans (List.length_filter_le _ _) (by simp)
  have hel : ∀ i (hi : i < ea.length) (hi2 : i < (tolL V).length), ea[i].2 = Value.ref (A (tolL V)[i]) := by
    intro i hi hi2
    have e1 := m7.2.1 ea[i] (List.getElem_mem hi)
    have e2 : (tolL V)[i] = (rkI ea[i].1).toNat := by
      have : ∀ (l m : List Nat) (h : l = m) (hl : i < l.length) (hm : i < m.length), l[i] = m[i] := by
        intro l m h hl hm; subst h; rfl
      unfold tolL at hi2 ⊢
      rw [this _ _ hkeys.symm hi2 (by rw [List.length_map]; exact hi), List.getElem_map]
    rw [e2]
    dsimp only at e1
    split at e1
    · exact (Option.some.inj e1).symm
    · cases e1
  have hnd : (tolL V).Nodup := List.Pairwise.sublist List.filter_sublist List.nodup_range
  have lam := wf_lt hw m6
  have lmx := wf_lt hw m1
  unfold c_518
  obtain ⟨S1, e1, a1, a2, a3, a4, a5, a6⟩ := nw_o (s := s) 42 [.null, .null, .null, .null, .int 0, .int 0, .null, .null, .null] hw
  rw [e1]; repeat (first | rw [Option.bind_some] | rw [Sum.elim_inl] | rw [Sum.elim_inr])
  dsimp only
  rw [if_pos (isK_t a1 rfl), tmInit_o a1]; repeat (first | rw [Option.bind_some] | rw [Sum.elim_inl] | rw [Sum.elim_inr])
  have g1 : (cup S1 s.2.1 (true, false, 1042, [.int 0])).1 mx = some (true, false, 48, [.ref zm, .ref am, .ref rl]) := by rw [cup_ne (by omega), a2 mx (by omega)]; exact m1
  have g2 : (cup S1 s.2.1 (true, false, 1042, [.int 0])).1 am = some (true, false, 1042, .int ma :: fl ea) := by rw [cup_ne (by omega), a2 am (by omega)]; exact m6
  rw [xN_o (b := am) g1 rfl rfl]; repeat (first | rw [Option.bind_some] | rw [Sum.elim_inl] | rw [Sum.elim_inr])
  rw [if_pos (isK_t g2 rfl), tmVw_l g2]; repeat (first | rw [Option.bind_some] | rw [Sum.elim_inl] | rw [Sum.elim_inr])
  rw [tmMc_l (s := chg (cup S1 s.2.1 (true, false, 1042, [.int 0])) 1 1) g2]; repeat (first | rw [Option.bind_some] | rw [Sum.elim_inl] | rw [Sum.elim_inr])
  dsimp only
  have hb0 : (chg (chg (cup S1 s.2.1 (true, false, 1042, [.int 0])) 1 1) 1 4).2 = (s.2.1 + 1, s.2.2.1 + 3, s.2.2.2 + 14) := by
    refine Prod.ext a3 (Prod.ext ?_ ?_)
    · show S1.2.2.1 + 1 + 1 = s.2.2.1 + 3; omega
    · show S1.2.2.2 + 1 + 4 = s.2.2.2 + 14
      rw [a6]; show s.2.2.2 + 9 + 1 + 4 = s.2.2.2 + 14; omega
  have hb1 : ∀ q, q < s.2.1 → (chg (chg (cup S1 s.2.1 (true, false, 1042, [.int 0])) 1 1) 1 4).1 q = s.1 q := fun q hq => (cup_ne (by omega)).trans (a2 q (by omega))
  have hb2 : (chg (chg (cup S1 s.2.1 (true, false, 1042, [.int 0])) 1 1) 1 4).1 s.2.1 = some (true, false, 1042, [.int 0]) := cup_eq ..
  have hb3 : wfS (chg (chg (cup S1 s.2.1 (true, false, 1042, [.int 0])) 1 1) 1 4) := wf_cup a4 (by omega)
  generalize chg (chg (cup S1 s.2.1 (true, false, 1042, [.int 0])) 1 1) 1 4 = S2 at hb0 hb1 hb2 hb3 ⊢
  refine Exists.elim (wh_cnt (f := fun p9 : CS × Nat => Option.bind (tmIHas p9.1 am ma p9.2) (fun x6 => (if x6 = 0 then some (.inr p9.1) else Option.bind (tmNxV p9.1 am ma p9.2) (fun e7 => Option.bind (toN p9.1 [91] e7) (fun a8 => (if isK p9.1 [42] s.2.1 = true then Option.bind (tmPut p9.1 s.2.1 (.ref a8) (.ref a8)) (fun x9 => Option.bind (toR x9.2 [91] x9.1) (fun r10 => some (.inl (x9.2, p9.2 + 1)))) else none)))))) (a := (S2, 0)) (Q := fun S => ∃ mc es, wfS S ∧ S.2.1 = s.2.1 + 1 ∧ (∀ q, q < s.2.1 → S.1 q = s.1 q) ∧ S.1 s.2.1 = some (true, false, 1042, .int mc :: fl es) ∧ Mp (rkS s) es (tolF V A (tolL V)) ∧ es.length = (tolL V).length ∧ S.2.2.1 ≤ s.2.2.1 + 25 ∧ S.2.2.2 ≤ s.2.2.2 + 150)
    ea.length (fun i a => a.2 = i ∧ ∃ (mc : Int32) (es : List (Value × Value)), wfS a.1 ∧ a.1.2.1 = s.2.1 + 1 ∧ (∀ q, q < s.2.1 → a.1.1 q = s.1 q) ∧ a.1.1 s.2.1 = some (true, false, 1042, .int mc :: fl es) ∧ Mp (rkS s) es (tolF V A ((tolL V).take i)) ∧ es.length = i ∧ (∀ x ∈ es.map Prod.fst, ∃ a ∈ tolL V, x = .ref (A a)) ∧ a.1.2.2.1 ≤ s.2.2.1 + 3 + i ∧ a.1.2.2.2 ≤ s.2.2.2 + 14 + 6 * i) ?_ ?_ ⟨rfl, 0, [], hb3, by rw [hb0], hb1, hb2, ⟨List.Pairwise.nil, fun e he => absurd he (by simp), fun z v h => ?_⟩, rfl, fun x hx => absurd hx (by simp), by rw [hb0]; dsimp only; omega, by rw [hb0]; dsimp only; omega⟩) ?_
  · rintro i ⟨S, i'⟩ hi ⟨hi', mc, es, x1, x2, x3, x4, x5, x6, x7, x8, x9⟩
    dsimp only at hi' x1 x2 x3 x4 x8 x9
    subst hi'
    have hi2 : i' < (tolL V).length := by omega
    have hm := tolL_mem.mp (List.getElem_mem hi2)
    have z2 : S.1 am = some (true, false, 1042, .int ma :: fl ea) := (x3 am lam).trans m6
    have hc4 : S.2.2.1 < 4000000000 := by omega
    have hcell : ∀ a, a ∈ tolL V → s.1 (A a) = some (actC V a) ∧ a < 20 ∧ S.1 (A a) = s.1 (A a) := fun a ha => by
      obtain ⟨h1, h2⟩ := tolL_mem.mp ha
      have := (m14 a h1 h2).1
      exact ⟨this, h1, x3 _ (wf_lt hw this)⟩
    have hA := hcell _ (List.getElem_mem hi2)
    have cS : S.1 (A (tolL V)[i']) = some (actC V (tolL V)[i']) := hA.2.2.trans hA.1
    have hk : KOk S (rkS s) (.ref (A (tolL V)[i']) :: es.map Prod.fst) := by
      have hh : ∀ x ∈ (Value.ref (A (tolL V)[i']) :: es.map Prod.fst), ∃ a ∈ tolL V, x = .ref (A a) := fun x hx => by
        rcases List.mem_cons.mp hx with rfl | hx
        · exact ⟨_, List.getElem_mem hi2, rfl⟩
        · exact x7 x hx
      intro x hx y hy
      obtain ⟨a, ha, rfl⟩ := hh x hx
      obtain ⟨b, hb, rfl⟩ := hh y hy
      obtain ⟨p1, p2, p3⟩ := hcell a ha
      obtain ⟨q1, q2, q3⟩ := hcell b hb
      exact cmp_act p2 q2 p1 q1 p3 q3
    have hrk : rkS s (.ref (A (tolL V)[i'])) = rkN V (tolL V)[i'] := rkS_a hm.1 hA.1
    obtain ⟨es', mc', n, j, t1, t2, t3, t4, t5, t6, _⟩ := tm_put (v := .ref (A (tolL V)[i'])) x4 hk x5 (by omega)
    have hfresh : ∀ b ∈ (tolL V).take i', rkN V b ≠ rkN V (tolL V)[i'] := by
      intro b hb e
      have hb2 : b ∈ tolL V := List.mem_of_mem_take hb
      have := rkN_inj (tolL_mem.mp hb2).1 hm.1 e
      subst this
      rw [List.mem_take_iff_getElem] at hb
      obtain ⟨j, hj, ej⟩ := hb
      have := (List.getElem_inj hnd).mp ej
      omega
    rw [hrk] at t1 t4 t6
    have hnone : tolF V A ((tolL V).take i') (rkN V (tolL V)[i']) = none := by
      unfold tolF
      rw [Option.map_eq_none_iff, List.find?_eq_none]
      intro b hb
      simp [hfresh b hb]
    rw [hnone] at t1 t6
    refine Or.inr ⟨(cput S 1042 s.2.1 n j (.int mc' :: fl es'), i' + 1), ?_, rfl, mc', es', ?_, x2, fun q hq => ?_, cput_eq .., ?_, ?_, ?_, ?_, ?_⟩
    · dsimp only
      rw [tmIHas_l z2 hc4, Option.bind_some, if_pos hi, if_neg (by decide)]
      unfold tmNxV
      rw [tmVal_l z2 hc4 hi, hel i' hi hi2, Option.bind_some, toN_o cS rfl, Option.bind_some, if_pos (isK_t x4 rfl), t1]; rfl
    · exact wf_cup (a := s.2.1) x1 (by omega)
    · rw [cput_ne (by omega)]; exact x3 q hq
    · rw [take_app hi2, tolF_app hfresh]; exact t4
    · rw [t6, x6]; rfl
    · intro x hx
      rcases t5 x hx with rfl | z
      · exact ⟨_, List.getElem_mem hi2, rfl⟩
      · exact x7 x z
    · show S.2.2.1 + n ≤ _; omega
    · show S.2.2.2 + j ≤ _; omega
  · rintro ⟨S, i'⟩ ⟨hi', mc, es, x1, x2, x3, x4, x5, x6, x7, x8, x9⟩
    dsimp only at hi' x1 x2 x3 x4 x8 x9
    subst hi'
    have z2 : S.1 am = some (true, false, 1042, .int ma :: fl ea) := (x3 am lam).trans m6
    have hc4 : S.2.2.1 < 4000000000 := by omega
    refine ⟨S, ?_, mc, es, x1, x2, x3, x4, ?_, by rw [x6, hlen], by omega, by omega⟩
    · dsimp only
      rw [tmIHas_l z2 hc4, Option.bind_some, if_neg (Nat.lt_irrefl _), if_pos rfl]
    · rw [hlen, List.take_length] at x5; exact x5
  · unfold tolF at h
    simp at h
  · rintro S ⟨h1, mc, es, h2⟩
    rw [h1]
    exact ⟨S, mc, es, rfl, h2⟩
end
