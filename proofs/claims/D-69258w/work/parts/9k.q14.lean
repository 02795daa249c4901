/-! permits: a tree's value, by going down -/
section
variable {t : TS} {nf : Nat} {hq : lHeap}
theorem VO_le {S : CS} {n m : Nat} {X : Sum (Nat × CS) (Nat × CS)} {r : Sum (Int32 × Int64) StP} (h : VO hq S n X r) (hn : n ≤ m) : VO hq S m X r := by
  obtain ⟨S', ⟨h1, h2, h3, h4, h5⟩, r⟩ := h
  exact ⟨S', ⟨h1, h2, h3, by omega, by omega⟩, r⟩
theorem VO_st {S S1 : CS} {n m k : Nat} {X : Sum (Nat × CS) (Nat × CS)} {r : Sum (Int32 × Int64) StP} (h1 : VOk S S1 n) (h : VO hq S1 m X r) (hk : n + m ≤ k) : VO hq S k X r := by
  obtain ⟨S', h2, r⟩ := h
  refine ⟨S', VOk_tr h1 h2 hk, r.imp (fun ⟨x, y, f, a, b, c, d, e⟩ => ⟨x, y, f, a, b, c, d, Nat.le_trans h1.2.1 e⟩) id⟩
theorem VOk_chg {S : CS} (hw : wfS S) : VOk S (chg S 1 1) 1 := ⟨wf_chg hw, Nat.le_refl _, fun _ _ => rfl, by show S.2.2.1 + 1 ≤ _; omega, by show S.2.2.2 + 1 ≤ _; omega⟩
theorem R3f_up {h h' : lHeap} (r : R3f h t nf) (e : ∀ c, h 107 = some c → h' 107 = some c) : R3f h' t nf := by
  obtain ⟨mc, es, h1, r⟩ := r
  exact ⟨mc, es, e _ h1, r⟩
theorem isK_f {s : CS} {a ci : Nat} {w : Bool} {fs : List Value} {tab : List Nat} (h : s.1 a = some (w, false, ci, fs)) (hc : tab.contains (ci % 1000) = false) : ¬ isK s tab a = true := by
  rw [isK_o h, hc]; decide
theorem c_val {n a : Nat} {l : List (Int32 × Int64)} {S : CS} {w91 : Bool} (hw : wfS S) (h91 : S.1 91 = some (w91, false, 1000, txV [])) (hf : R3f S.1 t nf) (hs : ∀ p c, hq p = some c → S.1 p = some c) (r : PT hq n a l) : ∃ X, valC n a S = some X ∧ VO hq S (2 * l.length) X (evS t nf l []) := by
  induction n generalizing a l S with
  | zero => exact absurd r id
  | succ n ih =>
    have r0 := r
    unfold PT at r
    rcases r with ⟨v, r1, rfl⟩ | ⟨b, w, xs, r1, r2, r3, rfl⟩ | ⟨c, k, b1, b2, l1, l2, r1, r2, r3, r4, rfl⟩
    · have r1 := hs _ _ r1
      refine ⟨frX S (frR v.toInt64 1), ?_, ?_⟩
      · unfold valC
        rw [if_pos (isK_t r1 rfl), c_pln r1]
      · rw [evS_1, show stp1 t nf 0 v.toInt64 [] = pshR (frR v.toInt64 1) [] from if_pos rfl]
        exact VO_le (VO_fr hw h91 (pshR_fr (by decide))) (show 1 ≤ 2 by decide)
    · have qb : hq b ≠ none := by rw [r2]; exact Option.some_ne_none _
      have r1 := hs _ _ r1
      have r2 := hs _ _ r2
      have v0 : valC (n + 1) a S = c_952 a 107 S := by
        unfold valC
        rw [if_neg (isK_f r1 rfl), if_pos (isK_t r1 rfl)]
      rw [v0, evS_1]
      unfold stp1
      rw [if_neg (by decide), if_pos rfl]
      cases f : fcI t (nmL xs) nf with
      | none =>
        refine ⟨_, c_nmd0 hw r1 r2 r3 hf f, exOp (chg S 1 1) 1 b, VOk_tr (VOk_chg hw) (VOk_nw (j := 1) (k := 8) (n := 1) (wf_chg hw) _ (by omega) (by omega)) (show 1 + 1 ≤ 2 by decide), Or.inr ⟨S.2.1, 1, nmL xs, by decide, rfl, rfl, Or.inr ⟨by decide, b, w, xs, nwc_eq (chg S 1 1) _ 1 8, ?_, r3, rfl, Or.inr qb⟩⟩⟩
        have lb := wf_lt hw r2
        exact (nwc_ne (s := chg S 1 1) (by show b ≠ S.2.1; omega)).trans r2
      | some j =>
        exact ⟨_, c_nmd1 r1 r2 r3 hf f, VO_st (VOk_chg hw) (VO_fr (S := chg S 1 1) (wf_chg hw) h91 (pshR_fr (by decide))) (show 1 + 1 ≤ 2 by decide)⟩
    · have r1 := hs _ _ r1
      have k01 : k ≠ 0 ∧ k ≠ 1 := by
        rcases r2 with ⟨_, z⟩ | ⟨_, z⟩ | ⟨_, z⟩ | ⟨_, z⟩ <;> rw [z] <;> decide
      have len : (l1 ++ l2 ++ [(k, (0 : Int64))]).length = l1.length + l2.length + 1 := by simp [Nat.add_assoc]
      rw [len]
      unfold valC
      rw [if_neg (isK_f r1 rfl), if_neg (isK_f r1 rfl), if_pos (isK_t r1 rfl)]
      unfold c_954
      rw [xN_o r1 rfl rfl, Option.bind_some]
      obtain ⟨X1, e1, S1, g1, q1⟩ := ih hw h91 hf hs r3
      unfold valC at e1
      rw [e1, Option.bind_some]
      rcases q1 with ⟨x, y, f, h1, y0, rfl, fr1, lf1⟩ | ⟨e, o, nm, o0, h1, rfl, ex⟩
      · rw [Sum.elim_inl]
        dsimp only
        have up1 : ∀ {p : Nat} {c : lCell}, S.1 p = some c → S1.1 p = some c := fun h => VOk_up g1 hw h
        rw [xN_o (up1 r1) rfl rfl, Option.bind_some]
        obtain ⟨X2, e2, S2, g2, q2⟩ := ih g1.1 (up1 h91) (R3f_up hf (fun _ h => up1 h)) (fun p c h => up1 (hs p c h)) r4
        unfold valC at e2
        rw [e2, Option.bind_some]
        rcases EvT_PT (t := t) (nf := nf) r3 with ⟨e', _, E1⟩ | ⟨x', y', _, E1⟩
        · rw [E1] at h1; cases h1
        rw [E1] at h1
        have hxy := List.cons.inj (Sum.inr.inj h1)
        rcases EvT_PT (t := t) (nf := nf) r4 with ⟨e', e0', E2⟩ | ⟨x2', y2', _, E2⟩
        · rcases q2 with ⟨x2, y2, f2, h2, y20, rfl, fr2, lf2⟩ | ⟨e, o, nm, o0, h2, rfl, ex⟩
          · rw [E2] at h2; cases h2
          · rw [Sum.elim_inr]
            refine ⟨_, rfl, S2, VOk_tr g1 g2 (by omega), Or.inr ⟨e, o, nm, o0, ?_, rfl, ex⟩⟩
            rw [List.append_assoc, evS_app, E1, Sum.elim_inr, evS_app, E2]
            rw [E2] at h2
            rw [← h2]; rfl
        · rcases q2 with ⟨x2, y2, f2, h2, y20, rfl, fr2, lf2⟩ | ⟨e, o, nm, o0, h2, rfl, ex⟩
          · rw [Sum.elim_inl]
            dsimp only
            rw [E2] at h2
            have hxy2 := List.cons.inj (Sum.inr.inj h2)
            have up2 : ∀ {p : Nat} {c : lCell}, S1.1 p = some c → S2.1 p = some c := fun h => VOk_up g2 g1.1 h
            have fr1' : FrC S2 f x y := up2 fr1
            have ev : evS t nf (l1 ++ l2 ++ [(k, 0)]) [] = pshR (frop k x y x2 y2) [] := by
              rw [List.append_assoc, evS_app, E1, Sum.elim_inr, evS_app, E2, Sum.elim_inr, evS_1]
              unfold stp1
              rw [if_neg k01.1, if_neg k01.2, hxy.1, hxy2.1]; rfl
            rw [ev, xI_o (up2 (up1 r1)) rfl rfl, Option.bind_some]
            have done : VO hq S (2 * (l1.length + l2.length + 1)) (frX S2 (frop k x y x2 y2)) (pshR (frop k x y x2 y2) []) := VO_st (VOk_tr g1 g2 (Nat.le_refl _)) (VO_fr g2.1 (up2 (up1 h91)) (pshR_op k y0 y20)) (by omega)
            refine ⟨_, ?_, done⟩
            have k76 : isK S2 [76] f = true := isK_t fr1' rfl
            rcases r2 with ⟨rfl, rfl⟩ | ⟨rfl, rfl⟩ | ⟨rfl, rfl⟩ | ⟨rfl, rfl⟩
            · rw [if_neg (by decide), if_pos (by decide), if_pos k76, c_plsX fr1' fr2 y0 y20, if_pos rfl, Option.bind_some]
              cases frX S2 (frop 2 x y x2 y2) <;> rfl
            · rw [if_neg (by decide), if_neg (by decide), if_pos (by decide), if_pos k76, c_plsX fr1' fr2 y0 y20, if_neg (by decide), Option.bind_some]
              cases frX S2 (frop 3 x y x2 y2) <;> rfl
            · rw [if_pos (by decide), if_pos k76, c_tms fr1' fr2 y0 y20, Option.bind_some]
              cases frX S2 (frop 4 x y x2 y2) <;> rfl
            · rw [if_neg (by decide), if_neg (by decide), if_neg (by decide), Option.bind_some, Sum.elim_inl, if_pos k76, c_byX fr1' fr2 y0, Option.bind_some]
              cases frX S2 (frop 5 x y x2 y2) <;> rfl
          · rw [E2] at h2; cases h2
      · rw [Sum.elim_inr]
        rcases EvT_PT (t := t) (nf := nf) r3 with ⟨e', _, E1⟩ | ⟨x', y', _, E1⟩
        · rw [E1] at h1
          have he := Sum.inl.inj h1
          refine ⟨_, rfl, S1, VOk_tr g1 ⟨g1.1, Nat.le_refl _, fun _ _ => rfl, Nat.le_add_right _ _, Nat.le_add_right _ _⟩ (show 2 * l1.length + 0 ≤ _ by omega), Or.inr ⟨e, o, nm, o0, ?_, rfl, ex⟩⟩
          rw [List.append_assoc, evS_app, E1, he]; rfl
        · rw [E1] at h1; cases h1
end
