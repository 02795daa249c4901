/-! permits: the name that a number is -/
section
variable {s S : CS} {t T : TS} {own : Nat → Nat}
noncomputable def glB (v : Int64) (i : Nat) : Bool := ltB (bytN v (7 - i)) || (bytN v (7 - i) == 0 && cnD (bytN v) i == 0)
noncomputable def nmG (v : Int64) : Bool := (List.range 8).all (glB v) && decide (0 < cnD (bytN v) 8)
theorem glB_i {v : Int64} {i : Nat} : glB v i = true ↔ ltB (bytN v (7 - i)) = true ∨ (bytN v (7 - i) = 0 ∧ cnD (bytN v) i = 0) := by unfold glB; simp
theorem nmG_i {v : Int64} : nmG v = true ↔ (∀ i, i < 8 → glB v i = true) ∧ 0 < cnD (bytN v) 8 := by
  unfold nmG
  rw [Bool.and_eq_true, List.all_eq_true, decide_eq_true_iff]
  exact ⟨fun h => ⟨fun i hi => h.1 i (List.mem_range.mpr hi), h.2⟩, fun h => ⟨fun i hi => h.1 i (List.mem_range.mp hi), h.2⟩⟩
theorem cnD_s (b : Nat → Nat) (j : Nat) : cnD b (j + 1) = cnD b j + (if b (7 - j) = 0 then 0 else 1) := rfl
/-- the reference -/
theorem t_isNm (v : Int64) : t_749 v t = some (if nmG v = true then 1 else 0) := by
  unfold t_749 t_731
  have key : ∃ x, wh (S := Int32 × Int32 × Int32) (X := Int32 × Int32) (fun p6 => (if p6.2.2 < 0 then some (.inr (p6.1, p6.2.1)) else Option.bind (some (((v >>> ((8 * p6.2.2).toInt64 &&& 63)) &&& 255).toInt32)) (fun x1 => Option.bind ((if p6.1 = 0 then some 0 else Option.bind (t_737 x1 t) (fun x2 => (if x2 = 0 then (if x1 = 0 then (if p6.2.1 = 0 then some 1 else some 0) else some 0) else some 1)))) (fun v24 => Option.bind ((if p6.2.1 = 0 then (if 0 < x1 then some 1 else some 0) else some 1)) (fun v32 => some (.inl (v24, v32, p6.2.2 - 1))))))) (1, 0, 7) = some x ∧ x = ((if (List.range 8).all (glB v) = true then (1 : Int32) else 0), (if cnD (bytN v) 8 = 0 then (0 : Int32) else 1)) := by
    refine wh_cnt 8 (fun j (a : Int32 × Int32 × Int32) => a = ((if (List.range j).all (glB v) = true then 1 else 0), (if cnD (bytN v) j = 0 then 0 else 1), kI j)) ?_ ?_ rfl
    · rintro j _ hj rfl
      right
      dsimp only
      have bl := bytN_lt v (7 - j)
      have ks := kI_s ⟨j, hj⟩
      dsimp only at ks
      have p0 : Int32.ofNat (bytN v (7 - j)) = 0 ↔ bytN v (7 - j) = 0 := i_inj (k := 0) (by omega) (by decide)
      have p0' : (0 : Int32) < Int32.ofNat (bytN v (7 - j)) ↔ 0 < bytN v (7 - j) := i_lt (j := 0) (by decide) (by omega)
      rw [ks, kI_lt hj, if_neg (i_nlt0 (by omega)), bytN_e, Option.bind_some, t_737g (by omega)]
      have e1 : (if (if (List.range j).all (glB v) = true then (1 : Int32) else 0) = 0 then some (0 : Int32) else Option.bind (some (if ltB (bytN v (7 - j)) = true then (1 : Int32) else 0)) (fun x2 => (if x2 = 0 then (if Int32.ofNat (bytN v (7 - j)) = 0 then (if (if cnD (bytN v) j = 0 then (0 : Int32) else 1) = 0 then some 1 else some 0) else some 0) else some 1))) = some (if (List.range (j + 1)).all (glB v) = true then 1 else 0) := by
        have ra : (List.range (j + 1)).all (glB v) = ((List.range j).all (glB v) && glB v j) := by rw [List.range_succ, List.all_append]; simp
        rw [ra, Option.bind_some]
        by_cases a : (List.range j).all (glB v) = true
        · rw [if_pos a, if_neg (show ¬ (1 : Int32) = 0 by decide), a, Bool.true_and]
          by_cases l : ltB (bytN v (7 - j)) = true
          · rw [if_pos l, if_neg (show ¬ (1 : Int32) = 0 by decide), if_pos (glB_i.mpr (Or.inl l))]
          · rw [if_neg l, if_pos rfl]
            by_cases z : bytN v (7 - j) = 0
            · rw [if_pos (p0.mpr z)]
              by_cases c : cnD (bytN v) j = 0
              · rw [if_pos c, if_pos rfl, if_pos (glB_i.mpr (Or.inr ⟨z, c⟩))]
              · rw [if_neg c, if_neg (show ¬ (1 : Int32) = 0 by decide), if_neg (fun w => (glB_i.mp w).elim l (fun q => c q.2))]
            · rw [if_neg (fun w => z (p0.mp w)), if_neg (fun w => (glB_i.mp w).elim l (fun q => z q.1))]
        · rw [if_neg a, if_pos rfl, if_neg (fun w => a (by rw [Bool.and_eq_true] at w; exact w.1))]
      have e2 : (if (if cnD (bytN v) j = 0 then (0 : Int32) else 1) = 0 then (if (0 : Int32) < Int32.ofNat (bytN v (7 - j)) then some (1 : Int32) else some 0) else some 1) = some (if cnD (bytN v) (j + 1) = 0 then 0 else 1) := by
        rw [cnD_s]
        by_cases c : cnD (bytN v) j = 0
        · rw [if_pos c, if_pos rfl]
          by_cases z : bytN v (7 - j) = 0
          · rw [if_neg (fun w => by have := p0'.mp w; omega), if_pos z, if_pos (by omega)]
          · rw [if_pos (p0'.mpr (by omega)), if_neg z, if_neg (by omega)]
        · rw [if_neg c, if_neg (show ¬ (1 : Int32) = 0 by decide), if_neg (by omega)]
      rw [e1, Option.bind_some, e2, Option.bind_some]
      exact ⟨_, rfl, rfl⟩
    · rintro _ rfl
      dsimp only
      rw [kI_8, if_pos (by decide)]
      exact ⟨_, rfl, rfl⟩
  obtain ⟨x, e, rfl⟩ := key
  rw [e, Option.bind_some]
  dsimp only
  unfold nmG
  by_cases a : (List.range 8).all (glB v) = true
  · rw [if_pos a, if_neg (show ¬ (1 : Int32) = 0 by decide), a, Bool.true_and]
    by_cases c : cnD (bytN v) 8 = 0
    · rw [if_pos c, if_pos rfl, if_neg (fun w => by have := of_decide_eq_true w; omega)]
    · rw [if_neg c, if_neg (show ¬ (1 : Int32) = 0 by decide), if_pos (decide_eq_true (by omega))]
  · rw [if_neg a, if_pos rfl, if_neg (fun w => a (by rw [Bool.and_eq_true] at w; exact w.1))]
/-- the component -/
theorem c_name (hw : wfS s) (v : Int64) : ∃ S, VOk s S 26 ∧ ((nmG v = true ∧ ∃ a, c_974 v s = some (.inl (a, S))) ∨ (¬ nmG v = true ∧ c_974 v s = some (.inr (S.2.1, exs S 11)))) := by
  have v0 : VOk s (nw s 35 [.null, .int 0, .int 0, .int 0]).2 1 := VOk_nw (j := 1) (k := 4) hw _ (by omega) (by omega)
  have c35 : (nw s 35 [.null, .int 0, .int 0, .int 0]).2.1 s.2.1 = some (true, false, 35, [.null, .int 0, .int 0, .int 0]) := nwc_eq ..
  obtain ⟨s1, hs1⟩ : ∃ s1, s1 = chg (cup (nw s 35 [.null, .int 0, .int 0, .int 0]).2 s.2.1 (true, false, 1035, [])) 1 16 := ⟨_, rfl⟩
  have w1 : wfS s1 := by rw [hs1]; exact wf_chg (wf_cup v0.1 (wf_lt v0.1 c35))
  have h1 : s1.1 s.2.1 = some (true, false, 1035, []) := by rw [hs1]; exact cup_eq ..
  have e1 : ∀ p, p < s.2.1 → s1.1 p = s.1 p := fun p hp => by rw [hs1]; exact (cup_ne (by omega)).trans (nwc_ne (by omega))
  have b1 : s1.2.1 = s.2.1 + 1 := by rw [hs1]; rfl
  have c1 : s1.2.2.1 = s.2.2.1 + 2 := by rw [hs1]; rfl
  have d1 : s1.2.2.2 = s.2.2.2 + 20 := by rw [hs1]; rfl
  have sl : ∀ {S : CS} {l : List Value}, S.1 s.2.1 = some (true, false, 1035, l) → sbCt S s.2.1 = some l := fun {S l} h => by
    unfold sbCt cc
    rw [h]
    exact if_pos rfl
  have key : ∃ x, wh (S := CS × Int32) (X := Sum (CS) (Sum (Nat × CS) (Nat × CS))) (fun p6 => (if p6.2 < 0 then some (.inr (.inl p6.1)) else Option.bind (Option.bind ((if (((v >>> ((8 * p6.2).toInt64 &&& 63)) &&& 255).toInt32) < 97 then some (.inl ()) else (if 122 < (((v >>> ((8 * p6.2).toInt64 &&& 63)) &&& 255).toInt32) then some (.inl ()) else some (.inr 1)))) (Sum.elim (fun v23 => (if (((v >>> ((8 * p6.2).toInt64 &&& 63)) &&& 255).toInt32) = 0 then (if isK p6.1 [35] s.2.1 = true then Option.bind (sbLen p6.1 s.2.1) (fun x3 => (if x3 = 0 then some 1 else some 0)) else none) else some 0)) (fun z => some z))) (fun v31 => Option.bind (c_394 v31 p6.1) (Sum.elim (fun x4 => Option.bind ((if (((v >>> ((8 * p6.2).toInt64 &&& 63)) &&& 255).toInt32) = 0 then some x4 else (if isK x4 [35] s.2.1 = true then Option.bind (sbC x4 s.2.1 (((((v >>> ((8 * p6.2).toInt64 &&& 63)) &&& 255).toInt32).toUInt32 % 65536).toInt32)) (fun s6 => some s6) else none))) (fun v39 => some (.inl (v39, p6.2 - 1)))) (fun q5 => some (.inr (.inr (.inr (q5.1, q5.2))))))))) (s1, 7) = some x ∧ ∃ S l, S.1 s.2.1 = some (true, false, 1035, l) ∧ wfS S ∧ S.2.1 = s.2.1 + 1 ∧ (∀ p, p < s.2.1 → S.1 p = s.1 p) ∧ S.2.2.1 ≤ s.2.2.1 + 2 + 16 ∧ S.2.2.2 ≤ s.2.2.2 + 20 + 192 ∧ ((x = .inl S ∧ (∀ i, i < 8 → glB v i = true) ∧ l.length = cnD (bytN v) 8) ∨ (x = .inr (.inr (S.2.1, exs S 11)) ∧ ¬ ∀ i, i < 8 → glB v i = true)) := by
    refine wh_cnt 8 (fun j (a : CS × Int32) => a.2 = kI j ∧ (∃ l, a.1.1 s.2.1 = some (true, false, 1035, l) ∧ l.length = cnD (bytN v) j) ∧ wfS a.1 ∧ a.1.2.1 = s.2.1 + 1 ∧ (∀ p, p < s.2.1 → a.1.1 p = s.1 p) ∧ a.1.2.2.1 ≤ s.2.2.1 + 2 + 2 * j ∧ a.1.2.2.2 ≤ s.2.2.2 + 20 + 24 * j ∧ ∀ i, i < j → glB v i = true) ?_ ?_ ⟨rfl, ⟨[], h1, rfl⟩, w1, b1, e1, by dsimp only; omega, by dsimp only; omega, fun i hi => absurd hi (Nat.not_lt_zero _)⟩
    · rintro j ⟨S, _⟩ hj ⟨rfl, ⟨l, g1, gl⟩, g2, g3, g4, g5, g6, g7⟩
      dsimp only at g1 g2 g3 g4 g5 g6 ⊢
      have bl := bytN_lt v (7 - j)
      have c8 := cnD_8 (bytN v) j
      have ks := kI_s ⟨j, hj⟩
      dsimp only at ks
      have p0 : Int32.ofNat (bytN v (7 - j)) = 0 ↔ bytN v (7 - j) = 0 := i_inj (k := 0) (by omega) (by decide)
      have p97 : Int32.ofNat (bytN v (7 - j)) < 97 ↔ bytN v (7 - j) < 97 := i_lt (k := 97) (by omega) (by decide)
      have p122 : (122 : Int32) < Int32.ofNat (bytN v (7 - j)) ↔ 122 < bytN v (7 - j) := i_lt (j := 122) (by decide) (by omega)
      have i35 : isK S [35] s.2.1 = true := isK_t g1 rfl
      have len : sbLen S s.2.1 = some (Int32.ofNat l.length) := by
        unfold sbLen
        rw [sl g1, Option.bind_some]
      have cond : Option.bind ((if Int32.ofNat (bytN v (7 - j)) < 97 then some (.inl ()) else (if 122 < Int32.ofNat (bytN v (7 - j)) then some (.inl ()) else some (.inr (1 : Int32)))) : Option (Sum Unit Int32)) (Sum.elim (fun v23 => (if Int32.ofNat (bytN v (7 - j)) = 0 then (if isK S [35] s.2.1 = true then Option.bind (sbLen S s.2.1) (fun x3 => (if x3 = 0 then some 1 else some 0)) else none) else some 0)) (fun z => some z)) = some (if glB v j = true then 1 else 0) := by
        by_cases lt : ltB (bytN v (7 - j)) = true
        · have := of_decide_eq_true lt
          rw [if_neg (fun w => by have := p97.mp w; omega), if_neg (fun w => by have := p122.mp w; omega), Option.bind_some, Sum.elim_inr, if_pos (glB_i.mpr (Or.inl lt))]
        · have nl : bytN v (7 - j) < 97 ∨ 122 < bytN v (7 - j) := by
            have : ¬ (97 ≤ bytN v (7 - j) ∧ bytN v (7 - j) ≤ 122) := fun w => lt (decide_eq_true w)
            omega
          have e : (if Int32.ofNat (bytN v (7 - j)) < 97 then some (.inl ()) else (if 122 < Int32.ofNat (bytN v (7 - j)) then some (.inl ()) else some (.inr (1 : Int32))) : Option (Sum Unit Int32)) = some (.inl ()) := by
            rcases nl with z | z
            · rw [if_pos (p97.mpr z)]
            · rw [if_neg (fun w => by have := p97.mp w; omega), if_pos (p122.mpr z)]
          rw [e, Option.bind_some, Sum.elim_inl]
          by_cases z : bytN v (7 - j) = 0
          · rw [if_pos (p0.mpr z), if_pos i35, len, Option.bind_some]
            by_cases c : cnD (bytN v) j = 0
            · rw [if_pos (show Int32.ofNat l.length = 0 by rw [gl, c]; rfl), if_pos (glB_i.mpr (Or.inr ⟨z, c⟩))]
            · rw [if_neg (show ¬ Int32.ofNat l.length = 0 from fun w => by have := (i_inj (j := l.length) (k := 0) (by omega) (by decide)).mp w; omega), if_neg (fun w => (glB_i.mp w).elim lt (fun q => c q.2))]
          · rw [if_neg (fun w => z (p0.mp w)), if_neg (fun w => (glB_i.mp w).elim lt (fun q => z q.1))]
      rw [ks, kI_lt hj, if_neg (i_nlt0 (by omega)), bytN_e, cond, Option.bind_some, need_eq]
      by_cases ok : glB v j = true
      rotate_left
      · left
        rw [if_neg ok, if_pos rfl, Option.bind_some, Sum.elim_inr]
        exact ⟨_, rfl, S, l, g1, g2, g3, g4, by omega, by omega, Or.inr ⟨rfl, fun w => ok (w j hj)⟩⟩
      · right
        rw [if_pos ok, if_neg (show ¬ (1 : Int32) = 0 by decide), Option.bind_some, Sum.elim_inl]
        have ok' : ∀ i, i < j + 1 → glB v i = true := fun i hi => by
          by_cases e : i = j
          · rw [e]; exact ok
          · exact g7 i (by omega)
        by_cases z : bytN v (7 - j) = 0
        · rw [if_pos (p0.mpr z), Option.bind_some]
          exact ⟨_, rfl, rfl, ⟨l, g1, by rw [cnD_s, if_pos z]; exact gl⟩, g2, g3, g4, by dsimp only; omega, by dsimp only; omega, ok'⟩
        · have b128 : bytN v (7 - j) < 128 := by
            rcases glB_i.mp ok with w | w
            · have := of_decide_eq_true w; omega
            · omega
          have cid := chr_id ⟨bytN v (7 - j), b128⟩
          dsimp only at cid
          have app : sbC S s.2.1 (Int32.ofNat (bytN v (7 - j))) = some (cput S 1035 s.2.1 2 24 (l ++ [.int (Int32.ofNat (bytN v (7 - j)))])) := by
            unfold sbC sbApp
            rw [if_pos ⟨i_nlt0 (by omega), (i_lt (k := 128) (by omega) (by decide)).mpr (by omega)⟩, sl g1, Option.bind_some, if_pos (by show _ + 1 < 100000; omega)]
            rfl
          rw [if_neg (fun w => z (p0.mp w)), if_pos i35, cid, app, Option.bind_some, Option.bind_some]
          exact ⟨_, rfl, rfl, ⟨_, cput_eq .., by rw [List.length_append, cnD_s, if_neg z, gl]; rfl⟩, wf_chg (wf_cup g2 (wf_lt g2 g1)), g3, fun p hp => (cput_ne (by omega)).trans (g4 p hp), by show S.2.2.1 + 2 ≤ _; omega, by show S.2.2.2 + 24 ≤ _; omega, ok'⟩
    · rintro ⟨S, _⟩ ⟨rfl, ⟨l, g1, gl⟩, g2, g3, g4, g5, g6, g7⟩
      dsimp only at g1 g2 g3 g4 g5 g6 ⊢
      rw [kI_8, if_pos (by decide)]
      exact ⟨_, rfl, S, l, g1, g2, g3, g4, by omega, by omega, Or.inl ⟨rfl, g7, gl⟩⟩
  obtain ⟨x, e, S, l, g1, g2, g3, g4, g5, g6, h⟩ := key
  have c8 := cnD_8 (bytN v) 8
  have e974 : ∀ {o}, Option.bind (some x) (Sum.elim (fun v41 => (if isK v41 [35] s.2.1 = true then Option.bind (sbLen v41 s.2.1) (fun x7 => Option.bind ((if 0 < x7 then some (1 : Int32) else some 0)) (fun v47 => Option.bind (c_394 v47 v41) (Sum.elim (fun x8 => (if isK x8 [35] s.2.1 = true then Option.bind (sbToS x8 s.2.1) (fun n10 => some (.inl (n10.1, n10.2))) else none)) (fun q9 => some (.inr (q9.1, q9.2)))))) else none)) (fun z => some z)) = o → c_974 v s = o := by
    intro o ho
    unfold c_974
    rw [Option.bind_some, show (nw s 35 [.null, .int 0, .int 0, .int 0]).1 = s.2.1 from rfl, if_pos (isK_t c35 rfl), sbInit_o c35, Option.bind_some, ← hs1, e]
    exact ho
  rcases h with ⟨rfl, ok, hl⟩ | ⟨rfl, bad⟩
  · have len : sbLen S s.2.1 = some (Int32.ofNat l.length) := by
      unfold sbLen
      rw [sl g1, Option.bind_some]
    by_cases c : 0 < cnD (bytN v) 8
    · have v2 : VOk S (nwS S l).2 2 := VOk_nw (j := 2) (k := l.length + 4) g2 _ (by omega) (by omega)
      refine ⟨(nwS S l).2, ⟨v2.1, by have := v2.2.1; omega, fun p hp => (v2.2.2.1 p (by omega)).trans (g4 p hp), ?_, ?_⟩, Or.inl ⟨nmG_i.mpr ⟨ok, c⟩, S.2.1, e974 ?_⟩⟩
      · show S.2.2.1 + 2 ≤ _; omega
      · show S.2.2.2 + (l.length + 4) ≤ _; omega
      · rw [Option.bind_some, Sum.elim_inl, if_pos (isK_t g1 rfl), len, Option.bind_some, if_pos (show (0 : Int32) < Int32.ofNat l.length from (i_lt (j := 0) (by decide) (by omega)).mpr (by omega)), Option.bind_some, need_eq, if_neg (by decide), Option.bind_some, Sum.elim_inl, if_pos (isK_t g1 rfl)]
        unfold sbToS
        rw [sl g1, Option.bind_some, Option.bind_some]
        rfl
    · refine ⟨S, ⟨g2, by omega, g4, by omega, by omega⟩, Or.inr ⟨fun w => c (nmG_i.mp w).2, e974 ?_⟩⟩
      rw [Option.bind_some, Sum.elim_inl, if_pos (isK_t g1 rfl), len, Option.bind_some, if_neg (show ¬ (0 : Int32) < Int32.ofNat l.length from fun w => by have := (i_lt (j := 0) (by decide) (by omega)).mp w; omega), Option.bind_some, need_eq, if_pos rfl, Option.bind_some, Sum.elim_inr]
  · refine ⟨S, ⟨g2, by omega, g4, by omega, by omega⟩, Or.inr ⟨fun w => bad (nmG_i.mp w).1, e974 ?_⟩⟩
    rw [Option.bind_some, Sum.elim_inr]
end
