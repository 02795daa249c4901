/-! the warden: an act changes; an event is told -/
theorem R7b_act {h : lHeap} {t T : TS} {np sz mx zm am rl nr na ec a B B' : Nat} {P Z ZP A RW od : Nat → Nat} (r : R7b h t np sz mx zm am rl nr na ec P Z ZP A RW od B) (ha : a < 20) (hta : t.2.2.1 109 a = 1) (hn : ∀ c, c ≠ 0 → T.1 c = t.1 c) (hr : ∀ c j, ¬ (117 ≤ c ∧ c ≤ 120 ∧ j = a) → T.2.2.1 c j = t.2.2.1 c j) (ho : okAct T a) (hB : ec + dnC T (-1) ≤ B') : R7b (lUpd h (A a) (actC T a)) T np sz mx zm am rl nr na ec P Z ZP A RW od B' := by
  obtain ⟨r0, r1, r2, r3, r4, r5⟩ := r
  have hu2 : hK (fun x => x ≠ 91) h (lUpd h (A a) (actC T a)) := hK_upd (c' := actC T a) (r4.1 a ha hta).1
  have hf : ∀ c, ¬ (117 ≤ c ∧ c ≤ 120) → T.2.2.1 c = t.2.2.1 c := fun c hc => funext (fun j => hr c j (fun z => hc ⟨z.1, z.2.1⟩))
  refine ⟨W0_cg r0 (hu2.mono (fun x hx => by omega)) (hn 301 (by omega)) (hn 1 (by omega)) (fun c hc => hf c ?_), W1_cg r1 (hu2.mono (fun x hx => by omega)) (hn 300 (by omega)) (hn 1 (by omega)) (fun c hc => hf c ?_), W2_cg r2 (hu2.mono (fun x hx => by omega)) (hn 306 (by omega)) (hn 1 (by omega)) (hf 102 (by omega)), W3_cg r3 (hu2.mono (fun x hx => by omega)) (hn 321 (by omega)) (fun c hc => hf c ?_), ⟨fun b hb htb => ?_, by rw [hf 109 (by omega)]; exact r4.2⟩, ?_⟩
  · simp only [List.mem_cons, List.not_mem_nil, or_false] at hc; omega
  · simp only [List.mem_cons, List.not_mem_nil, or_false] at hc; omega
  · simp only [List.mem_cons, List.not_mem_nil, or_false] at hc; omega
  · rw [hf 109 (by omega)] at htb
    by_cases y : b = a
    · subst y
      exact ⟨by rw [lUpd_at, if_pos rfl], (r4.1 b hb htb).2.1, ho⟩
    · obtain ⟨a1, a2, a3⟩ := r4.1 b hb htb
      have e : ∀ c, T.2.2.1 c b = t.2.2.1 c b := fun c => hr c b (fun z => y z.2.2)
      refine ⟨?_, a2, ?_⟩
      · rw [lUpd_at, if_neg (fun z => y (r4.2 _ _ hb ha htb hta z)), a1]
        unfold actC
        rw [e 110, e 111, e 112, e 113, e 117, e 118, e 119, e 120]
      · unfold okAct at a3 ⊢
        rw [e 110, e 111, e 112, e 113, e 117, e 118, e 119, e 120]
        exact a3
  · obtain ⟨⟨f1, q1, q2⟩, ⟨f2, q3, q4⟩, ⟨f3, q5, q6⟩, q7, q8⟩ := r5
    unfold W5b
    rw [hf 121 (by omega), hf 122 (by omega), hf 123 (by omega), hn 330 (by omega)]
    exact ⟨⟨f1, hu2 _ _ (by show (0 : Nat) ≠ 91; omega) q1, q2⟩, ⟨f2, hu2 _ _ (by show (0 : Nat) ≠ 91; omega) q3, q4⟩, ⟨f3, hu2 _ _ (by show (3 : Nat) ≠ 91; omega) q5, q6⟩, q7, hB⟩
theorem t_ev {T : TS} {ec : Nat} (h1 : T.1 330 = Int32.ofNat (min ec 60)) (a d : Int32) : Tr (t_801 a d T) (fun U => U.1 330 = Int32.ofNat (min (ec + 1) 60) ∧ (∀ c, c ≠ 330 → U.1 c = T.1 c) ∧ U.2.1 = T.2.1 ∧ (∀ c, ¬ (121 ≤ c ∧ c ≤ 123) → U.2.2.1 c = T.2.2.1 c) ∧ U.2.2.2 = T.2.2.2 ∧ ∀ c x, (c = 121 ∧ x = T.1 301) ∨ (c = 122 ∧ x = a) ∨ (c = 123 ∧ x = d) → ∀ j, j < 60 → j < ec + 1 → U.2.2.1 c (min (ec + 1) 60 - 1 - j) = if j = 0 then x else T.2.2.1 c (min ec 60 - j)) := by
  unfold t_801
  -- the shift
  refine Tr.bd (P := fun V => V.1 330 = Int32.ofNat (min ec 59) ∧ (∀ c, c ≠ 330 → V.1 c = T.1 c) ∧ V.2.1 = T.2.1 ∧ (∀ c, ¬ (121 ≤ c ∧ c ≤ 123) → V.2.2.1 c = T.2.2.1 c) ∧ V.2.2.2 = T.2.2.2 ∧ ∀ c, 121 ≤ c → c ≤ 123 → ∀ q, V.2.2.1 c q = if 60 ≤ ec ∧ q < 59 then T.2.2.1 c (q + 1) else T.2.2.1 c q) ?_ ?_
  · by_cases y : 60 ≤ ec
    · rw [h1, show min ec 60 = 60 by omega, if_pos (show Int32.ofNat 60 = 60 from rfl)]
      refine Tr.bd (P := fun V => V.1 = T.1 ∧ V.2.1 = T.2.1 ∧ (∀ c, ¬ (121 ≤ c ∧ c ≤ 123) → V.2.2.1 c = T.2.2.1 c) ∧ V.2.2.2 = T.2.2.2 ∧ ∀ c, 121 ≤ c → c ≤ 123 → ∀ q, V.2.2.1 c q = if q < 59 then T.2.2.1 c (q + 1) else T.2.2.1 c q) (wh_cnt 59 (fun i st => st.2 = Int32.ofNat (i + 1) ∧ st.1.1 = T.1 ∧ st.1.2.1 = T.2.1 ∧ (∀ c, ¬ (121 ≤ c ∧ c ≤ 123) → st.1.2.2.1 c = T.2.2.1 c) ∧ st.1.2.2.2 = T.2.2.2 ∧ ∀ c, 121 ≤ c → c ≤ 123 → ∀ q, st.1.2.2.1 c q = if q < i then T.2.2.1 c (q + 1) else T.2.2.1 c q) ?_ ?_ ⟨rfl, rfl, rfl, fun _ _ => rfl, rfl, fun c _ _ q => by rw [if_neg (by omega)]⟩) ?_
      · rintro i ⟨V, q⟩ hi ⟨hq, v1, v2, v3, v4, v5⟩
        dsimp only at hq v1 v2 v3 v4 v5 ⊢
        subst hq
        refine Or.inr ⟨(wrI (wrI (wrI V 121 i (V.2.2.1 121 (i + 1))) 122 i (V.2.2.1 122 (i + 1))) 123 i (V.2.2.1 123 (i + 1)), Int32.ofNat (i + 1 + 1)), ?_, rfl, v1, v2, fun c hc => ?_, v4, fun c h1 h2 q => ?_⟩
        · rw [if_pos ((i_ltL (by omega) (by omega)).mpr (by omega)), rdI_n (by omega) (by omega), Option.bind_some, i_subL (by omega), Nat.add_sub_cancel, stI_n (by omega) (by omega), Option.bind_some, rdI_n (by omega) (by omega), Option.bind_some, stI_n (by omega) (by omega), Option.bind_some, rdI_n (by omega) (by omega), Option.bind_some, stI_n (by omega) (by omega), Option.bind_some, i_suc]
          rw [wr_ne (by omega), wr_ne (by omega), wr_ne (by omega)]
        · dsimp only
          funext q
          rw [wr_ne (by omega), wr_ne (by omega), wr_ne (by omega), v3 c hc]
        · dsimp only
          have hold := v5 c h1 h2
          have hc : c = 121 ∨ c = 122 ∨ c = 123 := by omega
          have key : (wrI (wrI (wrI V 121 i (V.2.2.1 121 (i + 1))) 122 i (V.2.2.1 122 (i + 1))) 123 i (V.2.2.1 123 (i + 1))).2.2.1 c q = if q = i then V.2.2.1 c (i + 1) else V.2.2.1 c q := by
            rw [wr_at, wr_at, wr_at]
            rcases hc with rfl | rfl | rfl
            · by_cases y2 : q = i <;> simp [y2]
            · by_cases y2 : q = i <;> simp [y2]
            · by_cases y2 : q = i <;> simp [y2]
          rw [key]
          by_cases y2 : q = i
          · rw [if_pos y2, hold, if_neg (by omega), if_pos (by omega), y2]
          · rw [if_neg y2, hold]
            by_cases y3 : q < i
            · rw [if_pos y3, if_pos (by omega)]
            · rw [if_neg y3, if_neg (by omega)]
      · rintro ⟨V, q⟩ ⟨hq, v1, v2, v3, v4, v5⟩
        dsimp only at hq v1 v2 v3 v4 v5 ⊢
        subst hq
        exact ⟨V, by rw [if_neg (by decide)], v1, v2, v3, v4, v5⟩
      · rintro V ⟨v1, v2, v3, v4, v5⟩
        rw [v1, h1, show min ec 60 = 60 by omega, i_subL (by omega), Option.bind_some]
        refine ⟨_, rfl, by rw [show min ec 59 = 59 by omega]; rfl, fun c hc => by rw [pt_1, if_neg hc, v1], v2, v3, v4, fun c a1 a2 q => ?_⟩
        show V.2.2.1 c q = _
        rw [v5 c a1 a2]
        by_cases z : q < 59
        · rw [if_pos z, if_pos ⟨y, z⟩]
        · rw [if_neg z, if_neg (fun w => z w.2)]
    · rw [h1, if_neg (by rw [i_eqL (by omega) (by omega)]; omega)]
      exact ⟨T, rfl, by rw [h1]; congr 1; omega, fun _ _ => rfl, rfl, fun _ _ => rfl, rfl, fun c _ _ q => by rw [if_neg (by omega)]⟩
  · rintro V ⟨v1, v2, v3, v4, v5, v6⟩
    rw [v1, stI_n (by omega) (by omega), Option.bind_some, wr_1, v1, stI_n (by omega) (by omega), Option.bind_some, wr_1, wr_1, v1, stI_n (by omega) (by omega), Option.bind_some, wr_1, wr_1, wr_1, v1, i_suc, Option.bind_some]
    refine ⟨_, rfl, by rw [pt_1, if_pos rfl]; congr 1; omega, fun c hc => by rw [pt_1, if_neg hc]; exact v2 c hc, v3, fun c hc => ?_, v5, fun c x hx j h2 h3 => ?_⟩
    · funext q
      show (wrI (wrI (wrI V 121 _ _) 122 _ _) 123 _ _).2.2.1 c q = _
      rw [wr_ne (by omega), wr_ne (by omega), wr_ne (by omega), v4 c hc]
    · show (wrI (wrI (wrI V 121 (min ec 59) (V.1 301)) 122 (min ec 59) a) 123 (min ec 59) d).2.2.1 c (min (ec + 1) 60 - 1 - j) = _
      have hc : c = 121 ∨ c = 122 ∨ c = 123 := by omega
      have key : (wrI (wrI (wrI V 121 (min ec 59) (V.1 301)) 122 (min ec 59) a) 123 (min ec 59) d).2.2.1 c (min (ec + 1) 60 - 1 - j) = if min (ec + 1) 60 - 1 - j = min ec 59 then x else V.2.2.1 c (min (ec + 1) 60 - 1 - j) := by
        rw [wr_at, wr_at, wr_at]
        rcases hx with ⟨rfl, rfl⟩ | ⟨rfl, rfl⟩ | ⟨rfl, rfl⟩
        · by_cases y2 : min (ec + 1) 60 - 1 - j = min ec 59 <;> simp [y2, v2 301 (by omega)]
        · by_cases y2 : min (ec + 1) 60 - 1 - j = min ec 59 <;> simp [y2]
        · by_cases y2 : min (ec + 1) 60 - 1 - j = min ec 59 <;> simp [y2]
      rw [key]
      by_cases y : j = 0
      · rw [if_pos (by omega), if_pos y]
      · rw [if_neg (by omega), if_neg y, v6 c (by omega) (by omega)]
        by_cases y2 : 60 ≤ ec
        · rw [if_pos ⟨y2, by omega⟩, show min (ec + 1) 60 - 1 - j + 1 = min ec 60 - j by omega]
        · rw [if_neg (fun z => y2 z.1), show min (ec + 1) 60 - 1 - j = min ec 60 - j by omega]
/-- the component's own part of a telling -/
def tlS (s : CS) (t : TS) (mx ec a : Nat) (d : Int32) (f1 f2 f3 : Nat → Int32) : CS := cup (cup (cup (cup s 158 (true, true, 0, rowC (fun j => if j = ec % 60 then .int (t.1 301) else .int (f1 j)) 60)) 159 (true, true, 0, rowC (fun j => if j = ec % 60 then .int (Int32.ofNat a) else .int (f2 j)) 60)) 160 (true, true, 3, rowC (fun j => if j = ec % 60 then .int (d &&& 1) else .int (f3 j)) 60)) 151 (true, false, 47, [.ref 152, .ref 153, .ref mx, .ref 158, .ref 159, .ref 160, .int (Int32.ofNat (ec + 1)), .ref 161, .int (t.1 301), .int (t.1 1), .ref 115, .ref 120])
theorem R7b_ev {s : CS} {own : Nat → Nat} {t U : TS} {np sz mx zm am rl nr na ec a B B' : Nat} {P Z ZP A RW od : Nat → Nat} {d : Int32} (hd : v01 d) (r : R7b (rs s.1 own 7) t np sz mx zm am rl nr na ec P Z ZP A RW od B) (hb : ¬ t.1 1 = 0) {f1 f2 f3 : Nat → Int32}
    (e1 : rs s.1 own 7 158 = some (true, true, 0, rowC (fun i => .int (f1 i)) 60)) (e2 : rs s.1 own 7 159 = some (true, true, 0, rowC (fun i => .int (f2 i)) 60)) (e3 : rs s.1 own 7 160 = some (true, true, 3, rowC (fun i => .int (f3 i)) 60)) (e3v : ∀ i, v01 (f3 i)) (g1 : ∀ j, j < 60 → j < ec → f1 ((ec - 1 - j) % 60) = t.2.2.1 121 (min ec 60 - 1 - j)) (g2 : ∀ j, j < 60 → j < ec → f2 ((ec - 1 - j) % 60) = t.2.2.1 122 (min ec 60 - 1 - j)) (g3 : ∀ j, j < 60 → j < ec → f3 ((ec - 1 - j) % 60) = t.2.2.1 123 (min ec 60 - 1 - j))
    (u1 : U.1 330 = Int32.ofNat (min (ec + 1) 60)) (u2 : ∀ c, c ≠ 0 → c ≠ 330 → U.1 c = t.1 c) (u3 : ∀ c, ¬ (121 ≤ c ∧ c ≤ 123) → U.2.2.1 c = t.2.2.1 c) (u4 : ∀ c x, (c = 121 ∧ x = t.1 301) ∨ (c = 122 ∧ x = Int32.ofNat a) ∨ (c = 123 ∧ x = d) → ∀ j, j < 60 → j < ec + 1 → U.2.2.1 c (min (ec + 1) 60 - 1 - j) = if j = 0 then x else t.2.2.1 c (min ec 60 - j)) (hB : ec + 1 + dnC t (-1) ≤ B') : R7b (rs (tlS s t mx ec a d f1 f2 f3).1 own 7) U np sz mx zm am rl nr na (ec + 1) P Z ZP A RW od B' := by
  have o151 := rs_in r.1.1
  have o158 := rs_in e1
  have o159 := rs_in e2
  have o160 := rs_in e3
  have hrs : rs (tlS s t mx ec a d f1 f2 f3).1 own 7 = lUpd (lUpd (lUpd (lUpd (rs s.1 own 7) 158 (true, true, 0, rowC (fun j => if j = ec % 60 then .int (t.1 301) else .int (f1 j)) 60)) 159 (true, true, 0, rowC (fun j => if j = ec % 60 then .int (Int32.ofNat a) else .int (f2 j)) 60)) 160 (true, true, 3, rowC (fun j => if j = ec % 60 then .int (d &&& 1) else .int (f3 j)) 60)) 151 (true, false, 47, [.ref 152, .ref 153, .ref mx, .ref 158, .ref 159, .ref 160, .int (Int32.ofNat (ec + 1)), .ref 161, .int (t.1 301), .int (t.1 1), .ref 115, .ref 120]) := by
    unfold tlS
    show rs (lUpd (lUpd (lUpd (lUpd s.1 158 _) 159 _) 160 _) 151 _) own 7 = _
    rw [rs_upd o151.2, rs_upd o160.2, rs_upd o159.2, rs_upd o158.2]
  rw [hrs]
  obtain ⟨r0, r1, r2, r3, r4, r5⟩ := r
  have hk : hK (fun k => k ≠ 0 ∧ k ≠ 3 ∧ k ≠ 47) (rs s.1 own 7) (lUpd (lUpd (lUpd (lUpd (rs s.1 own 7) 158 (true, true, 0, rowC (fun j => if j = ec % 60 then .int (t.1 301) else .int (f1 j)) 60)) 159 (true, true, 0, rowC (fun j => if j = ec % 60 then .int (Int32.ofNat a) else .int (f2 j)) 60)) 160 (true, true, 3, rowC (fun j => if j = ec % 60 then .int (d &&& 1) else .int (f3 j)) 60)) 151 (true, false, 47, [.ref 152, .ref 153, .ref mx, .ref 158, .ref 159, .ref 160, .int (Int32.ofNat (ec + 1)), .ref 161, .int (t.1 301), .int (t.1 1), .ref 115, .ref 120])) := by
    intro q c hc e
    have n1 : q ≠ 151 := fun z => by rw [z, r0.1] at e; exact hc.2.2 (by rw [← Option.some.inj e])
    have n2 : q ≠ 158 := fun z => by rw [z, e1] at e; exact hc.1 (by rw [← Option.some.inj e])
    have n3 : q ≠ 159 := fun z => by rw [z, e2] at e; exact hc.1 (by rw [← Option.some.inj e])
    have n4 : q ≠ 160 := fun z => by rw [z, e3] at e; exact hc.2.1 (by rw [← Option.some.inj e])
    rw [lUpd_at, if_neg n1, lUpd_at, if_neg n4, lUpd_at, if_neg n3, lUpd_at, if_neg n2]; exact e
  have h1 := u2 1 (by omega) (by omega)
  have h301 := u2 301 (by omega) (by omega)
  refine ⟨⟨by rw [lUpd_at, if_pos rfl, h1, h301], by rw [h301]; exact r0.2.1, by rw [h1]; exact r0.2.2.1, fun z => absurd (h1.symm.trans z) hb⟩, W1_cg r1 (hk.mono (fun x hx => by omega)) (u2 300 (by omega) (by omega)) h1 (fun c hc => u3 c ?_), W2_cg r2 (hk.mono (fun x hx => by omega)) (u2 306 (by omega) (by omega)) h1 (u3 102 (by omega)), W3_cg r3 (hk.mono (fun x hx => by omega)) (u2 321 (by omega) (by omega)) (fun c hc => u3 c ?_), W4_cg r4 (hk.mono (fun x hx => by omega)) (fun c hc => u3 c ?_), ⟨fun j => if j = ec % 60 then t.1 301 else f1 j, ?_, ?_⟩, ⟨fun j => if j = ec % 60 then Int32.ofNat a else f2 j, ?_, ?_⟩, ⟨fun j => if j = ec % 60 then d else f3 j, ?_, ?_, ?_⟩, u1, by rw [dnC_cg (u3 109 (by omega)) (u3 110 (by omega)) (u3 117 (by omega))]; exact hB⟩
  · simp only [List.mem_cons, List.not_mem_nil, or_false] at hc; omega
  · simp only [List.mem_cons, List.not_mem_nil, or_false] at hc; omega
  · simp only [List.mem_cons, List.not_mem_nil, or_false] at hc; omega
  · rw [lUpd_at, if_neg (by omega), lUpd_at, if_neg (by omega), lUpd_at, if_neg (by omega), lUpd_at, if_pos rfl]
    have : rowC (fun j => if j = ec % 60 then Value.int (t.1 301) else .int (f1 j)) 60 = rowC (fun j => .int (if j = ec % 60 then t.1 301 else f1 j)) 60 := rowC_congr (fun j _ => by split <;> rfl)
    rw [this]
  · intro j h2 h3
    dsimp only
    rw [u4 121 _ (Or.inl ⟨rfl, rfl⟩) j h2 h3]
    by_cases y : j = 0
    · rw [if_pos (by rw [y]; rfl), if_pos y]
    · rw [if_neg (by omega), if_neg y, show ec + 1 - 1 - j = ec - 1 - (j - 1) by omega, g1 (j - 1) (by omega) (by omega), show min ec 60 - 1 - (j - 1) = min ec 60 - j by omega]
  · rw [lUpd_at, if_neg (by omega), lUpd_at, if_neg (by omega), lUpd_at, if_pos rfl]
    have : rowC (fun j => if j = ec % 60 then Value.int (Int32.ofNat a) else .int (f2 j)) 60 = rowC (fun j => .int (if j = ec % 60 then Int32.ofNat a else f2 j)) 60 := rowC_congr (fun j _ => by split <;> rfl)
    rw [this]
  · intro j h2 h3
    dsimp only
    rw [u4 122 _ (Or.inr (Or.inl ⟨rfl, rfl⟩)) j h2 h3]
    by_cases y : j = 0
    · rw [if_pos (by rw [y]; rfl), if_pos y]
    · rw [if_neg (by omega), if_neg y, show ec + 1 - 1 - j = ec - 1 - (j - 1) by omega, g2 (j - 1) (by omega) (by omega), show min ec 60 - 1 - (j - 1) = min ec 60 - j by omega]
  · rw [lUpd_at, if_neg (by omega), lUpd_at, if_pos rfl]
    have hd1 : d &&& 1 = d := by rcases hd with rfl | rfl <;> decide
    have : rowC (fun j => if j = ec % 60 then Value.int (d &&& 1) else .int (f3 j)) 60 = rowC (fun j => .int (if j = ec % 60 then d else f3 j)) 60 := rowC_congr (fun j _ => by rw [hd1]; split <;> rfl)
    rw [this]
  · intro i
    dsimp only
    split
    · exact hd
    · exact e3v i
  · intro j h2 h3
    dsimp only
    rw [u4 123 _ (Or.inr (Or.inr ⟨rfl, rfl⟩)) j h2 h3]
    by_cases y : j = 0
    · rw [if_pos (by rw [y]; rfl), if_pos y]
    · rw [if_neg (by omega), if_neg y, show ec + 1 - 1 - j = ec - 1 - (j - 1) by omega, g3 (j - 1) (by omega) (by omega), show min ec 60 - 1 - (j - 1) = min ec 60 - j by omega]
