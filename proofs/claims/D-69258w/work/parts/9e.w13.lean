/-! the warden: a second of an act -/
theorem R7b_rt {h : lHeap} {t T : TS} {np sz mx zm am rl nr na ec B : Nat} {P Z ZP A RW od : Nat → Nat} (r : R7b h t np sz mx zm am rl nr na ec P Z ZP A RW od B) (e : rt T 7 = rt t 7) (e1 : T.1 1 = t.1 1) : R7b h T np sz mx zm am rl nr na ec P Z ZP A RW od B := by
  have hk : ∀ K, hK K h h := fun K q c _ e => e
  have hn : ∀ c, mI c = 7 → T.1 c = t.1 c := fun c hc => by rw [← rt_1 (t := T) hc, ← rt_1 (t := t) hc, e]
  have hr : ∀ l : List Nat, (∀ c ∈ l, mR c = 7) → eqR t T l := fun l hl c hc => rt_row e (hl c hc)
  obtain ⟨r0, r1, r2, r3, r4, r5⟩ := r
  exact ⟨W0_cg r0 (hk _) (hn 301 rfl) e1 (hr _ (by decide)), W1_cg r1 (hk _) (hn 300 rfl) e1 (hr _ (by decide)), W2_cg r2 (hk _) (hn 306 rfl) e1 (rt_row e rfl), W3_cg r3 (hk _) (hn 321 rfl) (hr _ (by decide)), W4_cg r4 (hk _) (hr _ (by decide)), W5b_cg r5 (hk _) (hn 330 rfl) (hr _ (by decide))⟩
/-- an act rests -/
def resT (t : TS) (a : Nat) : TS := wrI (wrI (wrI (wrI t 117 a 0) 118 a (-1)) 119 a 0) 120 a 0
theorem resT_at (t : TS) (a c j : Nat) : (resT t a).2.2.1 c j = if j = a then (if c = 120 then 0 else if c = 119 then 0 else if c = 118 then -1 else if c = 117 then 0 else t.2.2.1 c j) else t.2.2.1 c j := by
  unfold resT
  simp only [wr_at]
  by_cases h : j = a
  · simp only [h, and_true, if_true]
  · simp only [h, and_false, if_false]
theorem t_res {t : TS} {a : Nat} (ha : a < 20) : t_791 (Int32.ofNat a) t = some (resT t a) := by
  unfold t_791 resT
  rw [stI_n ha (by omega), Option.bind_some, stI_n ha (by omega), Option.bind_some, stI_n ha (by omega), Option.bind_some, stI_n ha (by omega), Option.bind_some]; rfl
theorem c_res {s : CS} {t : TS} {A : Nat → Nat} {a : Nat} (h : s.1 (A a) = some (actC t a)) : c_1058 (A a) s = some (cup s (A a) (actC (resT t a) a)) := by
  unfold c_1058
  rw [xP_c (fs' := [.int (Int32.ofNat a), .int (t.2.2.1 110 a), .int (t.2.2.1 111 a), .int (t.2.2.1 112 a), .int (t.2.2.1 113 a), .ref 60, .int (t.2.2.1 118 a), .int (t.2.2.1 119 a), .int (t.2.2.1 120 a)]) h rfl (by simp [actC]) rfl, Option.bind_some, xP_c (fs' := [.int (Int32.ofNat a), .int (t.2.2.1 110 a), .int (t.2.2.1 111 a), .int (t.2.2.1 112 a), .int (t.2.2.1 113 a), .ref 60, .int (-1), .int (t.2.2.1 119 a), .int (t.2.2.1 120 a)]) (cup_eq ..) rfl (by simp) rfl, Option.bind_some, cupU, xP_c (fs' := [.int (Int32.ofNat a), .int (t.2.2.1 110 a), .int (t.2.2.1 111 a), .int (t.2.2.1 112 a), .int (t.2.2.1 113 a), .ref 60, .int (-1), .int 0, .int (t.2.2.1 120 a)]) (cup_eq ..) rfl (by simp) rfl, Option.bind_some, cupU, xP_c (fs' := [.int (Int32.ofNat a), .int (t.2.2.1 110 a), .int (t.2.2.1 111 a), .int (t.2.2.1 112 a), .int (t.2.2.1 113 a), .ref 60, .int (-1), .int 0, .int 0]) (cup_eq ..) rfl (by simp) rfl, Option.bind_some, cupU]
  unfold actC
  simp [resT_at, stR]
theorem okAct_res {t : TS} {a : Nat} (h : okAct t a) : okAct (resT t a) a := by
  obtain ⟨h1, h2, h3, h4, h5, h6, h7, h8⟩ := h
  refine ⟨by rw [resT_at]; simpa using h1, by rw [resT_at]; simpa using h2, by rw [resT_at]; simpa using h3, by rw [resT_at]; simpa using h4, ⟨0, by omega, by rw [resT_at]; simp⟩, Or.inl (by rw [resT_at]; simp), Or.inl (by rw [resT_at]; simp), Or.inl (by rw [resT_at]; simp)⟩
/-- how many are done, where one act changes -/
theorem dnC_one {t T : TS} {a : Nat} (h : ∀ b, b ≠ a → T.2.2.1 117 b = t.2.2.1 117 b) (h1 : T.2.2.1 109 = t.2.2.1 109) (h2 : T.2.2.1 110 = t.2.2.1 110) : dnC T (-1) ≤ dnC t (-1) + 1 := by
  unfold dnC
  have key : ∀ n, ((List.range n).filter (fun b => decide (T.2.2.1 109 b = 1) && dnB T (-1) b)).length ≤ ((List.range n).filter (fun b => decide (t.2.2.1 109 b = 1) && dnB t (-1) b)).length + (if a < n then 1 else 0) := by
    intro n
    induction n with
    | zero => exact Nat.zero_le _
    | succ n ih =>
      rw [flen_suc, flen_suc]
      by_cases y : n = a
      · rw [if_neg (by omega)] at ih
        rw [if_pos (show a < n + 1 by omega)]
        split <;> split <;> omega
      · have e : (decide (T.2.2.1 109 n = 1) && dnB T (-1) n) = (decide (t.2.2.1 109 n = 1) && dnB t (-1) n) := by
          unfold dnB
          rw [h1, h2, h n y]
        rw [e]
        generalize (decide (t.2.2.1 109 n = 1) && dnB t (-1) n) = bb
        by_cases z : a < n
        · rw [if_pos z] at ih
          rw [if_pos (show a < n + 1 by omega)]
          cases bb
          · simp only [Bool.false_eq_true, if_false]; omega
          · simp only [if_true]; omega
        · rw [if_neg z] at ih
          rw [if_neg (show ¬ a < n + 1 by omega)]
          cases bb
          · simp only [Bool.false_eq_true, if_false]; omega
          · simp only [if_true]; omega
  have := key 20
  split at this <;> omega
theorem dnC_less {t T : TS} {a : Nat} (h : ∀ b, b ≠ a → T.2.2.1 117 b = t.2.2.1 117 b) (h0 : ¬ T.2.2.1 117 a = 2) (h1 : T.2.2.1 109 = t.2.2.1 109) (h2 : T.2.2.1 110 = t.2.2.1 110) : dnC T (-1) ≤ dnC t (-1) := by
  unfold dnC
  rw [← List.countP_eq_length_filter, ← List.countP_eq_length_filter]
  refine List.countP_mono_left (fun b _ hb => ?_)
  rw [Bool.and_eq_true] at hb ⊢
  rw [h1] at hb
  refine ⟨hb.1, ?_⟩
  have hb2 := hb.2
  unfold dnB at hb2 ⊢
  by_cases y : b = a
  · subst y
    rw [Bool.and_eq_true, decide_eq_true_eq] at hb2
    exact absurd hb2.1 h0
  · rw [h b y, h2] at hb2; exact hb2
theorem dnC_drop {t T : TS} {a : Nat} (ha : a < 20) (hta : t.2.2.1 109 a = 1) (hs : t.2.2.1 117 a = 2) (h : ∀ b, b ≠ a → T.2.2.1 117 b = t.2.2.1 117 b) (h0 : ¬ T.2.2.1 117 a = 2) (h1 : T.2.2.1 109 = t.2.2.1 109) (h2 : T.2.2.1 110 = t.2.2.1 110) : dnC T (-1) + 1 ≤ dnC t (-1) := by
  unfold dnC
  refine flt_lt (b := a) (fun b hb => ?_) ha ?_ ?_
  · rw [Bool.and_eq_true] at hb ⊢
    rw [h1] at hb
    refine ⟨hb.1, ?_⟩
    have hb2 := hb.2
    unfold dnB at hb2 ⊢
    by_cases y : b = a
    · subst y
      rw [Bool.and_eq_true, decide_eq_true_eq] at hb2
      exact absurd hb2.1 h0
    · rw [h b y, h2] at hb2; exact hb2
  · unfold dnB; rw [hta, hs]; rfl
  · unfold dnB
    rw [show decide (T.2.2.1 117 a = 2) = false from decide_eq_false h0]; simp
section
variable {own : Nat → Nat} {s : CS} {t : TS} {np sz mx zm am rl nr na ec a B N : Nat} {P Z ZP A RW od : Nat → Nat}
/-- an event, told on both sides -/
theorem wa_evC (hw : wfS s) (r : R7b (rs s.1 own 7) t np sz mx zm am rl nr na ec P Z ZP A RW od B) (hB : B < 1000000) (hb : ¬ t.1 1 = 0) (ha : a < 20) (hta : t.2.2.1 109 a = 1) {d : Int32} (hd : v01 d) {w5 : Bool} {fs : List Value} (h115 : s.1 115 = some (w5, false, 100, fs)) (hf4 : fs[4]? = some (.ref 118)) (o115 : own 115 ≠ 7) (r6 : R6 (rs s.1 own 6) t N) :
    ∃ S U, c_510 151 (A a) d s = (if t.2.2.1 110 a = 2 then c_1133 120 (Int32.ofNat a) d S else if t.2.2.1 110 a = 3 then aPut S 0 118 (Int32.ofNat (4 + a % 6)) (.int d) else some S) ∧ t_801 (Int32.ofNat a) d t = some U ∧ R7b (rs S.1 own 7) U np sz mx zm am rl nr na (ec + 1) P Z ZP A RW od (ec + 1 + dnC t (-1)) ∧ Frm (fun X => X = 7) own own s S ∧ S.2 = s.2 ∧ (∀ c, c ≠ 330 → U.1 c = t.1 c) ∧ (∀ c, ¬ (121 ≤ c ∧ c ≤ 123) → U.2.2.1 c = t.2.2.1 c) ∧ (∀ Z, Z ≠ 7 → rt U Z = rt t Z) ∧ S.1 161 = s.1 161 := by
  have r' := r
  obtain ⟨r0, _, _, _, _, ⟨f1, e1, g1⟩, ⟨f2, e2, g2⟩, ⟨f3, e3, e3v, g3⟩, e4, e5⟩ := r'
  have hec : ec < 1000000 := by omega
  obtain ⟨⟨⟨d6, _, g6⟩, _, _⟩, _⟩ := r6
  obtain ⟨U, eU, u1, u2, u3, u4, u5, u6⟩ := t_ev e4 (Int32.ofNat a) d
  refine ⟨tlS s t mx ec a d f1 f2 f3, U, c_tellE r hec ha hta hd h115 hf4 (rs_in g6).1 (rs_in e1).1 (rs_in e2).1 (rs_in e3).1, eU, R7b_ev hd r hb e1 e2 e3 e3v g1 g2 g3 u1 (fun c _ hc => u2 c hc) u4 u6 (Nat.le_refl _), ?_, rfl, u2, u4, fun Z h7 => ?_, by unfold tlS; simp [cup, lUpd_at]⟩
  · have o151 := rs_in r0.1
    have o158 := rs_in e1
    have o159 := rs_in e2
    have o160 := rs_in e3
    unfold tlS
    have l159 : 159 < s.2.1 := wf_lt hw o159.1
    have l160 : 160 < s.2.1 := wf_lt hw o160.1
    have l151 : 151 < s.2.1 := wf_lt hw o151.1
    have w1 := wf_cup (c := (true, true, 0, rowC (fun j => if j = ec % 60 then .int (t.1 301) else .int (f1 j)) 60)) hw (wf_lt hw o158.1)
    have w2 := wf_cup (c := (true, true, 0, rowC (fun j => if j = ec % 60 then .int (Int32.ofNat a) else .int (f2 j)) 60)) w1 l159
    have w3 := wf_cup (c := (true, true, 3, rowC (fun j => if j = ec % 60 then .int (d &&& 1) else .int (f3 j)) 60)) w2 l160
    exact Frm.trans (frm_cup hw (wf_lt hw o158.1) o158.2) (Frm.trans (frm_cup w1 l159 o159.2) (Frm.trans (frm_cup w2 l160 o160.2) (frm_cup w3 l151 o151.2)))
  · unfold rt
    refine Prod.ext ?_ (Prod.ext ?_ (Prod.ext ?_ ?_))
    · funext c
      by_cases y : mI c = Z
      · simp only [if_pos y]
        exact u2 c (fun z => h7 (by rw [← y, z]; rfl))
      · simp only [if_neg y]
    · funext c; simp only [u3]
    · funext c j
      by_cases y : mR c = Z
      · simp only [if_pos y]
        rw [u4 c (fun z => h7 (by rw [← y]; rcases (show c = 121 ∨ c = 122 ∨ c = 123 by omega) with e | e | e <;> rw [e] <;> rfl))]
      · simp only [if_neg y]
    · funext c j; simp only [u5]
theorem wa_ev (hw : wfS s) (r : R7b (rs s.1 own 7) t np sz mx zm am rl nr na ec P Z ZP A RW od B) (hB : B < 1000000) (hb : ¬ t.1 1 = 0) (ha : a < 20) (hta : t.2.2.1 109 a = 1) {d : Int32} (hd : v01 d) {w5 : Bool} {fs : List Value} (h115 : s.1 115 = some (w5, false, 100, fs)) (hf4 : fs[4]? = some (.ref 118)) (o115 : own 115 ≠ 7) (r6 : R6 (rs s.1 own 6) t N) :
    ∃ S U, c_510 151 (A a) d s = (if t.2.2.1 110 a = 2 then c_1133 120 (Int32.ofNat a) d S else if t.2.2.1 110 a = 3 then aPut S 0 118 (Int32.ofNat (4 + a % 6)) (.int d) else some S) ∧ t_801 (Int32.ofNat a) d t = some U ∧ R7b (rs S.1 own 7) U np sz mx zm am rl nr na (ec + 1) P Z ZP A RW od (ec + 1 + dnC t (-1)) ∧ Frm (fun X => X = 7) own own s S ∧ S.2 = s.2 ∧ (∀ c, c ≠ 330 → U.1 c = t.1 c) ∧ (∀ c, ¬ (121 ≤ c ∧ c ≤ 123) → U.2.2.1 c = t.2.2.1 c) ∧ (∀ Z, Z ≠ 7 → rt U Z = rt t Z) := by
  obtain ⟨S, U, z1, z2, z3, z4, z5, z6, z7, z8, _⟩ := wa_evC hw r hB hb ha hta hd h115 hf4 o115 r6
  exact ⟨S, U, z1, z2, z3, z4, z5, z6, z7, z8⟩
theorem rt_act {t T : TS} {Z a : Nat} (hn : ∀ c, c ≠ 0 → T.1 c = t.1 c) (h2 : T.2.1 = t.2.1) (hr : ∀ c j, ¬ (117 ≤ c ∧ c ≤ 120 ∧ j = a) → T.2.2.1 c j = t.2.2.1 c j) (h4 : T.2.2.2 = t.2.2.2) (h7 : Z ≠ 7) (h9 : Z ≠ 99) : rt T Z = rt t Z := by
  unfold rt
  refine Prod.ext ?_ (Prod.ext ?_ (Prod.ext ?_ ?_))
  · funext c
    by_cases y : mI c = Z
    · simp only [if_pos y]
      exact hn c (fun z => h9 (by rw [← y, z]; rfl))
    · simp only [if_neg y]
  · funext c; simp only [h2]
  · funext c j
    by_cases y : mR c = Z
    · simp only [if_pos y]
      exact hr c j (fun z => h7 (by rw [← y]; rcases (show c = 117 ∨ c = 118 ∨ c = 119 ∨ c = 120 by omega) with e | e | e | e <;> rw [e] <;> rfl))
    · simp only [if_neg y]
  · funext c j; simp only [h4]
end
