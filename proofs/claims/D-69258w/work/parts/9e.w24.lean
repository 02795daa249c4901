/-! the warden: take on both sides -/
section
variable {s : CS} {T : TS} {r sz wc w : Nat} {bg en : Nat → Nat}
theorem c_takW (hw : wfS s) (h : TWd T sz wc w bg en) (h2 : s.1 153 = some (true, false, 1035, rowC (fun i => .int (T.2.2.1 102 i)) sz)) (hr : s.1 r = some (rdW bg en sz wc w)) {q : Nat} {l : List Nat} (hq : s.1 q = some (false, false, 1000, txV l)) (hl : l.length ≤ 10) (hl0 : 0 < l.length) : by classical exact (c_1017 r q s = some (if wdIs (T.2.2.1 102) bg en wc w l then .inl (cup s r (rdW bg en sz wc (w + 1))) else .inr (s.2.1, wwC s (Int32.ofNat w)))) := by
  classical
  obtain ⟨t1, t2, t3, t4, t5, t6, t7, t8⟩ := h
  obtain ⟨x, e1, e2, e3⟩ := c_is h2 t5 t8 t3 hr hq hl hl0
  unfold c_1017
  rw [if_pos (isK_t hr rfl), e1, Option.bind_some, if_pos (isK_t hr rfl)]
  by_cases y : wdIs (T.2.2.1 102) bg en wc w l
  · rw [e3.mpr y, c_wok (by decide), if_pos y, Option.bind_some, Sum.elim_inl, if_pos (isK_t hr rfl), c_nxtW h2 t5 t8 y.1 hr]; rfl
  · have x0 : x = 0 := by
      rcases e2 with z | z
      · exact z
      · exact absurd (e3.mp z) y
    rw [x0, c_ww hw hr, if_neg y]; rfl
theorem t_takW (h : TWd T sz wc w bg en) (h3 : T.1 311 < 0) {l : List Nat} (hl : ∀ c ∈ l, 97 ≤ c ∧ c ≤ 122) (hn : 0 < l.length) (hn5 : l.length ≤ 5) : by classical exact (t_781 (Int32.ofNat (enc l)) T = some (if wdIs (T.2.2.1 102) bg en wc w l then ptI T 310 (Int32.ofNat (w + 1)) else ptI T 311 (Int32.ofNat w))) := by
  classical
  obtain ⟨x, e1, e3⟩ := t_letW h hl hn hn5
  obtain ⟨t1, t2, t3, t4, t5, t6, t7, t8⟩ := h
  unfold t_781
  rw [e1, Option.bind_some]
  by_cases y : wdIs (T.2.2.1 102) bg en wc w l
  · rw [if_pos (e3.mpr y), Option.bind_some, tw_ok h3, Option.bind_some, if_neg (show ¬ (1 : Int32) = 0 by decide), Option.bind_some, t2, i_suc, if_pos y]
  · rw [if_neg (fun z => y (e3.mp z)), Option.bind_some, tw_no h3 t2 (by omega), Option.bind_some, if_pos rfl, if_neg y]
theorem t_stpW (h : TWd T sz wc w bg en) (h3 : T.1 311 < 0) : by classical exact (t_786 T = some (if wdIs (T.2.2.1 102) bg en wc w [59] then ptI T 310 (Int32.ofNat (w + 1)) else ptI T 311 (Int32.ofNat w))) := by
  classical
  obtain ⟨x, e1, e2, e3⟩ := t_sign h (c := 59) (by omega)
  obtain ⟨t1, t2, t3, t4, t5, t6, t7, t8⟩ := h
  unfold t_786
  rw [show (59 : Int32) = Int32.ofNat 59 from rfl, e1, Option.bind_some]
  by_cases y : wdIs (T.2.2.1 102) bg en wc w [59]
  · rw [e3.mpr y, tw_ok h3, Option.bind_some, if_neg (show ¬ (1 : Int32) = 0 by decide), Option.bind_some, t2, i_suc, if_pos y]
  · have x0 : x = 0 := by
      rcases e2 with z | z
      · exact z
      · exact absurd (e3.mp z) y
    rw [x0, tw_no h3 t2 (by omega), Option.bind_some, if_pos rfl, if_neg y]
theorem c_numW (hw : wfS s) (h : TWd T sz wc w bg en) (h2 : s.1 153 = some (true, false, 1035, rowC (fun i => .int (T.2.2.1 102 i)) sz)) (hr : s.1 r = some (rdW bg en sz wc w)) (a b : Int32) : by classical exact (c_1018 r a b s = some (if inN T bg en wc w a b then .inl (nuW T bg en w, cup s r (rdW bg en sz wc (w + 1))) else .inr (s.2.1, wwC s (Int32.ofNat w)))) := by
  classical
  unfold c_1018
  rw [if_pos (isK_t hr rfl), c_peek hw h h2 hr a b]
  obtain ⟨t1, t2, t3, t4, t5, t6, t7, t8⟩ := h
  by_cases y : inN T bg en wc w a b
  · rw [if_pos y, if_pos y, Option.bind_some, Sum.elim_inl, if_pos (isK_t hr rfl), c_nxtW h2 t5 t8 y.1.1 hr]; rfl
  · rw [if_neg y, if_neg y]; rfl
theorem t_lokW (h : TWd T sz wc w bg en) (h3 : T.1 311 < 0) (a b : Int32) : by classical exact (t_779 a b T = some (if inN T bg en wc w a b then (nuW T bg en w, T) else (-1, ptI T 311 (Int32.ofNat w)))) := by
  classical
  rw [t_lookW h a b]
  obtain ⟨t1, t2, t3, t4, t5, t6, t7, t8⟩ := h
  by_cases y : inN T bg en wc w a b
  · rw [if_pos y, if_pos y, tw_ok h3, Option.bind_some, if_neg (show ¬ (1 : Int32) = 0 by decide)]
  · rw [if_neg y, if_neg y, tw_no h3 t2 (by omega), Option.bind_some, if_pos rfl]
theorem t_numW (h : TWd T sz wc w bg en) (h3 : T.1 311 < 0) (a b : Int32) : by classical exact (t_782 a b T = some (if inN T bg en wc w a b then (nuW T bg en w, ptI T 310 (Int32.ofNat (w + 1))) else (-1, ptI (ptI T 311 (Int32.ofNat w)) 310 (Int32.ofNat w)))) := by
  classical
  unfold t_782
  rw [t_lokW h h3 a b, Option.bind_some]
  obtain ⟨t1, t2, t3, t4, t5, t6, t7, t8⟩ := h
  by_cases y : inN T bg en wc w a b
  · rw [if_pos y, if_pos y, if_pos h3, Option.bind_some, Option.bind_some, t2]
    exact congrArg (fun v => some (nuW T bg en w, ptI T 310 v)) (i_suc w)
  · rw [if_neg y, if_neg y, if_neg (show ¬ (ptI T 311 (Int32.ofNat w)).1 311 < 0 by rw [pt_1, if_pos rfl]; exact i_nlt0 (by omega)), Option.bind_some, Option.bind_some]
    have e : (ptI T 311 (Int32.ofNat w)).1 310 + 0 = Int32.ofNat w := by rw [pt_1, if_neg (by omega), t2, Int32.add_zero]
    rw [show ((-1 : Int32), ptI T 311 (Int32.ofNat w)).2 = ptI T 311 (Int32.ofNat w) from rfl, e]
/-! once something is wrong, the twin's words change nothing -/
theorem te_look (h : TWd T sz wc w bg en) (h3 : ¬ T.1 311 < 0) (a b : Int32) : t_779 a b T = some (-1, T) := by
  rw [t_lookW h a b, tw_er h3, Option.bind_some, if_pos rfl]
theorem te_tak (h : TWd T sz wc w bg en) (h3 : ¬ T.1 311 < 0) (k : Int32) : t_781 k T = some T := by
  obtain ⟨x, e1, _⟩ := t_letW h (l := [97]) (fun c hc => by simp at hc; omega) (by simp) (by simp)
  unfold t_781
  rw [e1, Option.bind_some]
  by_cases y : x = k
  · rw [if_pos y, Option.bind_some, tw_er h3, Option.bind_some, if_pos rfl]
  · rw [if_neg y, Option.bind_some, tw_er h3, Option.bind_some, if_pos rfl]
theorem te_stp (h : TWd T sz wc w bg en) (h3 : ¬ T.1 311 < 0) : t_786 T = some T := by
  obtain ⟨x, e1, _⟩ := t_sign h (c := 59) (by omega)
  unfold t_786
  rw [show (59 : Int32) = Int32.ofNat 59 from rfl, e1, Option.bind_some, tw_er h3, Option.bind_some, if_pos rfl]
theorem te_num (h : TWd T sz wc w bg en) (h3 : ¬ T.1 311 < 0) (a b : Int32) : t_782 a b T = some (-1, ptI T 310 (Int32.ofNat w)) := by
  unfold t_782
  rw [te_look h h3, Option.bind_some, if_neg h3, Option.bind_some, Option.bind_some]
  have e : T.1 310 + 0 = Int32.ofNat w := by rw [h.2.1, Int32.add_zero]
  rw [show ((-1 : Int32), T).2 = T from rfl, e]
end
