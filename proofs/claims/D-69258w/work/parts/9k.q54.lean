/-! permits: rules one after another, both readers -/
section
variable {s S : CS} {t T U V : TS} {x : List Nat} {rd rl k k' : Nat} {dp mc : Int32} {F : List ClD}
noncomputable def rdLp (rd : Nat) : CS → Option (Sum CS (Sum (CS) (Sum (Option Nat × CS) (Nat × CS)))) := fun p4 => (if isK p4 [68] rd = true then Option.bind (α := Int32) (c_938 rd 63 p4) (fun x5 => (if x5 = 0 then (if isK p4 [68] rd = true then Option.bind (α := Int32) (c_938 rd 64 p4) (fun x6 => (if isK p4 [68] rd = true then Option.bind (α := Sum (CS) (Nat × CS)) (c_935 rd x6 p4) (Sum.elim (fun x7 => (if isK x7 [68] rd = true then Option.bind (α := Sum (CS) (Nat × CS)) (c_931 rd x7) (Sum.elim (fun x9 => (if isK x9 [68] rd = true then Option.bind (α := Int32) (c_938 rd 63 x9) (fun x11 => (if x11 = 0 then (if isK x9 [68] rd = true then Option.bind (α := Sum (CS) (Nat × CS)) (c_936 rd x9) (Sum.elim (fun x12 => some (.inl x12)) (fun q13 => some (.inr (.inr (.inr (q13.1, q13.2)))))) else none) else some (.inl x9))) else none)) (fun q10 => some (.inr (.inr (.inr (q10.1, q10.2)))))) else none)) (fun q8 => some (.inr (.inr (.inr (q8.1, q8.2)))))) else none)) else none) else some (.inr (.inl p4)))) else none)
noncomputable def rdTp : TS → Option (Sum TS TS) := fun p22 => (if (p22.1 231) = 0 then (if (p22.1 228) = 0 then some (.inr p22) else Option.bind (α := Int32) ((if (p22.1 228) = 59 then some 1 else some 0)) (fun v36 => Option.bind (α := TS) (t_741 v36 p22) (fun x9 => (if (x9.1 231) = 0 then (if (x9.1 228) = 0 then some (.inl x9) else Option.bind (α := TS) (t_739 x9) (fun x10 => some (.inl x10))) else some (.inl x9))))) else some (.inr p22))
theorem c_930_eq (rd : Nat) (s : CS) : c_930 rd s =
  (if isK s [68] rd = true then Option.bind (α := Sum (CS) (Nat × CS)) (c_931 rd s) (Sum.elim (fun x1 => (if isK x1 [68] rd = true then Option.bind (α := Sum (CS) (Nat × CS)) (c_936 rd x1) (Sum.elim (fun x3 => Option.bind (α := Sum (CS) (Sum (Option Nat × CS) (Nat × CS))) (wh (rdLp rd) x3) (Sum.elim (fun v22 => Option.bind (α := Option Nat) (xR v22 [(68, 1)] rd) (fun r14 => some (.inl (r14, v22)))) (fun z => some z))) (fun q4 => some (.inr (q4.1, q4.2)))) else none)) (fun q2 => some (.inr (q2.1, q2.2)))) else none) := rfl
theorem t_733_eq (s : TS) : t_733 s =
  Option.bind (α := TS) (some (ptI s 227 0)) (fun s1 => Option.bind (α := TS) (some (ptI s1 230 0)) (fun s2 => Option.bind (α := TS) (some (ptI s2 231 0)) (fun s3 => Option.bind (α := TS) (some (ptI s3 232 0)) (fun s4 => Option.bind (α := TS) (some (ptI s4 233 0)) (fun s5 => Option.bind (α := TS) (some (ptI s5 234 0)) (fun s6 => Option.bind (α := TS) (t_734 s6) (fun x7 => Option.bind (α := TS) (t_739 x7) (fun x8 => Option.bind (α := TS) (wh rdTp x8) (fun v46 => (if (v46.1 231) = 0 then Option.bind (α := TS) (t_748 v46) (fun x11 => Option.bind (α := TS) (some (ptI x11 201 0)) (fun s12 => Option.bind (α := TS) (some (ptI s12 218 (-1))) (fun s13 => some (s13.1 205, s13)))) else some ((-1) - (v46.1 226), v46))))))))))) := rfl
/-- a rule: r nm cc ex day w CE mce q -/
abbrev RuD := Nat × Nat × Nat × Nat × Int32 × List Nat × List Nat × Int32 × Nat
def clD0 : ClD := ([], [], 0)
def RuOk (rd : Nat) (s : CS) (t : TS) (F : List ClD) (j : Nat) : RuD → Prop
  | (r, nm, cc, ex, day, w, CE, mce, q) => rd < r ∧ rd < nm ∧ rd < ex ∧ s.1 r = some (true, false, 70, [.ref nm, .ref cc, .ref ex, .int day, .null, .null, .null, .int 0, .null]) ∧ (∃ fl, s.1 nm = some (fl, false, 1000, txV w)) ∧ nmOk w ∧ s.1 ex = some (true, false, 1013, .int mce :: CE.map Value.ref) ∧ t.2.2.2 79 (12 + j) = nmL w ∧ t.2.2.1 80 (12 + j) = Int32.ofNat q ∧ t.2.2.1 81 (12 + j) = Int32.ofNat CE.length ∧ t.2.2.1 82 (12 + j) = day ∧ q + 1 + CE.length ≤ F.length ∧ ClP (noN rd s.1) cc (F.getD q clD0).1 (F.getD q clD0).2.1 (F.getD q clD0).2.2 ∧ ∀ i (h : i < CE.length), ClP (noN rd s.1) CE[i] (F.getD (q + 1 + i) clD0).1 (F.getD (q + 1 + i) clD0).2.1 (F.getD (q + 1 + i) clD0).2.2
def ruQ (u : RuD) : Nat := u.2.2.2.2.2.2.2.2
def ruM (u : RuD) : Nat := u.2.2.2.2.2.2.1.length
def ruW (u : RuD) : List Nat := u.2.2.2.2.2.1
/-- the rules' clauses follow one another -/
def chn : List RuD → Nat → Nat → Prop
  | [], a, b => a = b
  | u :: us, a, b => ruQ u = a ∧ chn us (a + 1 + ruM u) b
theorem chnR_app {us : List RuD} {u : RuD} : ∀ {a b : Nat}, chn us a b → ruQ u = b → chn (us ++ [u]) a (b + 1 + ruM u) := by
  induction us with
  | nil => intro a b h hq; exact ⟨by rw [hq]; exact h.symm, by rw [show a = b from h]; exact rfl⟩
  | cons v us ih => intro a b h hq; exact ⟨h.1, ih h.2 hq⟩
theorem getD_app2 {G : List ClD} {q : Nat} (h : q < F.length) : (F ++ G).getD q clD0 = F.getD q clD0 := by
  rw [List.getD_eq_getElem?_getD, List.getD_eq_getElem?_getD, List.getElem?_append_left h]
theorem RuOk_up {A : Nat → Prop} {n j nr nc n0 : Nat} {G : List ClD} {u : RuD} (h : RuOk rd s t F j u) (hw : wfS s) (J : JY A s S n) (Fr : RzF nr nc n0 t T) (hj : j < nr) (hA : ∀ p c, A p → s.1 p = some c → c.2.2.1 = 68 ∨ (c.2.2.1 = 1013 ∧ p = rl)) (hx : u.2.2.2.1 ≠ rl) : RuOk rd S T (F ++ G) j u := by
  obtain ⟨r, nm, cc, ex, day, w, CE, mce, q⟩ := u
  obtain ⟨h1, h2, h3, h4, ⟨fl, h5⟩, h6, h7, h8, h9, h10, h11, h12, h13, h14⟩ := h
  have up : ∀ {p c}, c.2.2.1 ≠ 68 → (c.2.2.1 = 1013 → p ≠ rl) → s.1 p = some c → S.1 p = some c := fun {p c} a b e => JY_up J hw (fun w => by
    rcases hA p c w e with z | z
    · exact a z
    · exact b z.1 z.2) e
  have upN : ∀ p c, noN rd s.1 p = some c → noN rd S.1 p = some c := noN_jy J hw (fun p c w e => by
    rcases hA p c w e with z | z
    · rw [z]; rfl
    · rw [z.1]; rfl)
  have r8 : ∀ c, (c = 80 ∨ c = 81 ∨ c = 82) → T.2.2.1 c (12 + j) = t.2.2.1 c (12 + j) := fun c hc => by
    rcases Fr.2.2.1 c (12 + j) with w | w
    · omega
    · exact w
  have r79 : T.2.2.2 79 (12 + j) = t.2.2.2 79 (12 + j) := by
    rcases Fr.2.2.2 79 (12 + j) with w | w
    · omega
    · exact w
  refine ⟨h1, h2, h3, up (by show 70 ≠ 68; decide) (fun w => absurd w (by show ¬ 70 = 1013; decide)) h4, ⟨fl, up (by show 1000 ≠ 68; decide) (fun w => absurd w (by show ¬ 1000 = 1013; decide)) h5⟩, h6, up (by show 1013 ≠ 68; decide) (fun _ => hx) h7, r79.trans h8, (r8 80 (by decide)).trans h9, (r8 81 (by decide)).trans h10, (r8 82 (by decide)).trans h11, by rw [List.length_append]; omega, ?_, fun i hi => ?_⟩
  · rw [getD_app2 (by omega)]; exact ClP_up upN h13
  · rw [getD_app2 (by omega)]; exact ClP_up upN (h14 i hi)
/-- both readers and the rules so far -/
def RuI (s : CS) (t : TS) (rd rl : Nat) (x : List Nat) (k : Nat) (F : List ClD) (Rs : List RuD) (mc : Int32) : Prop := PsC s t rd rl x k F ∧ s.1 rl = some (true, false, 1013, .int mc :: (Rs.map Prod.fst).map Value.ref) ∧ t.1 232 = Int32.ofNat Rs.length ∧ Rs.length ≤ 12 ∧ (∀ j (h : j < Rs.length), RuOk rd s t F j Rs[j]) ∧ chn Rs 0 F.length ∧ (∀ i j (hj : j < Rs.length) (hi : i < j), (Rs[i]'(by omega)).1 < Rs[j].1) ∧ ∀ j (h : j < Rs.length), Rs[j].2.2.2.1 ≠ rl
theorem RuI_st {n : Nat} {Rs : List RuD} (I : RuI s t rd rl x k F Rs mc) (R : RdC S rd rl x k' (Int32.ofNat 0)) (Q : RdT T x k') (J : JX rd s S n) (f : StF t T) (hk : k ≤ k') : RuI S T rd rl x k' F Rs mc := by
  obtain ⟨I1, hl, h232, h12, hR, hc, hi, hx⟩ := I
  have hw := I1.1.1
  obtain ⟨fs0, hrd⟩ := RdC_rd I1.1
  refine ⟨PsC_st I1 R Q f hk, JX_ne J hw hrd (by show 1013 ≠ 68; decide) hl, (f.1 232 (by decide) (by decide) (by decide) (by decide) (by decide)).trans h232, h12, fun j hj => ?_, hc, hi, hx⟩
  have := RuOk_up (G := []) (rl := rl) (nr := Rs.length) (nc := 0) (n0 := 0) (hR j hj) hw (JY_x (A := fun p => p = rd) J rfl) (RzF_st f) hj (fun p c w e => by
    rw [w, hrd] at e
    rw [← Option.some.inj e]; exact Or.inl rfl) (hx j hj)
  rw [List.append_nil] at this
  exact this
theorem ru_next {Rs : List RuD} (I : RuI s t rd rl x k F Rs mc) : (∃ (S : CS) (T : TS) (k' : Nat) (F' : List ClD) (u : RuD), c_936 rd s = some (.inl S) ∧ t_739 t = some T ∧ RuI S T rd rl x k' (F ++ F') (Rs ++ [u]) (mc + 1) ∧ k < k' ∧ JY (fun p => p = rd ∨ p = rl) s S (6 * (k' - k)) ∧ RzF Rs.length F.length (sumL F) t T) ∨ ∃ S e T, c_936 rd s = some (.inr (e, S)) ∧ t_739 t = some T ∧ RzF Rs.length F.length (sumL F) t T ∧ RuX (fun p => p = rd ∨ p = rl) s k S e T := by
  obtain ⟨I1, hl, h232, h12, hR, hc, hi, hx⟩ := I
  have hw := I1.1.1
  obtain ⟨fs0, hrd⟩ := RdC_rd I1.1
  have lrl := wf_lt hw hl
  have res := rd_rule (NM := Rs.map ruW) (RU := Rs.map Prod.fst) (NR := Rs.map (fun u => u.2.1)) I1 hl (by simp) (by simp) (by simpa using h12) (fun j hj => by
    have hj' : j < Rs.length := by simpa using hj
    have h := hR j hj'
    simp only [List.getElem_map]
    obtain ⟨h1, h2, h3, h4, h5, _⟩ := h
    exact ⟨⟨_, _, h4, rfl⟩, h5⟩) (fun l hl' => by
    obtain ⟨u, hu, rfl⟩ := List.mem_map.mp hl'
    obtain ⟨j, hj, e⟩ := List.getElem_of_mem hu
    have h := hR j hj
    rw [e] at h
    obtain ⟨r, nm, cc, ex, day, w, CE, mce, q⟩ := u
    obtain ⟨h1, h2, h3, h4, h5, h6, _⟩ := h
    exact h6) (by rw [List.length_map]; exact h232) (fun j hj => by
    have hj' : j < Rs.length := by simpa using hj
    have h := hR j hj'
    simp only [List.getElem_map]
    obtain ⟨h1, h2, h3, h4, h5, h6, h7, h8, _⟩ := h
    exact h8)
  rw [List.length_map] at res
  rcases res with ⟨S, T, k', F', r, nm, cc, ex, w, CE, mce, day, c1, c2, I', g1, ⟨g2a, g2b, g2c⟩, g3, g4, g5, g6, g7, g8, g9, g10, g11, g12, g13, g14, g15, g16, J, Fr⟩ | bad
  rotate_left
  · exact Or.inr bad
  left
  have rdr : rd < s.2.1 := wf_lt hw hrd
  have A1 : ∀ p c, (p = rd ∨ p = rl) → s.1 p = some c → c.2.2.1 = 68 ∨ (c.2.2.1 = 1013 ∧ p = rl) := fun p c w e => by
    rcases w with w | w
    · rw [w, hrd] at e
      rw [← Option.some.inj e]; exact Or.inl rfl
    · rw [w, hl] at e
      rw [← Option.some.inj e]; exact Or.inr ⟨rfl, w⟩
  have rlt : ∀ j (h : j < Rs.length), Rs[j].1 < s.2.1 := fun j hj => by
    have h := hR j hj
    exact wf_lt hw h.2.2.2.1
  have ga : ∀ {q : Nat} (h : q < (F ++ F').length), (F ++ F').getD q clD0 = (F ++ F')[q] := fun {q} h => by
    rw [List.getD_eq_getElem?_getD, List.getElem?_eq_getElem h]; rfl
  have hlen : (Rs ++ [(r, nm, cc, ex, day, w, CE, mce, F.length)]).length = Rs.length + 1 := by rw [List.length_append]; rfl
  have exn : ∀ j (h : j < Rs.length), Rs[j].2.2.2.1 ≠ rl := hx
  have al : ∀ {j : Nat} (h : j < Rs.length) (h' : j < (Rs ++ [(r, nm, cc, ex, day, w, CE, mce, F.length)]).length), (Rs ++ [(r, nm, cc, ex, day, w, CE, mce, F.length)])[j] = Rs[j] := fun h _ => List.getElem_append_left h
  have ar : ∀ {j : Nat} (h : j = Rs.length) (h' : j < (Rs ++ [(r, nm, cc, ex, day, w, CE, mce, F.length)]).length), (Rs ++ [(r, nm, cc, ex, day, w, CE, mce, F.length)])[j] = (r, nm, cc, ex, day, w, CE, mce, F.length) := fun {j} h h' => by
    subst h
    rw [List.getElem_append_right (Nat.le_refl _)]; simp
  refine ⟨S, T, k', F', (r, nm, cc, ex, day, w, CE, mce, F.length), c1, c2, ⟨I', ?_, by rw [hlen]; exact g7, by rw [hlen]; omega, fun j hj => ?_, ?_, fun i j hj hij => ?_, fun j hj => ?_⟩, g16, J, Fr⟩
  · rw [g1]; simp
  · by_cases z : j < Rs.length
    · rw [al z]
      exact RuOk_up (hR j z) hw J Fr z A1 (hx j z)
    · have ej : j = Rs.length := by rw [hlen] at hj; omega
      rw [ar ej]
      subst ej
      refine ⟨by omega, g2c, by omega, g3, g4, g5, g6, g9, g10, g11, g12, by omega, ?_, fun i hi => ?_⟩
      · rw [ga (by omega)]; exact g14 (by omega)
      · rw [ga (by omega)]; exact g15 i hi (by omega)
  · have := chnR_app (u := (r, nm, cc, ex, day, w, CE, mce, F.length)) hc rfl
    rw [g13]; exact this
  · rw [hlen] at hj
    have hi' : i < Rs.length := by omega
    rw [al hi']
    by_cases z : j < Rs.length
    · rw [al z]; exact hi i j z hij
    · rw [ar (by omega)]
      have := rlt i hi'
      show Rs[i].1 < r
      omega
  · by_cases z : j < Rs.length
    · rw [al z]; exact hx j z
    · rw [ar (by rw [hlen] at hj; omega)]
      show ex ≠ rl
      omega
end
