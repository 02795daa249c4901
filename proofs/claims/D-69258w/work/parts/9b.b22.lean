/-! the bus: the tick's small steps -/
theorem lett_cg3 {t t' : TS} {q : Nat} : ∀ {c : Nat}, (∀ i, i ≤ q + c → t'.2.2.1 141 i = t.2.2.1 141 i) → lett t' q c = lett t q c := by
  intro c
  induction c with
  | zero => intro _; rfl
  | succ c ih =>
    intro h
    show lett t' q c ||| _ = lett t q c ||| _
    rw [ih (fun i hi => h i (by omega)), h (q + (c + 1)) (by omega)]
theorem R6e_cg3 {h : lHeap} {t t' : TS} {N : Nat} (r : R6e h t N) (r1 : ∀ j, j ≤ N → t'.2.2.1 141 j = t.2.2.1 141 j) (r2 : ∀ j, t'.2.2.1 155 j = t.2.2.1 155 j) (r3 : ∀ j, t'.2.2.1 157 j = t.2.2.1 157 j) (hn : t'.1 = t.1) : R6e h t' N := by
  obtain ⟨mc, e1, e2, e3, e4, e5, e6, e7, nb, f, q1, q2, q3, q4, q5, q6⟩ := r
  refine ⟨mc, e1, e2, e3, e4, e5, e6, e7, nb, f, q1, q2, q3, q4, by rw [r3]; exact q5, ?_⟩
  rw [hn]
  rcases q6 with q6 | ⟨b, z1, z2, z3, z4, z5, z6, z7, z8, z9⟩
  · exact Or.inl q6
  · refine Or.inr ⟨b, z1, z2, z3, z4, z5, z6, z7, fun i hi => by rw [r2]; exact z8 i hi, ?_⟩
    rcases z9 with ⟨y1, y2, y3, y4, y5, y6⟩ | z9
    · exact Or.inl ⟨y1, y2, y3, y4, by rw [y5, lett_cg3 (t' := t') (t := t) (fun i hi => r1 i (by omega))], y6⟩
    · exact Or.inr z9
theorem bus_line {h : lHeap} {t : TS} {N Nd M l : Nat} (r : R6x h t N N Nd M) (hM : M = N + 1) (hl : l = 0 ∨ l = 1) : R6x h (wrI t 141 M (Int32.ofNat l)) N N Nd M := by
  have r2 := r
  obtain ⟨⟨⟨d, gi, gd⟩, g121, g125, g126, g500, gM, g523, g525, g1, g524, g141, g142, g526⟩, e, _⟩ := r2
  have ne : ∀ j, j ≤ N → (wrI t 141 M (Int32.ofNat l)).2.2.1 141 j = t.2.2.1 141 j := fun j hj => wr_nk (by omega)
  have nc : ∀ c j, c ≠ 141 → (wrI t 141 M (Int32.ofNat l)).2.2.1 c j = t.2.2.1 c j := fun c j hc => wr_ne hc j
  refine R6_ge r (fun _ _ _ _ _ _ => rfl) (fun c j _ _ => nc c j (by omega)) rfl ⟨⟨d, ?_, gd⟩, g121, ?_, ?_, g500, gM, g523, g525, g1, g524, ?_, ?_, g526⟩ (R6e_cg3 e ne (fun j => nc _ j (by omega)) (fun j => nc _ j (by omega)) rfl)
  · rcases gi with ⟨z, z1, z2, z3, z4, z5⟩ | ⟨z3, z5⟩
    · exact Or.inl ⟨z, z1, z2, z3, by rw [ne z z2]; exact z4, fun i i1 i2 => by rw [ne i i2]; exact z5 i i1 i2⟩
    · exact Or.inr ⟨z3, fun i i1 i2 => by rw [ne i i2]; exact z5 i i1 i2⟩
  · obtain ⟨mc, n, a1, a2, a3, a4, a5⟩ := g125
    exact ⟨mc, n, a1, a2, a3, a4, a5⟩
  · exact g126
  · intro i hi
    rw [wr_at]
    by_cases c : (141 : Nat) = 141 ∧ i = M
    · rw [if_pos c]; exact v01_of hl
    · rw [if_neg c]; exact g141 i hi
  · intro i hi
    rw [nc _ _ (by omega)]; exact g142 i hi
/-- the bus's own cell is changed -/
theorem bus_120 {own : Nat → Nat} {s : CS} {t t' : TS} {N Ne Nd M N' M' : Nat} {c : lCell} (hw : wfS s) (r : R6x (rs s.1 own 6) t N Ne Nd M) (hr : t'.2 = t.2) (hn : ∀ c, c ≠ 500 → t'.1 c = t.1 c) (g : R6g (lUpd (rs s.1 own 6) 120 c) t' N' M') :
    R6x (rs (cup s 120 c).1 own 6) t' N' Ne Nd M' ∧ BS own own 0 0 s t (cup s 120 c) t' := by
  have r2 := r
  obtain ⟨⟨⟨d, gi, gd⟩, _⟩, e, _⟩ := r2
  have o := rs_in gd
  have er : rs (cup s 120 c).1 own 6 = lUpd (rs s.1 own 6) 120 c := by
    show rs (lUpd s.1 120 c) own 6 = _
    rw [rs_upd o.2]
  have ne : ∀ q, q ≠ 120 → lUpd (rs s.1 own 6) 120 c q = rs s.1 own 6 q := fun q a => by rw [lUpd_at, if_neg a]
  have rr : ∀ c j, t'.2.2.1 c j = t.2.2.1 c j := fun c j => by rw [hr]
  refine ⟨?_, frm_cup hw (wf_lt hw o.1) o.2, ?_, Nat.le_refl _, Nat.le_refl _⟩
  · rw [er]
    exact R6_ge r (fun q a _ _ _ _ => ne q a) (fun c j _ _ => rr c j) (hn _ (by omega)) g (R6e_cg2 e (ne _ (by omega)) (ne _ (by omega)) (fun j => rr _ j) (fun j => rr _ j) (fun j => rr _ j) (hn _ (by omega)) (hn _ (by omega)) (hn _ (by omega)) (hn _ (by omega)) (hn _ (by omega)))
  · intro Z hZ
    unfold rt
    rw [hr]
    refine Prod.ext ?_ rfl
    funext c
    by_cases hz : mI c = Z
    · simp only [if_pos hz]
      exact hn c (fun q => hZ (by rw [← hz, q]; rfl))
    · simp only [if_neg hz]
theorem bus_now {own : Nat → Nat} {s : CS} {t : TS} {N : Nat} (hw : wfS s) (r : R6 (rs s.1 own 6) t N) (hN : N < 180000) : ∃ s1, xP s [(122, 9)] 120 (.int (t.1 500 + 1)) = some s1 ∧ R6x (rs s1.1 own 6) (ptI t 500 (t.1 500 + 1)) N N N (N + 1) ∧ BS own own 0 0 s t s1 (ptI t 500 (t.1 500 + 1)) := by
  have r2 := r
  obtain ⟨⟨⟨d, gi, gd⟩, g121, g125, g126, g500, gM, g523, g525, g1, g524, g141, g142, g526⟩, e, _⟩ := r2
  obtain ⟨_, _, _, _, xp, _⟩ := bD_p (v := t.1 500 + 1) (rs_in gd).1
  refine ⟨_, xp, bus_120 hw r rfl (fun c hc => by rw [pt_1, if_neg hc]) ⟨⟨d, gi, by rw [lUpd_at, if_pos rfl]; rfl⟩, by rw [lUpd_at, if_neg (by omega)]; exact g121, by rw [lUpd_at, if_neg (by omega)]; exact g125, by rw [lUpd_at, if_neg (by omega)]; exact g126, ?_, by omega, g523, g525, g1, g524, g141, g142, g526⟩⟩
  show t.1 500 + 1 = _
  rw [g500, i_suc]
theorem bus_idle {own : Nat → Nat} {s : CS} {t : TS} {N Ne Nd M l : Nat} (hw : wfS s) (r : R6x (rs s.1 own 6) t N Ne Nd M) (hM : M = N + 1) (hl : l = 0 ∨ l = 1) (hline : t.2.2.1 141 M = Int32.ofNat l) : ∃ v s1, (if Int32.ofNat l = 1 then Option.bind (α := Int32) (xI s [(122, 10)] 120) (fun x37 => some (x37 + 1)) else some 0) = some v ∧ xP s [(122, 10)] 120 (.int v) = some s1 ∧ R6x (rs s1.1 own 6) t M Ne Nd M ∧ BS own own 0 0 s t s1 t := by
  have r2 := r
  obtain ⟨⟨⟨d, gi, gd⟩, g121, g125, g126, g500, gM, g523, g525, g1, g524, g141, g142, g526⟩, e, _⟩ := r2
  obtain ⟨_, _, _, _, _, _, _, _, _, x10, _⟩ := bD_f (rs_in gd).1
  have key : ∃ d', (if Int32.ofNat l = 1 then Option.bind (α := Int32) (xI s [(122, 10)] 120) (fun x37 => some (x37 + 1)) else some 0) = some (Int32.ofNat d') ∧ R6i t M d' := by
    rcases hl with rfl | rfl
    · exact ⟨0, by rw [if_neg (show ¬ Int32.ofNat 0 = 1 by decide)]; rfl, Or.inl ⟨M, by omega, by omega, by omega, hline, fun i i1 i2 => by omega⟩⟩
    · refine ⟨d + 1, by rw [if_pos (show Int32.ofNat 1 = 1 from rfl), x10, Option.bind_some, i_suc], ?_⟩
      have at_ : ∀ i, i ≤ M → ¬ i ≤ N → t.2.2.1 141 i = 1 := fun i i1 i2 => by rw [show i = M by omega]; exact hline
      rcases gi with ⟨z, z1, z2, z3, z4, z5⟩ | ⟨z3, z5⟩
      · refine Or.inl ⟨z, z1, by omega, by omega, z4, fun i i1 i2 => ?_⟩
        by_cases q : i ≤ N
        · exact z5 i i1 q
        · exact at_ i i2 q
      · refine Or.inr ⟨by omega, fun i i1 i2 => ?_⟩
        by_cases q : i ≤ N
        · exact z5 i i1 q
        · exact at_ i i2 q
  obtain ⟨d', k1, k2⟩ := key
  obtain ⟨_, _, _, _, _, xp⟩ := bD_p (v := Int32.ofNat d') (rs_in gd).1
  exact ⟨_, _, k1, xp, bus_120 hw r rfl (fun _ _ => rfl) ⟨⟨d', k2, by rw [lUpd_at, if_pos rfl]; rfl⟩, by rw [lUpd_at, if_neg (by omega)]; exact g121, by rw [lUpd_at, if_neg (by omega)]; exact g125, by rw [lUpd_at, if_neg (by omega)]; exact g126, g500, gM, g523, g525, g1, g524, g141, g142, g526⟩⟩
theorem xN_cg {s s' : CS} {tab : List (Nat × Nat)} {a : Nat} (h : s'.1 a = s.1 a) : xN s' tab a = xN s tab a := by
  unfold xN xV
  rw [h]
