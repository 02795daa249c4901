/-! the bus: the reference, when something is complete -/
/-- its part between reading and starting anew -/
noncomputable def tCP (s : TS) : Option TS := Option.bind (α := Sum (Unit) (TS)) ((if (s.1 517) < 8 then some (.inl ()) else (if (s.1 519) = 0 then Option.bind (α := TS × Int32) (wh (S := TS × Int32 × Int32) (X := TS × Int32) (fun p21 => (if p21.2.2 < (p21.1.1 517) then Option.bind (α := Int32) (rdI p21.1 155 14000 p21.2.2) (fun x2 => Option.bind (α := TS) (stI p21.1 156 14000 p21.2.2 x2) (fun s3 => Option.bind (α := Int32) (rdI s3 155 14000 p21.2.2) (fun x4 => some (.inl (s3, p21.2.1 ^^^ x4, p21.2.2 + 1))))) else some (.inr (p21.1, p21.2.1)))) (s, 255, 0)) (fun v42 => Option.bind (α := TS) (some (ptI v42.1 521 (v42.1.1 517))) (fun s5 => Option.bind (α := Int32) ((if v42.2 = 0 then Option.bind (α := Int32) (rdI s5 156 14000 5) (fun x6 => (if (s5.1 521) = ((x6 - x6 / (128 : Int32) * (128 : Int32)) + 8) then some 1 else some 0)) else some 0)) (fun v63 => (if v63 = 0 ∨ v63 = 1 then Option.bind (α := TS) (some (ptI s5 523 v63)) (fun s7 => Option.bind (α := TS) (some (ptI s7 524 (s7.1 520))) (fun s8 => Option.bind (α := TS) (some (ptI s8 526 (-1))) (fun s9 => Option.bind (α := TS) (some (ptI s9 525 0)) (fun s10 => Option.bind (α := Int32) (rdI s10 157 5 0) (fun x11 => Option.bind (α := TS) (stI s10 157 5 0 (x11 + 1)) (fun s12 => Option.bind (α := Int32) (rdI s12 157 5 1) (fun x13 => Option.bind (α := Int32) ((if (s12.1 523) = 0 then some 0 else some 1)) (fun v93 => Option.bind (α := TS) (stI s12 157 5 1 (x13 + v93)) (fun s14 => some (.inr s14)))))))))) else none)))) else some (.inl ())))) (Sum.elim (fun v96 => Option.bind (α := TS) (some (ptI s 525 1)) (fun s15 => Option.bind (α := Int32) ((if 0 < (s15.1 524) then (if (s15.1 516) = ((s15.1 524) + 14) then (if (s15.1 517) = 1 then (if (s15.1 519) = 0 then some 1 else some 0) else some 0) else some 0) else some 0)) (fun v119 => Option.bind (α := Int32) ((if v119 = 0 then some (s15.1 526) else Option.bind (α := Int32) (rdI s15 155 14000 0) (fun x16 => some x16))) (fun v130 => Option.bind (α := TS) (some (ptI s15 526 v130)) (fun s17 => Option.bind (α := Int32) ((if v119 = 0 then some 2 else (if (s17.1 526) = 204 then some 3 else some 4))) (fun v144 => Option.bind (α := Int32) (rdI s17 157 5 v144) (fun x18 => Option.bind (α := TS) (stI s17 157 5 v144 (x18 + 1)) (fun s19 => some s19)))))))) (fun z => some z))
theorem t_cp {t : TS} (hb : ¬ t.1 516 = 0) (rd : t_841 t = some (1, t)) : t_839 t = Option.bind (tCP t) (fun v149 => Option.bind (t_840 v149) (fun x20 => some x20)) := by
  unfold t_839 tCP
  rw [if_neg hb, rd, Option.bind_some, if_neg (show ¬ (1 : Int32) = 0 by decide)]
theorem t_starts {u : TS} {M l : Nat} (hl : l = 0 ∨ l = 1) (h5 : u.1 500 = Int32.ofNat M) (hM : M ≤ 180000) (h1 : u.2.2.1 141 M = Int32.ofNat l) : t_840 u = some (ptI (ptI (ptI (ptI u 516 (if l = 0 then Int32.ofNat M else 0)) 528 (if l = 0 then Int32.ofNat M else 0)) 517 0) 519 0) := by
  have one : rdI u 141 180001 (u.1 500) = some (Int32.ofNat l) := by rw [h5, rdI_n (by omega) (by omega), h1]
  unfold t_840
  rw [one, Option.bind_some]
  rcases hl with rfl | rfl
  · simp [pt_1, h5]
  · simp [pt_1]
/-- a telegram -/
theorem t_tel {t : TS} {nb : Nat} (h7 : t.1 517 = Int32.ofNat nb) (h8 : 8 ≤ nb) (hn : nb < 14000) (h9 : t.1 519 = 0) (hg : ∀ i, i < nb → byt (t.2.2.1 155 i)) :
    ∃ T, tCP t = some T ∧ (∀ c, c ≠ 521 → c ≠ 523 → c ≠ 524 → c ≠ 525 → c ≠ 526 → T.1 c = t.1 c) ∧ T.1 521 = Int32.ofNat nb ∧ T.1 523 = rgt (t.2.2.1 155) nb ∧ T.1 524 = t.1 520 ∧ T.1 525 = 0 ∧ T.1 526 = -1 ∧ T.2.1 = t.2.1 ∧ T.2.2.2 = t.2.2.2 ∧ (∀ c j, c ≠ 156 → c ≠ 157 → T.2.2.1 c j = t.2.2.1 c j) ∧ (∀ i, i < nb → T.2.2.1 156 i = t.2.2.1 155 i) ∧ (∀ i, T.2.2.1 157 i = if i = 1 then t.2.2.1 157 1 + rgt (t.2.2.1 155) nb else if i = 0 then t.2.2.1 157 0 + 1 else t.2.2.1 157 i) := by
  have m14 : 14000 < 2147483648 := by omega
  have m5 : 5 < 2147483648 := by omega
  have lp := wh_cnt (f := fun p21 : TS × Int32 × Int32 => (if p21.2.2 < (p21.1.1 517) then Option.bind (α := Int32) (rdI p21.1 155 14000 p21.2.2) (fun x2 => Option.bind (α := TS) (stI p21.1 156 14000 p21.2.2 x2) (fun s3 => Option.bind (α := Int32) (rdI s3 155 14000 p21.2.2) (fun x4 => some (Sum.inl (β := TS × Int32) (s3, p21.2.1 ^^^ x4, p21.2.2 + 1))))) else some (.inr (p21.1, p21.2.1)))) (Q := fun v => v.2 = xr (t.2.2.1 155) nb ∧ v.1.1 = t.1 ∧ v.1.2.1 = t.2.1 ∧ v.1.2.2.2 = t.2.2.2 ∧ (∀ c j, c ≠ 156 → v.1.2.2.1 c j = t.2.2.1 c j) ∧ ∀ i, i < nb → v.1.2.2.1 156 i = t.2.2.1 155 i) nb (fun k a => ∃ u, a = (u, xr (t.2.2.1 155) k, Int32.ofNat k) ∧ u.1 = t.1 ∧ u.2.1 = t.2.1 ∧ u.2.2.2 = t.2.2.2 ∧ (∀ c j, c ≠ 156 → u.2.2.1 c j = t.2.2.1 c j) ∧ ∀ i, i < k → u.2.2.1 156 i = t.2.2.1 155 i) (by
    rintro k _ hk ⟨u, rfl, u1, u2, u3, u4, u5⟩
    refine Or.inr ⟨_, ?_, wrI u 156 k (t.2.2.1 155 k), rfl, u1, u2, u3, fun c j hc => by rw [wr_ne hc]; exact u4 c j hc, fun i hi => ?_⟩
    · have l : Int32.ofNat k < u.1 517 := by rw [u1, h7]; exact (i_lt (by omega) (by omega)).mpr hk
      simp only [if_pos l, rdI_n (show k < 14000 by omega) m14, stI_n (show k < 14000 by omega) m14, Option.bind_some, u4 155 k (by omega), wr_ne (show (155 : Nat) ≠ 156 by omega), i_suc]
      rfl
    · by_cases e : i = k
      · rw [e, wr_s]
      · rw [wr_nk e]; exact u5 i (by omega)) (by
    rintro _ ⟨u, rfl, u1, u2, u3, u4, u5⟩
    refine ⟨(u, xr (t.2.2.1 155) nb), ?_, rfl, u1, u2, u3, u4, u5⟩
    have l : ¬ Int32.ofNat nb < u.1 517 := by rw [u1, h7]; exact fun z => absurd ((i_lt (by omega) (by omega)).mp z) (by omega)
    simp only [if_neg l]) (a := (t, 255, 0)) ⟨t, rfl, rfl, rfl, rfl, fun _ _ _ => rfl, fun i hi => absurd hi (by omega)⟩
  obtain ⟨⟨u, x⟩, e, ex, u1, u2, u3, u4, u5⟩ := lp
  simp only at ex u1 u2 u3 u4 u5
  subst ex
  obtain ⟨b, hb1, hb2⟩ := hg 5 (by omega)
  have bN5 : bN (t.2.2.1 155 5) = b := by rw [hb2]; exact i_bN (by omega)
  have d5 : rdI (ptI u 521 (u.1 517)) 156 14000 5 = some (Int32.ofNat b) := by rw [← hb2, ← u5 5 (by omega)]; exact rdI_n (n := 5) (by omega) m14
  have n521 : (ptI u 521 (u.1 517)).1 521 = Int32.ofNat nb := by rw [pt_1, if_pos rfl, u1, h7]
  have v63 : (if xr (t.2.2.1 155) nb = 0 then Option.bind (α := Int32) (some (Int32.ofNat b)) (fun x6 => (if Int32.ofNat nb = ((x6 - x6 / (128 : Int32) * (128 : Int32)) + 8) then some (1 : Int32) else some 0)) else some 0) = some (rgt (t.2.2.1 155) nb) := by
    unfold rgt
    rw [bN5]
    by_cases q1 : xr (t.2.2.1 155) nb = 0
    · rw [if_pos q1, Option.bind_some, i_modL (by omega) (by omega), i_addL]
      have l : (Int32.ofNat nb = Int32.ofNat (b % 128 + 8)) = (nb = b % 128 + 8) := propext (i_inj (by omega) (by omega))
      by_cases q2 : nb = b % 128 + 8
      · rw [if_pos (show Int32.ofNat nb = Int32.ofNat (b % 128 + 8) by rw [l]; exact q2), if_pos ⟨q1, q2⟩]
      · rw [if_neg (show ¬ Int32.ofNat nb = Int32.ofNat (b % 128 + 8) by rw [l]; exact q2), if_neg (fun z => q2 z.2)]
    · rw [if_neg q1, if_neg (fun z => q1 z.1)]
  have r01 := rgt01 (t.2.2.1 155) nb
  generalize rgt (t.2.2.1 155) nb = rv at v63 r01 ⊢
  have l8 : ¬ t.1 517 < 8 := by rw [h7]; exact fun z => absurd ((i_ltL (by omega) (by omega)).mp z) (by show ¬ nb < 8; omega)
  have rvv : (if rv = 0 then some (0 : Int32) else some 1) = some rv := by rcases r01 with z | z <;> rw [z] <;> rfl
  let A := ptI (ptI (ptI (ptI (ptI u 521 (u.1 517)) 523 rv) 524 (u.1 520)) 526 (-1)) 525 0
  have a0 : rdI A 157 5 0 = some (t.2.2.1 157 0) := by rw [← u4 157 0 (by omega)]; exact rdI_n (n := 0) (by omega) m5
  have s0 : stI A 157 5 0 (t.2.2.1 157 0 + 1) = some (wrI A 157 0 (t.2.2.1 157 0 + 1)) := stI_n (n := 0) (by omega) m5
  have a1 : rdI (wrI A 157 0 (t.2.2.1 157 0 + 1)) 157 5 1 = some (t.2.2.1 157 1) := by
    have : rdI (wrI A 157 0 (t.2.2.1 157 0 + 1)) 157 5 1 = some ((wrI A 157 0 (t.2.2.1 157 0 + 1)).2.2.1 157 1) := rdI_n (n := 1) (by omega) m5
    rw [this, wr_nk (by omega)]
    exact congrArg some (u4 157 1 (by omega))
  have s1 : stI (wrI A 157 0 (t.2.2.1 157 0 + 1)) 157 5 1 (t.2.2.1 157 1 + rv) = some (wrI (wrI A 157 0 (t.2.2.1 157 0 + 1)) 157 1 (t.2.2.1 157 1 + rv)) := stI_n (n := 1) (by omega) m5
  refine ⟨wrI (wrI A 157 0 (t.2.2.1 157 0 + 1)) 157 1 (t.2.2.1 157 1 + rv), ?_, ?_, ?_, rfl, ?_, rfl, rfl, u2, u3, ?_, ?_, ?_⟩
  · unfold tCP
    rw [if_neg l8, if_pos h9, e, Option.bind_some, Option.bind_some]
    simp only [d5, n521]
    rw [v63, Option.bind_some, if_pos (by rcases r01 with z | z <;> simp [z])]
    simp only [Option.bind_some]
    show Option.bind (Option.bind (rdI A 157 5 0) _) _ = _
    rw [a0, Option.bind_some]
    show Option.bind (Option.bind (stI A 157 5 0 (t.2.2.1 157 0 + 1)) _) _ = _
    rw [s0, Option.bind_some, a1, Option.bind_some]
    show Option.bind (Option.bind (if rv = 0 then some (0 : Int32) else some 1) _) _ = _
    rw [rvv, Option.bind_some, s1, Option.bind_some, Option.bind_some]
    rfl
  · intro c q1 q2 q3 q4 q5
    show A.1 c = _
    simp only [A, pt_1, if_neg q1, if_neg q2, if_neg q3, if_neg q4, if_neg q5, u1]
  · show A.1 521 = _
    simp only [A, pt_1]
    simp [u1, h7]
  · show u.1 520 = t.1 520
    rw [u1]
  · intro c j q1 q2
    rw [wr_ne q2, wr_ne q2]
    exact u4 c j q1
  · intro i hi
    rw [wr_ne (by omega), wr_ne (by omega)]
    exact u5 i hi
  · intro i
    rw [wr_at, wr_at]
    by_cases z : i = 1
    · rw [if_pos ⟨rfl, z⟩, if_pos z]
    · rw [if_neg (fun q => z q.2), if_neg z]
      by_cases z' : i = 0
      · rw [if_pos ⟨rfl, z'⟩, if_pos z']
      · rw [if_neg (fun q => z' q.2), if_neg z']
        exact u4 157 i (by omega)
/-- no telegram -/
theorem t_oth {t : TS} {nb k : Nat} {an : Int32} (h7 : t.1 517 = Int32.ofNat nb) (hn : nb ≤ 14000) (ht : nb < 8 ∨ ¬ t.1 519 = 0) (hk : k < 5)
    (hv : (if 0 < t.1 524 then (if t.1 516 = t.1 524 + 14 then (if t.1 517 = 1 then (if t.1 519 = 0 then some (1 : Int32) else some 0) else some 0) else some 0) else some 0) = some (if k = 2 then 0 else 1)) (ha : an = if k = 2 then t.1 526 else t.2.2.1 155 0) (hk2 : k ≠ 2 → k = if an = 204 then 3 else 4) :
    tCP t = some (wrI (ptI (ptI t 525 1) 526 an) 157 k (t.2.2.1 157 k + 1)) := by
  have m5 : 5 < 2147483648 := by omega
  have fst : (if (t.1 517) < 8 then some (Sum.inl ()) else (if (t.1 519) = 0 then Option.bind (α := TS × Int32) (wh (S := TS × Int32 × Int32) (X := TS × Int32) (fun p21 => (if p21.2.2 < (p21.1.1 517) then Option.bind (α := Int32) (rdI p21.1 155 14000 p21.2.2) (fun x2 => Option.bind (α := TS) (stI p21.1 156 14000 p21.2.2 x2) (fun s3 => Option.bind (α := Int32) (rdI s3 155 14000 p21.2.2) (fun x4 => some (.inl (s3, p21.2.1 ^^^ x4, p21.2.2 + 1))))) else some (.inr (p21.1, p21.2.1)))) (t, 255, 0)) (fun v42 => Option.bind (α := TS) (some (ptI v42.1 521 (v42.1.1 517))) (fun s5 => Option.bind (α := Int32) ((if v42.2 = 0 then Option.bind (α := Int32) (rdI s5 156 14000 5) (fun x6 => (if (s5.1 521) = ((x6 - x6 / (128 : Int32) * (128 : Int32)) + 8) then some 1 else some 0)) else some 0)) (fun v63 => (if v63 = 0 ∨ v63 = 1 then Option.bind (α := TS) (some (ptI s5 523 v63)) (fun s7 => Option.bind (α := TS) (some (ptI s7 524 (s7.1 520))) (fun s8 => Option.bind (α := TS) (some (ptI s8 526 (-1))) (fun s9 => Option.bind (α := TS) (some (ptI s9 525 0)) (fun s10 => Option.bind (α := Int32) (rdI s10 157 5 0) (fun x11 => Option.bind (α := TS) (stI s10 157 5 0 (x11 + 1)) (fun s12 => Option.bind (α := Int32) (rdI s12 157 5 1) (fun x13 => Option.bind (α := Int32) ((if (s12.1 523) = 0 then some 0 else some 1)) (fun v93 => Option.bind (α := TS) (stI s12 157 5 1 (x13 + v93)) (fun s14 => some (Sum.inr s14)))))))))) else none)))) else some (Sum.inl ()))) = (some (Sum.inl ()) : Option (Unit ⊕ TS)) := by
    rcases ht with ht | ht
    · rw [if_pos (by rw [h7]; exact (i_ltL (by omega) (by omega)).mpr ht)]
    · by_cases q : t.1 517 < 8
      · rw [if_pos q]
      · rw [if_neg q, if_neg ht]
  unfold tCP
  rw [fst, Option.bind_some, Sum.elim_inl, Option.bind_some]
  have p5 : ∀ c, c ≠ 525 → (ptI t 525 1).1 c = t.1 c := fun c h => by rw [pt_1, if_neg h]
  simp only [p5 524 (by omega), p5 516 (by omega), p5 517 (by omega), p5 519 (by omega), p5 526 (by omega)]
  rw [hv, Option.bind_some]
  have r0 : rdI (ptI t 525 1) 155 14000 0 = some (t.2.2.1 155 0) := rdI_n (n := 0) (by omega) (by omega)
  by_cases k2 : k = 2
  · subst k2
    rw [if_pos rfl] at ha
    subst ha
    have w0 : rdI (ptI (ptI t 525 1) 526 (t.1 526)) 157 5 2 = some (t.2.2.1 157 2) := rdI_n (n := 2) (by omega) m5
    have w1 : stI (ptI (ptI t 525 1) 526 (t.1 526)) 157 5 2 (t.2.2.1 157 2 + 1) = some (wrI (ptI (ptI t 525 1) 526 (t.1 526)) 157 2 (t.2.2.1 157 2 + 1)) := stI_n (n := 2) (by omega) m5
    simp only [if_true, Option.bind_some, w0, w1]
  · rw [if_neg k2] at ha
    have hk' := hk2 k2
    have p6 : (ptI (ptI t 525 1) 526 an).1 526 = an := by rw [pt_1, if_pos rfl]
    have kk : (if an = 204 then some (3 : Int32) else some 4) = some (Int32.ofNat k) := by rw [hk']; split <;> rfl
    simp only [if_neg k2, show ¬ (1 : Int32) = 0 by decide, if_false, r0, Option.bind_some, ← ha, p6]
    rw [kk, Option.bind_some, rdI_n hk m5, Option.bind_some, stI_n hk m5, Option.bind_some]
    rfl
