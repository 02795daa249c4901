/-! permits: whether a clause holds, the reference -/
section
variable {t T S : TS} {nf : Nat}
theorem rdL_0 {s : TS} {c len a : Nat} (h : a < len) (hl : len < 2147483648) : rdL s c len (no_index (OfNat.ofNat a)) = some (s.2.2.2 c a) := rdL_n h hl
theorem kp2 {S : TS} {v2 : Int32} (hv : v2 < 0 ∨ ∃ r, r < 12 ∧ v2 = Int32.ofNat r) (c d : Nat) (hd : d ≠ c) (x y : TS → Int64) (hy : y (wrL S c v2.toNatClampNeg (x S)) = y S) : ∃ S', (if v2 < 0 then some S else Option.bind (stL S c 12 v2 (x S)) (fun s8 => Option.bind (stL s8 d 12 v2 (y s8)) (fun s9 => some s9))) = some S' ∧ S'.1 = S.1 ∧ S'.2.1 = S.2.1 ∧ S'.2.2.1 = S.2.2.1 ∧ S'.2.2.2 c = kpR v2 (x S) (S.2.2.2 c) ∧ S'.2.2.2 d = kpR v2 (y S) (S.2.2.2 d) ∧ ∀ q, q ≠ c → q ≠ d → S'.2.2.2 q = S.2.2.2 q := by
  rcases hv with h | ⟨r, hr, rfl⟩
  · rw [if_pos h]
    exact ⟨S, rfl, rfl, rfl, rfl, (kpR_neg h ..).symm, (kpR_neg h ..).symm, fun _ _ _ => rfl⟩
  · rw [i_clamp (by omega)] at hy
    rw [if_neg (i_nlt0 (by omega)), stL_n hr (by decide), Option.bind_some, hy, stL_n hr (by decide), Option.bind_some]
    refine ⟨_, rfl, rfl, rfl, rfl, ?_, ?_, fun q h1 h2 => ?_⟩
    · rw [← kpR_nat hr]
      funext j
      exact if_neg (fun w => hd w.1.symm)
    · rw [kpR_nat hr]
      congr 1
      funext j
      exact if_neg (fun w => hd w.1)
    · funext j
      exact (if_neg (fun w => h2 w.1)).trans (if_neg (fun w => h1 w.1))
theorem t_sgH {A : Type} {g : Nat} (hg : g < 5) (a b : Int64) (s : A) : (if Int32.ofNat g = 0 then (if (lg_cmp a b) < 0 then some ((1 : Int32), s) else some (0, s)) else (if Int32.ofNat g = 1 then (if 0 < (lg_cmp a b) then some (0, s) else some (1, s)) else (if Int32.ofNat g = 2 then (if (lg_cmp a b) = 0 then some (1, s) else some (0, s)) else (if Int32.ofNat g = 3 then (if (lg_cmp a b) < 0 then some (0, s) else some (1, s)) else (if 0 < (lg_cmp a b) then some (1, s) else some (0, s)))))) = some (if sgH g a b = true then 1 else 0, s) := by
  simp only [lc_neg, lc_pos, lc_0]
  have c5 : g = 0 ∨ g = 1 ∨ g = 2 ∨ g = 3 ∨ g = 4 := by omega
  rcases c5 with rfl | rfl | rfl | rfl | rfl
  · rw [if_pos (show Int32.ofNat 0 = 0 from rfl)]; unfold sgH; by_cases l : a < b <;> simp [l]
  · rw [if_neg (by decide), if_pos (show Int32.ofNat 1 = 1 from rfl)]; unfold sgH; by_cases l : b < a <;> simp [l]
  · rw [if_neg (by decide), if_neg (by decide), if_pos (show Int32.ofNat 2 = 2 from rfl)]; unfold sgH; by_cases l : a = b <;> simp [l]
  · rw [if_neg (by decide), if_neg (by decide), if_neg (by decide), if_pos (show Int32.ofNat 3 = 3 from rfl)]; unfold sgH; by_cases l : a < b <;> simp [l]
  · rw [if_neg (by decide), if_neg (by decide), if_neg (by decide), if_neg (by decide)]; unfold sgH; by_cases l : b < a <;> simp [l]
theorem t_clH {c i g : Nat} {l1 l2 : List (Int32 × Int64)} {v2 : Int32} (hc : c < 120) (e83 : t.2.2.1 83 c = Int32.ofNat i) (e84 : t.2.2.1 84 c = Int32.ofNat (i + l1.length)) (e85 : t.2.2.1 85 c = Int32.ofNat (i + l1.length + l2.length)) (e86 : t.2.2.1 86 c = Int32.ofNat g) (hg : g < 5) (s1 : SdR t i l1) (s2 : SdR t (i + l1.length) l2) (E1 : EvT t nf l1) (E2 : EvT t nf l2) (h0 : t.1 240 = 0) (h2 : t.1 202 = Int32.ofNat nf) (h40 : nf ≤ 40) (hv : v2 < 0 ∨ ∃ r, r < 12 ∧ v2 = Int32.ofNat r) : ∃ T b, t_754 (Int32.ofNat c) v2 t = some (b, T) ∧ HlF t T ∧ KpR v2 t T (evS t nf l1 []) (evS t nf l2 []) ∧ ((∃ o nm, clRes g (evS t nf l1 []) (evS t nf l2 []) = .inl (o, nm) ∧ 0 < o ∧ T.1 240 = o ∧ T.2.1 241 = nm ∧ b = 0) ∨ ∃ q, clRes g (evS t nf l1 []) (evS t nf l2 []) = .inr q ∧ T.1 240 = 0 ∧ T.2.1 241 = t.2.1 241 ∧ b = if q = true then 1 else 0) := by
  unfold t_754
  rw [rdI_n hc (by decide), e83, Option.bind_some, rdI_n hc (by decide), e84, Option.bind_some]
  obtain ⟨T1, f1, F1, R1⟩ := t_rck (nf := nf) s1.1 s1.2.1 s1.2.2.1 s1.2.2.2 h0 h2 h40
  rw [f1, Option.bind_some]
  have H1 : HlF t T1 := HlF_rk (S := t) ⟨fun _ _ _ => rfl, fun _ _ _ _ => rfl, rfl, fun _ _ _ _ _ _ _ => rfl⟩ F1
  rcases E1 with ⟨e, e0, h1⟩ | ⟨x, y, y0, h1⟩
  · rcases R1 with ⟨st', w, _⟩ | ⟨o, nm, w, o0, g1, g2⟩
    · rw [h1] at w; cases w
    have po : 0 < o := k_pos (evS_k w)
    rw [if_pos (by rw [g1]; exact po)]
    refine ⟨T1, 0, rfl, H1, ?_, Or.inl ⟨o, nm, by rw [w]; rfl, po, g1, g2, rfl⟩⟩
    rw [w]
    exact ⟨F1.2.2.2 90 (by decide) (by decide), F1.2.2.2 91 (by decide) (by decide), F1.2.2.2 92 (by decide) (by decide), F1.2.2.2 93 (by decide) (by decide)⟩
  rcases R1 with ⟨st', w, g1, g2, g3⟩ | ⟨o, nm, w, _⟩
  rotate_left
  · rw [h1] at w; cases w
  have w' := w
  rw [h1] at w'
  obtain rfl := Sum.inr.inj w'
  obtain ⟨p1, p2⟩ := g3.2.1 0 (x, y) rfl
  rw [if_neg (by rw [g1]; decide), rdL_0 (by decide) (by decide), p1, Option.bind_some, Option.bind_some]
  rw [rdL_0 (by decide) (by decide), show (ptL T1 242 x).2.2.2 98 0 = y from p2, Option.bind_some, Option.bind_some]
  obtain ⟨S, hS⟩ : ∃ S, S = ptL (ptL T1 242 x) 243 y := ⟨_, rfl⟩
  have HS : HlF t S := by
    obtain ⟨a1, a2, a3, a4⟩ := H1
    rw [hS]
    exact ⟨a1, fun c u1 u2 u3 => (if_neg u3).trans ((if_neg u2).trans (a2 c u1 u2 u3)), a3, a4⟩
  have S242 : S.2.1 242 = x := by rw [hS]; rfl
  have S243 : S.2.1 243 = y := by rw [hS]; rfl
  have S240 : S.1 240 = 0 := by rw [hS]; exact g1
  have S241 : S.2.1 241 = t.2.1 241 := by rw [hS]; exact g2
  have Sk : ∀ q, q ≠ 97 → q ≠ 98 → S.2.2.2 q = t.2.2.2 q := fun q u1 u2 => by rw [hS]; exact F1.2.2.2 q u1 u2
  rw [← hS]
  clear hS
  obtain ⟨S1, k0, k1, k2, k3, k4, k5, k6⟩ := kp2 (S := S) hv 90 91 (by decide) (fun S => S.2.1 242) (fun S => S.2.1 243) rfl
  rw [k0, Option.bind_some]
  have HS1 : HlF t S1 := by
    obtain ⟨a1, a2, a3, a4⟩ := HS
    exact ⟨fun c u1 u2 => by rw [k1]; exact a1 c u1 u2, fun c u1 u2 u3 => by rw [k2]; exact a2 c u1 u2 u3, k3.trans a3, fun c u1 u2 u3 u4 u5 u6 => (k6 c u3 u4).trans (a4 c u1 u2 u3 u4 u5 u6)⟩
  have e' : ∀ q j, S1.2.2.1 q j = t.2.2.1 q j := fun q j => by rw [HS1.2.2.1]
  rw [rdI_n hc (by decide), e', e84, Option.bind_some, rdI_n hc (by decide), e', e85, Option.bind_some]
  have s2' := SdR_hl s2 HS1
  have fg1 : S1.2.2.2 77 = t.2.2.2 77 := HS1.2.2.2 77 (by decide) (by decide) (by decide) (by decide) (by decide) (by decide)
  have fg2 : S1.2.2.1 78 = t.2.2.1 78 := by rw [HS1.2.2.1]
  obtain ⟨T2, f2, F2, R2⟩ := t_rck (nf := nf) s2'.1 s2'.2.1 s2'.2.2.1 s2'.2.2.2 (by rw [k1]; exact S240) ((HS1.1 202 (by decide) (by decide)).trans h2) h40
  rw [evS_fg fg1 fg2] at R2
  rw [f2, Option.bind_some]
  have H2 : HlF t T2 := HlF_rk HS1 F2
  have r90 : T2.2.2.2 90 = kpR v2 x (t.2.2.2 90) := by rw [F2.2.2.2 90 (by decide) (by decide), k4, S242, Sk 90 (by decide) (by decide)]
  have r91 : T2.2.2.2 91 = kpR v2 y (t.2.2.2 91) := by rw [F2.2.2.2 91 (by decide) (by decide), k5, S243, Sk 91 (by decide) (by decide)]
  have r92 : T2.2.2.2 92 = t.2.2.2 92 := by rw [F2.2.2.2 92 (by decide) (by decide), k6 92 (by decide) (by decide), Sk 92 (by decide) (by decide)]
  have r93 : T2.2.2.2 93 = t.2.2.2 93 := by rw [F2.2.2.2 93 (by decide) (by decide), k6 93 (by decide) (by decide), Sk 93 (by decide) (by decide)]
  rw [w]
  rcases E2 with ⟨e, e0, h2⟩ | ⟨z, u, u0, h2⟩
  · rcases R2 with ⟨st', w2, _⟩ | ⟨o, nm, w2, o0, q1, q2⟩
    · rw [h2] at w2; cases w2
    have po : 0 < o := k_pos (evS_k w2)
    rw [if_pos (by rw [q1]; exact po)]
    refine ⟨T2, 0, rfl, H2, ?_, Or.inl ⟨o, nm, by rw [w2]; rfl, po, q1, q2, rfl⟩⟩
    rw [w2]
    exact ⟨r90, r91, r92, r93⟩
  rcases R2 with ⟨st', w2, q1, q2, q3⟩ | ⟨o, nm, w2, _⟩
  rotate_left
  · rw [h2] at w2; cases w2
  have w2' := w2
  rw [h2] at w2'
  obtain rfl := Sum.inr.inj w2'
  obtain ⟨m1, m2⟩ := q3.2.1 0 (z, u) rfl
  rw [if_neg (by rw [q1]; decide)]
  have kq : ∃ S', (if v2 < 0 then some T2 else Option.bind (rdL T2 97 130 0) (fun x13 => Option.bind (stL T2 92 12 v2 x13) (fun s14 => Option.bind (rdL s14 98 130 0) (fun x15 => Option.bind (stL s14 93 12 v2 x15) (fun s16 => some s16))))) = some S' ∧ S'.1 = T2.1 ∧ S'.2.1 = T2.2.1 ∧ S'.2.2.1 = T2.2.2.1 ∧ S'.2.2.2 92 = kpR v2 z (T2.2.2.2 92) ∧ S'.2.2.2 93 = kpR v2 u (T2.2.2.2 93) ∧ ∀ q, q ≠ 92 → q ≠ 93 → S'.2.2.2 q = T2.2.2.2 q := by
    obtain ⟨S', j0, j⟩ := kp2 (S := T2) hv 92 93 (by decide) (fun S => S.2.2.2 97 0) (fun S => S.2.2.2 98 0) (by unfold wrL; dsimp only; rw [if_neg (by omega)])
    refine ⟨S', ?_, ?_⟩
    · rw [← j0]
      rw [rdL_0 (by decide) (by decide), Option.bind_some]
      congr 2
    · rw [m1, m2] at j
      exact j
  obtain ⟨S2, j0, j1, j2, j3, j4, j5, j6⟩ := kq
  rw [j0, Option.bind_some, rdL_0 (by decide) (by decide), Option.bind_some, j6 98 (by decide) (by decide), m2]
  have e2 : S2.2.1 242 = x := by rw [j2, F2.2.1 242 (by decide), k2, S242]
  have e3 : S2.2.1 243 = y := by rw [j2, F2.2.1 243 (by decide), k2, S243]
  rw [t_tms, Option.bind_some, e2]
  have e97 : ∀ (b : Bool), (if b = true then opnT S2 2 0 else S2).2.2 = S2.2.2 ∧ (if b = true then opnT S2 2 0 else S2).2.1 243 = y := fun b => by
    cases b with
    | false => exact ⟨rfl, e3⟩
    | true =>
      rw [if_pos rfl]; unfold opnT
      by_cases o : S2.1 240 = 0
      · rw [if_pos o]; exact ⟨rfl, e3⟩
      · rw [if_neg o]; exact ⟨rfl, e3⟩
  dsimp only
  rw [rdL_0 (by decide) (by decide), Option.bind_some, (e97 _).1, j6 97 (by decide) (by decide), m1, (e97 _).2, t_tms, Option.bind_some]
  have oz := OZ_s (p := ovM z y) (OZ_s (p := ovM x u) (OZ_0 (t := S2) (by rw [j1]; exact q1)))
  obtain ⟨V, hV⟩ : ∃ V, V = (if ovM z y = true then opnT (if ovM x u = true then opnT S2 2 0 else S2) 2 0 else (if ovM x u = true then opnT S2 2 0 else S2)) := ⟨_, rfl⟩
  rw [← hV] at oz
  dsimp only
  rw [← hV]
  clear hV
  obtain ⟨z1, z2, z3, z4, z5⟩ := oz
  have HV : HlF t V := by
    obtain ⟨a1, a2, a3, a4⟩ := H2
    refine ⟨fun c u1 u2 => by rw [z1 c u2, j1]; exact a1 c u1 u2, fun c u1 u2 u3 => by rw [z2 c u1, j2]; exact a2 c u1 u2 u3, by rw [z3]; exact j3.trans a3, fun c u1 u2 u3 u4 u5 u6 => by rw [z3, j6 c u5 u6]; exact a4 c u1 u2 u3 u4 u5 u6⟩
  have KV : KpR v2 t V (.inr [(x, y)]) (.inr [(z, u)]) := by
    refine ⟨?_, ?_, ?_, ?_⟩
    · rw [z3, j6 90 (by decide) (by decide)]; exact r90
    · rw [z3, j6 91 (by decide) (by decide)]; exact r91
    · rw [z3, j4, r92]; rfl
    · rw [z3, j5, r93]; rfl
  rw [w2]
  have cr : clRes g (.inr [(x, y)]) (.inr [(z, u)]) = if (ovM x u || ovM z y) = true then .inl (2, 0) else .inr (sgH g (x * u) (z * y)) := rfl
  rw [cr]
  by_cases ov : (false || ovM x u || ovM z y) = true
  · obtain ⟨y1, y2⟩ := z5 ov
    rw [if_pos (by rw [y1]; decide), if_pos (by rw [Bool.false_or] at ov; exact ov)]
    exact ⟨V, 0, rfl, HV, KV, Or.inl ⟨2, 0, rfl, by decide, y1, y2, rfl⟩⟩
  · obtain ⟨y1, y2⟩ := z4 (by simpa using ov)
    rw [if_neg (by rw [y1]; decide), rdI_n hc (by decide), Option.bind_some, show V.2.2.1 86 c = Int32.ofNat g by rw [HV.2.2.1]; exact e86, t_sgH hg, if_neg (show ¬ (ovM x u || ovM z y) = true by rw [Bool.false_or] at ov; exact ov)]
    exact ⟨V, _, rfl, HV, KV, Or.inr ⟨_, rfl, y1, y2.trans (by rw [j2, q2, k2]; exact S241), rfl⟩⟩
end
