/-! permits: a clause, both readers -/
section
variable {s S : CS} {t T U : TS} {x : List Nat} {rd rl k k' n0 nc : Nat} {dp : Int32}
/-- what a clause changes -/
def ClF (nc n0 : Nat) (t T : TS) : Prop := (∀ c, c ≠ 226 → c ≠ 227 → c ≠ 228 → c ≠ 230 → c ≠ 231 → c ≠ 233 → c ≠ 234 → c ≠ 236 → T.1 c = t.1 c) ∧ (∀ c, c ≠ 229 → T.2.1 c = t.2.1 c) ∧ (∀ c j, (c = 96 ∨ (c = 87 ∧ 400 + n0 ≤ j) ∨ ((c = 83 ∨ c = 84 ∨ c = 85 ∨ c = 86) ∧ 60 + nc ≤ j)) ∨ T.2.2.1 c j = t.2.2.1 c j) ∧ ∀ c j, (c = 88 ∧ 400 + n0 ≤ j) ∨ T.2.2.2 c j = t.2.2.2 c j
theorem ClF_tr {V : TS} (f : ClF nc n0 t V) (g : ClF nc n0 V T) : ClF nc n0 t T := by
  refine ⟨fun c a1 a2 a3 a4 a5 a6 a7 a8 => (g.1 c a1 a2 a3 a4 a5 a6 a7 a8).trans (f.1 c a1 a2 a3 a4 a5 a6 a7 a8), fun c a => (g.2.1 c a).trans (f.2.1 c a), fun c j => ?_, fun c j => ?_⟩
  · rcases g.2.2.1 c j with h | h
    · exact Or.inl h
    · rw [h]; exact f.2.2.1 c j
  · rcases g.2.2.2 c j with h | h
    · exact Or.inl h
    · rw [h]; exact f.2.2.2 c j
theorem ClF_sd {n1 : Nat} (f : SdF n1 t T) (h : n0 ≤ n1) : ClF nc n0 t T := by
  refine ⟨fun c a1 a2 a3 a4 a5 _ a7 a8 => f.1 c a1 a2 a3 a4 a5 a7 a8, f.2.1, fun c j => ?_, fun c j => ?_⟩
  · rcases f.2.2.1 c j with (h1 | h1) | h1
    · exact Or.inl (Or.inl h1)
    · exact Or.inl (Or.inr (Or.inl ⟨h1.1, by omega⟩))
    · exact Or.inr h1
  · rcases f.2.2.2 c j with h1 | h1
    · exact Or.inl ⟨h1.1, by omega⟩
    · exact Or.inr h1
theorem ClF_wr {c : Nat} (hc : c = 83 ∨ c = 84 ∨ c = 85 ∨ c = 86) (v : Int32) : ClF nc n0 T (wrI T c (60 + nc) v) := by
  refine ⟨fun _ _ _ _ _ _ _ _ _ => rfl, fun _ _ => rfl, fun q j => ?_, fun _ _ => Or.inr rfl⟩
  by_cases z : q = c ∧ j = 60 + nc
  · exact Or.inl (Or.inr (Or.inr ⟨by rw [z.1]; exact hc, by omega⟩))
  · exact Or.inr (if_neg z)
theorem ClF_233 (v : Int32) : ClF nc n0 T (ptI T 233 v) := ⟨fun c _ _ _ _ _ a _ _ => if_neg a, fun _ _ => rfl, fun _ _ => Or.inr rfl, fun _ _ => Or.inr rfl⟩
/-- a clause as it is read -/
def RcN (T : TS) (c : Nat) (d : ClD) (i : Nat) : Prop := T.2.2.1 83 (60 + c) = Int32.ofNat i ∧ T.2.2.1 84 (60 + c) = Int32.ofNat (i + d.1.length) ∧ T.2.2.1 85 (60 + c) = Int32.ofNat (i + d.1.length + d.2.1.length) ∧ T.2.2.1 86 (60 + c) = Int32.ofNat d.2.2 ∧ d.2.2 < 5 ∧ (∀ j (h : j < d.1.length), T.2.2.1 87 (400 + i + j) = d.1[j].1 ∧ T.2.2.2 88 (400 + i + j) = d.1[j].2) ∧ ∀ j (h : j < d.2.1.length), T.2.2.1 87 (400 + (i + d.1.length) + j) = d.2.1[j].1 ∧ T.2.2.2 88 (400 + (i + d.1.length) + j) = d.2.1[j].2
theorem ClF_87 (f : ClF nc n0 t T) {j : Nat} (h : j < 400 + n0) : T.2.2.1 87 j = t.2.2.1 87 j ∧ T.2.2.2 88 j = t.2.2.2 88 j := by
  constructor
  · rcases f.2.2.1 87 j with w | w
    · omega
    · exact w
  · rcases f.2.2.2 88 j with w | w
    · omega
    · exact w
theorem RcN_f {c i : Nat} {d : ClD} (f : ClF nc n0 t T) (hc : c < nc) (hi : i + d.1.length + d.2.1.length ≤ n0) (h : RcN t c d i) : RcN T c d i := by
  obtain ⟨h1, h2, h3, h4, h5, h6, h7⟩ := h
  have e : ∀ q, (q = 83 ∨ q = 84 ∨ q = 85 ∨ q = 86) → T.2.2.1 q (60 + c) = t.2.2.1 q (60 + c) := fun q hq => by
    rcases f.2.2.1 q (60 + c) with w | w
    · omega
    · exact w
  refine ⟨(e 83 (by decide)).trans h1, (e 84 (by decide)).trans h2, (e 85 (by decide)).trans h3, (e 86 (by decide)).trans h4, h5, fun j hj => ?_, fun j hj => ?_⟩
  · obtain ⟨a, b⟩ := ClF_87 f (j := 400 + i + j) (by omega)
    rw [a, b]; exact h6 j hj
  · obtain ⟨a, b⟩ := ClF_87 f (j := 400 + (i + d.1.length) + j) (by omega)
    rw [a, b]; exact h7 j hj
/-- the sign, the component -/
theorem c_sgn {A : Type} (R : RdC S rd rl x k dp) (g : Int32 → Option A) : Option.bind (c_938 rd 69 S) (fun x4 => Option.bind ((if x4 = 0 then (if isK S [68] rd = true then Option.bind (c_938 rd 70 S) (fun x5 => (if x5 = 0 then (if isK S [68] rd = true then Option.bind (c_938 rd 71 S) (fun x6 => (if x6 = 0 then (if isK S [68] rd = true then Option.bind (c_938 rd 72 S) (fun x7 => (if x7 = 0 then (if isK S [68] rd = true then Option.bind (c_938 rd 73 S) (fun x8 => (if x8 = 0 then some (0 : Int32) else some 1)) else none) else some 1)) else none) else some 1)) else none) else some 1)) else none) else some 1)) g) = g (if relN (tkK (tkW x k)) = none then 0 else 1) := by
  obtain ⟨y, ey⟩ := tkW_y R
  have ok : tkO (tkC y) = true := by rw [← ey]; exact R.2.2.2.2.1
  obtain ⟨r1, r2⟩ := rel_w ok
  rw [← ey] at r1 r2
  have a1 := c_isT R (v := 69) (ys := [60]) (by decide)
  have a2 := c_isT R (v := 70) (ys := [60, 61]) (by decide)
  have a3 := c_isT R (v := 71) (ys := [61]) (by decide)
  have a4 := c_isT R (v := 72) (ys := [62, 61]) (by decide)
  have a5 := c_isT R (v := 73) (ys := [62]) (by decide)
  have i68 := RdC_68 R
  rw [a1, a2, a3, a4, a5]
  cases h : relN (tkK (tkW x k)) with
  | none =>
    obtain ⟨n1, n2, n3, n4, n5⟩ := r2 h
    rw [if_neg n1, if_neg n2, if_neg n3, if_neg n4, if_neg n5]
    simp [i68]
  | some gg =>
    obtain ⟨g5, w⟩ := r1 gg h
    have c5 : gg = 0 ∨ gg = 1 ∨ gg = 2 ∨ gg = 3 ∨ gg = 4 := by omega
    rw [if_neg (show ¬ some gg = none by simp)]
    rcases c5 with rfl | rfl | rfl | rfl | rfl
    · rw [if_pos (show tkW x k = [60] from w)]; simp
    · rw [if_neg (show ¬ tkW x k = [60] by rw [w]; decide), if_pos (show tkW x k = [60, 61] from w)]; simp [i68]
    · rw [if_neg (show ¬ tkW x k = [60] by rw [w]; decide), if_neg (show ¬ tkW x k = [60, 61] by rw [w]; decide), if_pos (show tkW x k = [61] from w)]; simp [i68]
    · rw [if_neg (show ¬ tkW x k = [60] by rw [w]; decide), if_neg (show ¬ tkW x k = [60, 61] by rw [w]; decide), if_neg (show ¬ tkW x k = [61] by rw [w]; decide), if_pos (show tkW x k = [62, 61] from w)]; simp [i68]
    · rw [if_neg (show ¬ tkW x k = [60] by rw [w]; decide), if_neg (show ¬ tkW x k = [60, 61] by rw [w]; decide), if_neg (show ¬ tkW x k = [61] by rw [w]; decide), if_neg (show ¬ tkW x k = [62, 61] by rw [w]; decide), if_pos (show tkW x k = [62] from w)]; simp [i68]
theorem t_747s (v : Int32) : ∃ r, t_747 v T = some r := by
  unfold t_747
  repeat' split
  all_goals exact ⟨_, rfl⟩
/-- a clause that went wrong goes to its end -/
theorem cl_out {n1 : Nat} (h231 : T.1 231 = 1) (hnc : nc < 60) (f : ClF nc n0 t T) : ∃ U, Option.bind ((if (T.1 231) = 0 then Option.bind (t_743 T) (fun x9 => some x9) else some T)) (fun v49 => Option.bind (stI v49 85 120 (Int32.ofNat (60 + nc)) (v49.1 234)) (fun s10 => some s10)) = some U ∧ ClF nc n0 t U ∧ U.1 231 = 1 ∧ U.1 226 = T.1 226 := by
  rw [h231, if_neg (by decide), Option.bind_some, stI_n (by omega) (by decide), Option.bind_some]
  exact ⟨_, rfl, ClF_tr f (ClF_wr (Or.inr (Or.inr (Or.inl rfl))) _), h231, rfl⟩
theorem RdX_le {s1 : CS} {k1 ex : Nat} (h : RdX rd s1 k1 S ex T) (hk : k ≤ k1) (J : JX rd s s1 (4 * (k1 - k))) : RdX rd s k S ex T := by
  obtain ⟨h1, k', h2, h3, h4⟩ := h
  exact ⟨h1, k', by omega, h3, JX_tr J h4 (by omega)⟩
theorem RdX_eq {ex : Nat} (h : RdX rd s k S ex T) (e1 : U.1 231 = 1) (e2 : U.1 226 = T.1 226) : RdX rd s k S ex U := ⟨⟨e1, by rw [e2]; exact h.1.2⟩, h.2⟩
theorem rd_clause (R : RdC s rd rl x k (Int32.ofNat 0)) (Q : RdT t x k) (h233 : t.1 233 = Int32.ofNat nc) (hnc : nc < 60) (h234 : t.1 234 = Int32.ofNat n0) (B : n0 + 2 ≤ 2 * k) : (∃ S T cc D k', c_939 rd s = some (.inl (cc, S)) ∧ t_742 t = some T ∧ RdC S rd rl x k' (Int32.ofNat 0) ∧ RdT T x k' ∧ T.1 233 = Int32.ofNat (nc + 1) ∧ T.1 234 = Int32.ofNat (n0 + D.1.length + D.2.1.length) ∧ n0 + D.1.length + D.2.1.length + 2 ≤ 2 * k' ∧ RcN T nc D n0 ∧ ClP (noN rd S.1) cc D.1 D.2.1 D.2.2 ∧ k + 3 ≤ k' ∧ JX rd s S (4 * (k' - k)) ∧ ClF nc n0 t T) ∨ ∃ S ex T, c_939 rd s = some (.inr (ex, S)) ∧ t_742 t = some T ∧ ClF nc n0 t T ∧ RdX rd s k S ex T := by
  have k12 := k121 R
  obtain ⟨s2, hs2⟩ : ∃ s2, s2 = wrI (ptI t 233 (Int32.ofNat (nc + 1))) 83 (60 + nc) (Int32.ofNat n0) := ⟨_, rfl⟩
  have F2 : ClF nc n0 t s2 := by rw [hs2]; exact ClF_tr (ClF_233 _) (ClF_wr (Or.inl rfl) _)
  have Q2 : RdT s2 x k := RdT_eq Q (fun c hc => by rw [hs2]; exact if_neg (by omega)) (by rw [hs2]; rfl) (by rw [hs2]; exact wrIq _ _ _ (by decide))
  have e83 : s2.2.2.1 83 (60 + nc) = Int32.ofNat n0 := by rw [hs2]; exact if_pos ⟨rfl, rfl⟩
  have tw : t_742 t = Option.bind (t_743 s2) (fun x3 => Option.bind (stI x3 84 120 (Int32.ofNat (60 + nc)) (x3.1 234)) (fun s4 => Option.bind (t_747 (s4.1 228) s4) (fun x5 => Option.bind (stI s4 86 120 (Int32.ofNat (60 + nc)) x5) (fun s6 => Option.bind ((if (s6.1 231) = 0 then Option.bind (t_747 (s6.1 228) s6) (fun x7 => (if x7 < 0 then some 0 else some 1)) else some 0)) (fun v43 => Option.bind (t_741 v43 s6) (fun x8 => Option.bind ((if (x8.1 231) = 0 then Option.bind (t_743 x8) (fun x9 => some x9) else some x8)) (fun v49 => Option.bind (stI v49 85 120 (Int32.ofNat (60 + nc)) (v49.1 234)) (fun s10 => some s10)))))))) := by
    unfold t_742
    rw [h233, show (60 : Int32) + Int32.ofNat nc = Int32.ofNat (60 + nc) from i_add 60 nc, Option.bind_some, stI_n (by omega) (by decide), Option.bind_some, show (ptI t 233 (Int32.ofNat nc + 1)).1 234 = Int32.ofNat n0 from h234, i_suc, ← hs2]
  rw [tw]
  unfold c_939
  rw [if_pos (RdC_68 R)]
  rcases rd_side (s := s) (t := s2) (n0 := n0) R Q2 (by rw [hs2]; exact h234) B with ⟨S1, T1, a, l1, k1, c1, c2, R1, Q1, h1, rows1, B1, g1, g2, g3, g4, g5⟩ | ⟨S1, ex, T1, c1, c2, F1, X1⟩
  rotate_left
  · right
    rw [c1, Option.bind_some, Sum.elim_inr, c2, Option.bind_some, stI_n (by omega) (by decide), Option.bind_some]
    obtain ⟨r, hr⟩ := t_747s (T := wrI T1 84 (60 + nc) (T1.1 234)) ((wrI T1 84 (60 + nc) (T1.1 234)).1 228)
    rw [hr, Option.bind_some, stI_n (by omega) (by decide), Option.bind_some]
    have u231 : (wrI (wrI T1 84 (60 + nc) (T1.1 234)) 86 (60 + nc) r).1 231 = 1 := X1.1.1
    rw [u231, if_neg (by decide), Option.bind_some, t_takeW 0 u231, Option.bind_some]
    obtain ⟨U, eU, FU, w1, w2⟩ := cl_out (nc := nc) (n0 := n0) (n1 := 0) (t := t) (T := ptI (wrI (wrI T1 84 (60 + nc) (T1.1 234)) 86 (60 + nc) r) 231 1) rfl hnc (ClF_tr (ClF_tr (ClF_tr F2 (ClF_sd F1 (Nat.le_refl _))) (ClF_tr (ClF_wr (Or.inr (Or.inl rfl)) _) (ClF_wr (Or.inr (Or.inr (Or.inr rfl))) _))) (ClF_sd (SdF_231 (n0 := n0) 1) (Nat.le_refl _)))
    exact ⟨S1, ex, U, rfl, eU, FU, RdX_eq X1 w1 w2⟩
  have k12a := k121 R1
  obtain ⟨y, ey⟩ := tkW_y R1
  have ok : tkO (tkC y) = true := by rw [← ey]; exact R1.2.2.2.2.1
  have kl := (kd_lt ok).1
  obtain ⟨rw1, rw2⟩ := rel_w ok
  rw [← ey] at kl rw1 rw2
  obtain ⟨b, fl, nn, hb1, hb2, hb3, hb4⟩ := R1.2.2.2.2.2
  have q231 : T1.1 231 = 0 := Q1.2.2.2.2.2.2
  have q228 : T1.1 228 = Int32.ofNat (tkK (tkW x k1)) := Q1.2.2.2.1
  rw [c1, Option.bind_some, Sum.elim_inl, xR_o hb1 rfl rfl, Option.bind_some, if_pos (RdC_68 R1), c_sgn R1, c2, Option.bind_some, stI_n (by omega) (by decide), Option.bind_some, show (wrI T1 84 (60 + nc) (T1.1 234)).1 228 = Int32.ofNat (tkK (tkW x k1)) from q228, t_747g (by omega), Option.bind_some, stI_n (by omega) (by decide), Option.bind_some, if_pos (RdC_68 R1), rd_bad R1]
  obtain ⟨U1, hU1⟩ : ∃ U1, U1 = wrI (wrI T1 84 (60 + nc) (T1.1 234)) 86 (60 + nc) ((relN (tkK (tkW x k1))).elim (-1) Int32.ofNat) := ⟨_, rfl⟩
  rw [← hU1]
  have u231 : U1.1 231 = 0 := by rw [hU1]; exact q231
  have u228 : U1.1 228 = Int32.ofNat (tkK (tkW x k1)) := by rw [hU1]; exact q228
  have FU1 : ClF nc n0 t U1 := by
    rw [hU1]
    exact ClF_tr (ClF_tr F2 (ClF_sd g5 (Nat.le_refl _))) (ClF_tr (ClF_wr (Or.inr (Or.inl rfl)) _) (ClF_wr (Or.inr (Or.inr (Or.inr rfl))) _))
  rw [u231, if_pos rfl, u228, t_747g (by omega), Option.bind_some]
  cases hrel : relN (tkK (tkW x k1)) with
  | none =>
    right
    rw [if_pos rfl, if_pos rfl, Option.bind_some, Sum.elim_inr, if_pos (show ((none : Option Nat).elim (-1) Int32.ofNat) < 0 by decide), Option.bind_some, t_take0 u231, Option.bind_some]
    obtain ⟨U, eU, FU, w1, w2⟩ := cl_out (nc := nc) (n0 := n0) (n1 := 0) (t := t) (T := ptI U1 231 1) rfl hnc (ClF_tr FU1 (ClF_sd (SdF_231 (n0 := n0) 1) (Nat.le_refl _)))
    obtain ⟨bb, JB⟩ := rd_badR (T := U) R1 (w2.trans (by show U1.1 226 = _; rw [hU1]; exact Q1.2.1)) w1
    exact ⟨_, _, U, rfl, eU, FU, bb, k1, by omega, k12a, JX_tr g4 JB (by omega)⟩
  | some gg =>
    obtain ⟨gg5, wg⟩ := rw1 gg hrel
    rw [if_neg (show ¬ some gg = none by simp), if_neg (by decide), Option.bind_some, Sum.elim_inl, if_neg (show ¬ ((some gg).elim (-1) Int32.ofNat) < 0 from i_nlt0 (by omega)), Option.bind_some, if_pos (RdC_68 R1)]
    have QU1 : RdT U1 x k1 := RdT_eq Q1 (fun c hc => by rw [hU1]; rfl) (by rw [hU1]; rfl) (by rw [hU1, wrIq _ _ _ (by decide), wrIq _ _ _ (by decide)])
    have wn : tkW x k1 ≠ [] := by
      rw [wg]; unfold sgL
      have c5 : gg = 0 ∨ gg = 1 ∨ gg = 2 ∨ gg = 3 ∨ gg = 4 := by omega
      rcases c5 with rfl | rfl | rfl | rfl | rfl <;> decide
    rcases rd_step R1 QU1 wn with ⟨S2, T2, eC, eT, R2, Q2', J2, F2'⟩ | ⟨S2, ex, T2, eC, eT, b2, J2, F2'⟩
    rotate_left
    · right
      rw [eC, Option.bind_some, Sum.elim_inr, eT, Option.bind_some]
      obtain ⟨U, eU, FU, w1, w2⟩ := cl_out (nc := nc) (n0 := n0) (n1 := 0) (t := t) (T := T2) b2.1 hnc (ClF_tr FU1 (ClF_sd (SdF_st (n0 := n0) F2') (Nat.le_refl _)))
      exact ⟨S2, ex, U, rfl, eU, FU, ⟨w1, by rw [w2]; exact b2.2⟩, k1, by omega, k12a, JX_tr g4 J2 (by omega)⟩
    rw [eC, Option.bind_some, Sum.elim_inl, Option.bind_some, eT, Option.bind_some, show T2.1 231 = 0 from Q2'.2.2.2.2.2.2, if_pos rfl]
    have v3 : VOk S2 (nw S2 74 [.null, .null, .null]).2 1 := VOk_nw (j := 1) (k := 3) R2.1 _ (by omega) (by omega)
    obtain ⟨S3, hS3⟩ : ∃ S3, S3 = (nw S2 74 [.null, .null, .null]).2 := ⟨_, rfl⟩
    have hq3 : S3.1 S2.2.1 = some (true, false, 74, [.null, .null, .null]) := by rw [hS3]; exact nwc_eq ..
    rw [show (nw S2 74 [.null, .null, .null]).1 = S2.2.1 from rfl, ← hS3]
    rw [← hS3] at v3
    have R3 := RdC_v R2 v3
    have J3 : JX rd S1 S3 3 := JX_v J2 v3 (by omega)
    have t2234 : T2.1 234 = Int32.ofNat (n0 + l1.length) := (F2'.1 234 (by decide) (by decide) (by decide) (by decide) (by decide)).trans (by rw [hU1]; exact h1)
    rw [if_pos (RdC_68 R3)]
    have FT2 : ClF nc n0 t T2 := ClF_tr FU1 (ClF_sd (SdF_st (n0 := n0) F2') (Nat.le_refl _))
    rcases rd_side (s := S3) (t := T2) (n0 := n0 + l1.length) R3 Q2' t2234 (by omega) with ⟨S4, T4, a2, l2, k2, d1, d2, R4, Q4, h4, rows4, B4, f1, f2, f3, f4, f5⟩ | ⟨S4, ex, T4, d1, d2, F4, X4⟩
    rotate_left
    · right
      rw [d1, Option.bind_some, Sum.elim_inr, d2, Option.bind_some, Option.bind_some, stI_n (by omega) (by decide), Option.bind_some]
      exact ⟨S4, ex, _, rfl, rfl, ClF_tr (ClF_tr FT2 (ClF_sd F4 (by omega))) (ClF_wr (Or.inr (Or.inr (Or.inl rfl))) _), RdX_eq (RdX_le X4 (by omega) (JX_tr g4 J3 (by omega))) X4.1.1 rfl⟩
    · left
      obtain ⟨fs3, hrd3⟩ := RdC_rd R3
      obtain ⟨fs1, hrd1⟩ := RdC_rd R1
      have hq4 : S4.1 S2.2.1 = some (true, false, 74, [.null, .null, .null]) := JX_ne f4 R3.1 hrd3 (by show 74 ≠ 68; decide) hq3
      rw [d1, Option.bind_some, Sum.elim_inl, Option.bind_some, if_pos (isK_t hq4 rfl)]
      unfold c_955
      rw [if_pos (isK_t hq4 rfl), xP_c hq4 rfl (by show 0 < 3; decide) (show List.set _ 0 _ = [.ref a, .null, .null] from rfl), Option.bind_some, xP_c (cup_eq ..) rfl (by show 1 < 3; decide) (show List.set _ 1 _ = [.ref a, .ref b, .null] from rfl), Option.bind_some, cupU, xP_c (cup_eq ..) rfl (by show 2 < 3; decide) (show List.set _ 2 _ = [.ref a, .ref b, .ref a2] from rfl), Option.bind_some, cupU, Option.bind_some, d2, Option.bind_some, Option.bind_some, stI_n (by omega) (by decide), Option.bind_some]
      have k12b := k121 R4
      have R5 := RdC_c (c' := (true, false, 74, [.ref a, .ref b, .ref a2])) R4 hq4 (by decide)
      have J14 : JX rd S1 S4 (3 + 4 * (k2 - (k1 + 1))) := JX_tr J3 f4 (Nat.le_refl _)
      have up14 : ∀ p c, noN rd S1.1 p = some c → noN rd S4.1 p = some c := noN_jx R1.1 hrd1 J14
      have up45 := noN_fill (rd := rd) (S := S4) (q := S2.2.1) (c' := (true, false, 74, [.ref a, .ref b, .ref a2])) hq4 rfl
      have l12 : S1.2.1 ≤ S2.2.1 := J2.2.1
      have J5 : JX rd s (cup S4 S2.2.1 (true, false, 74, [.ref a, .ref b, .ref a2])) (4 * (k2 - k)) := JX_n (JX_tr g4 J14 (by omega)) (Nat.le_trans g4.2.1 l12) (wf_lt R4.1 hq4)
      have hbN : noN rd S1.1 b = some (fl, false, 1000, txV (sgL gg)) := by
        refine noN_in (noK_in (by rw [← wg]; exact hb2) rfl) ⟨?_, (hb4 wn).1⟩
        show (txV (sgL gg)).any isNl = false
        unfold txV
        rw [List.any_map]
        exact List.any_eq_false.mpr (fun c _ => by show ¬ isNl (.int (Int32.ofNat c)) = true; exact Bool.false_ne_true)
      have F5 : ClF nc n0 t T4 := ClF_tr FT2 (ClF_sd f5 (by omega))
      have w85 : (wrI T4 85 (60 + nc) (T4.1 234)).2.2.1 85 (60 + nc) = T4.1 234 := if_pos ⟨rfl, rfl⟩
      have sd83 : ∀ q, (q = 83 ∨ q = 84 ∨ q = 86) → (wrI T4 85 (60 + nc) (T4.1 234)).2.2.1 q (60 + nc) = T2.2.2.1 q (60 + nc) := fun q hq => by
        rw [wrIq _ _ _ (by omega)]
        rcases f5.2.2.1 q (60 + nc) with w | w
        · omega
        · exact w
      have t2U : ∀ q j, T2.2.2.1 q j = U1.2.2.1 q j := fun q j => by rw [F2'.2.2]
      refine ⟨_, wrI T4 85 (60 + nc) (T4.1 234), S2.2.1, (l1, l2, gg), k2, rfl, rfl, R5, ?_, ?_, h4, by show n0 + l1.length + l2.length + 2 ≤ 2 * k2; omega, ⟨?_, ?_, ?_, ?_, gg5, fun j hj => ?_, fun j hj => ?_⟩, ⟨a, a2, b, noN_in (noK_in (cup_eq ..) rfl) ⟨rfl, by obtain ⟨fs2, hrd2⟩ := RdC_rd R2; exact wf_lt R2.1 hrd2⟩, up45 _ _ (up14 _ _ (by rw [(hb4 wn).2] at hbN; exact hbN)), gg5, PT_le (PT_up (fun p c h => up45 _ _ (up14 _ _ h)) g2) (by omega), PT_le (PT_up up45 f2) (by omega)⟩, by omega, J5, ClF_tr F5 (ClF_wr (Or.inr (Or.inr (Or.inl rfl))) _)⟩
      · exact RdT_eq Q4 (fun c hc => rfl) rfl (wrIq _ _ _ (by decide))
      · show T4.1 233 = _
        rw [f5.1 233 (by decide) (by decide) (by decide) (by decide) (by decide) (by decide) (by decide), F2'.1 233 (by decide) (by decide) (by decide) (by decide) (by decide), hU1]
        show T1.1 233 = _
        rw [g5.1 233 (by decide) (by decide) (by decide) (by decide) (by decide) (by decide) (by decide), hs2]; rfl
      · rw [sd83 83 (by decide), t2U, hU1, wrIq _ _ _ (by decide), wrIq _ _ _ (by decide)]
        rcases g5.2.2.1 83 (60 + nc) with w | w
        · omega
        · rw [w]; exact e83
      · rw [sd83 84 (by decide), t2U, hU1, wrIq _ _ _ (by decide)]
        show (if 84 = 84 ∧ 60 + nc = 60 + nc then T1.1 234 else _) = _
        rw [if_pos ⟨rfl, rfl⟩]
        exact h1
      · rw [w85]; exact h4
      · rw [sd83 86 (by decide), t2U, hU1]
        exact (if_pos ⟨rfl, rfl⟩).trans (by rw [hrel]; rfl)
      · have r1 := rows1 j hj
        have a87 : T4.2.2.1 87 (400 + n0 + j) = T2.2.2.1 87 (400 + n0 + j) := by
          rcases f5.2.2.1 87 (400 + n0 + j) with w | w
          · have hj' : j < l1.length := hj
            omega
          · exact w
        have a88 : T4.2.2.2 88 (400 + n0 + j) = T2.2.2.2 88 (400 + n0 + j) := by
          rcases f5.2.2.2 88 (400 + n0 + j) with w | w
          · have hj' : j < l1.length := hj
            omega
          · exact w
        rw [wrIq _ _ _ (by decide), a87, t2U, hU1, wrIq _ _ _ (by decide), wrIq _ _ _ (by decide)]
        refine ⟨r1.1, ?_⟩
        show T4.2.2.2 88 (400 + n0 + j) = _
        rw [a88, F2'.2.2, hU1]
        exact r1.2
      · have r4 := rows4 j hj
        rw [wrIq _ _ _ (by decide)]
        exact r4
end
