/-! permits: what a rule was, both sides -/
section
variable {s : CS} {t : TS} {own : Nat → Nat}
theorem c_prt {p : Int64 × Int64} {v : Value} (h : FrK 0 s v p) {A : Type} (tab : List (Nat × Nat)) {a : Nat} (g : Option Nat → Option A) (hx : ∃ (w : Bool) (ci k : Nat) (fs : List Value), s.1 a = some (w, false, ci, fs) ∧ lLook tab ci = some k ∧ fs[k]? = some v) : ∃ r, Option.bind (xR s tab a) g = g r ∧ c_981 r 1 s = some p.1 ∧ c_981 r 0 s = some p.2 := by
  obtain ⟨w, ci, k, fs, h1, h2, h3⟩ := hx
  rcases h with ⟨rfl, rfl⟩ | ⟨f, rfl, hf, _⟩
  · refine ⟨none, by rw [xR_z h1 h2 h3, Option.bind_some], ?_, ?_⟩
    · unfold c_981; rw [if_pos rfl]
    · unfold c_981; rw [if_pos rfl]
  · refine ⟨some f, by rw [xR_o h1 h2 h3, Option.bind_some], ?_, ?_⟩
    · unfold c_981
      rw [if_neg (by simp), if_neg (by decide), Option.bind_some, xL_o hf rfl rfl, Option.bind_some]
    · unfold c_981
      rw [if_neg (by simp), if_pos rfl, Option.bind_some, xL_o hf rfl rfl, Option.bind_some]
theorem FrK_of {X : Nat} {v : Value} {p : Int64 × Int64} (h : FrK 0 ((rs s.1 own X, 0, 0, 0) : CS) v p) : FrK 0 s v p := by
  rcases h with h | ⟨f, h1, h2, h3⟩
  · exact Or.inl h
  · exact Or.inr ⟨f, h1, (rs_some.mp h2).2, h3⟩
theorem pm_rule (hw : wfS s) (k3 : K3 (rs s.1 own 11)) (r : R3 (rs s.1 own 3) t) (v1 v2 : Int32) : Rg thr0 (fun X => X = 3) 3 (fun H t => R3 (H 3) t) own s t 0 0 (c_979 104 v1 v2 s) (t_582 v1 v2 t) := by
  have r0 := r
  obtain ⟨nf, n, nr, rl, mc, ru, q, bb, D, r1, rD, rT, rF, rL, r205, nr12, q0, q60, rR, inj, bb0, bbN, rC⟩ := r
  have g : ∀ {p c}, rs s.1 own 3 p = some c → s.1 p = some c := fun h => (rs_some.mp h).2
  have e1 : t_582 v1 v2 t = if ((¬ v1 < 0 ∧ v1 < Int32.ofNat nr) ∧ ¬ v2 < 0 ∧ v2 < 7) then (if t.1 218 < 0 then some (0, ptI t 0 2) else Option.bind (t_761 v1 v2 (ptI t 0 0)) (fun x4 => some (x4, ptI t 0 0))) else some (0, ptI t 0 1) := by
    unfold t_582
    rw [isIn_eq, Option.bind_some, r205]
    by_cases a : ¬ v1 < 0 ∧ v1 < Int32.ofNat nr
    · rw [if_pos a, if_neg (show ¬ (1 : Int32) = 0 by decide), isIn_eq, Option.bind_some]
      by_cases b : ¬ v2 < 0 ∧ v2 < 7
      · rw [if_pos b, if_neg (show ¬ (1 : Int32) = 0 by decide), Option.bind_some, if_pos (show (¬ v1 < 0 ∧ v1 < Int32.ofNat nr) ∧ ¬ v2 < 0 ∧ v2 < 7 from ⟨a, b⟩)]
        by_cases d : t.1 218 < 0
        · rw [if_pos d, Option.bind_some, goes_2, Option.bind_some, if_pos rfl, if_pos d]
        · rw [if_neg d, Option.bind_some, goes_1 _ (by decide), Option.bind_some, if_neg d]; exact if_neg (show ¬ (1 : Int32) = 0 by decide)
      · rw [if_neg b, if_pos rfl, Option.bind_some, if_neg (show ¬ ((¬ v1 < 0 ∧ v1 < Int32.ofNat nr) ∧ ¬ v2 < 0 ∧ v2 < 7) from fun w => b w.2)]
        by_cases d : t.1 218 < 0
        · rw [if_pos d, Option.bind_some, goes_0, Option.bind_some]; exact if_pos rfl
        · rw [if_neg d, Option.bind_some, goes_0, Option.bind_some]; exact if_pos rfl
    · rw [if_neg a, if_pos rfl, Option.bind_some, if_neg (show ¬ ((¬ v1 < 0 ∧ v1 < Int32.ofNat nr) ∧ ¬ v2 < 0 ∧ v2 < 7) from fun w => a w.1)]
      by_cases d : t.1 218 < 0
      · rw [if_pos d, Option.bind_some, goes_0, Option.bind_some]; exact if_pos rfl
      · rw [if_neg d, Option.bind_some, goes_0, Option.bind_some]; exact if_pos rfl
  have e2 : ∀ (A : Type) (gg : Nat × CS → Option (Sum (A × CS) (Nat × CS))), Option.bind (c_980 104 v1 s) (Sum.elim gg (fun q2 => some (.inr (q2.1, q2.2)))) = if ¬ v1 < 0 ∧ v1 < Int32.ofNat nr then gg (ru v1.toNatClampNeg, s) else some (.inr (s.2.1, exs s 11)) := fun A gg => by
    unfold c_980
    have ar : (if v1 < 0 then some (0 : Int32) else Option.bind (xN s [(78, 1)] 104) (fun a1 => (if isK s [13] a1 = true then Option.bind (alSize s a1) (fun x2 => (if v1 < x2 then some 1 else some 0)) else none))) = some (if ¬ v1 < 0 ∧ v1 < Int32.ofNat nr then 1 else 0) := by
      by_cases a : v1 < 0
      · rw [if_pos a, if_neg (fun w => w.1 a)]
      · rw [if_neg a, xN_o (g r1) rfl rfl, Option.bind_some, if_pos (isK_t (g rL) rfl), alSize_l (g rL), Option.bind_some, rowC_len]
        by_cases b : v1 < Int32.ofNat nr
        · rw [if_pos b, if_pos ⟨a, b⟩]
        · rw [if_neg b, if_neg (fun w => b w.2)]
    rw [ar, Option.bind_some, need_eq]
    by_cases a : ¬ v1 < 0 ∧ v1 < Int32.ofNat nr
    · obtain ⟨k, hk, rfl⟩ := i_nat (by omega) a.1 a.2
      obtain ⟨nm, cc, ex, sr, lf, rf, wy, ms, mc', m, CE, h1, _⟩ := rR k hk
      rw [if_pos a, if_pos a, if_neg (show ¬ (1 : Int32) = 0 by decide), Option.bind_some, Sum.elim_inl, xN_o (g r1) rfl rfl, Option.bind_some, if_pos (isK_t (g rL) rfl), alGet_l (g rL) (by rw [rowC_get, if_pos hk]) (by omega), Option.bind_some, toN_o (g h1) rfl, Option.bind_some, Option.bind_some, Sum.elim_inl, i_clamp (by omega)]
    · rw [if_neg a, if_neg a, if_pos rfl, Option.bind_some, Sum.elim_inr, Option.bind_some, Sum.elim_inr]
  have e3 : c_979 104 v1 v2 s = c_979 104 v1 v2 s := rfl
  conv at e3 => rhs; unfold c_979
  rw [if_pos (isK_t (g r1) rfl), e2] at e3
  by_cases a : ¬ v1 < 0 ∧ v1 < Int32.ofNat nr
  rotate_left
  · rw [if_neg a] at e3
    rw [if_neg (fun w => a w.1)] at e1
    exact Rg.arg (a := 0) (b := 0) hw r0 e3 e1 (by omega) (by omega)
  rw [if_pos a] at e3
  have ar2 : (if v2 < 0 then some (0 : Int32) else (if 6 < v2 then some 0 else some 1)) = some (if ¬ v2 < 0 ∧ v2 < 7 then 1 else 0) := by
    have e67 : 6 < v2 ↔ ¬ v2 < 7 := by
      rw [Int32.lt_iff_toInt_lt, Int32.lt_iff_toInt_lt, show (6 : Int32).toInt = 6 from rfl, show (7 : Int32).toInt = 7 from rfl]; omega
    by_cases b : v2 < 0
    · rw [if_pos b, if_neg (fun w => w.1 b)]
    · by_cases c : v2 < 7
      · rw [if_neg b, if_neg (fun w => e67.mp w c), if_pos ⟨b, c⟩]
      · rw [if_neg b, if_pos (e67.mpr c), if_neg (fun w => c w.2)]
  dsimp only at e3
  rw [ar2, Option.bind_some, need_eq] at e3
  by_cases b : ¬ v2 < 0 ∧ v2 < 7
  rotate_left
  · rw [if_neg b, if_pos rfl, Option.bind_some, Sum.elim_inr] at e3
    rw [if_neg (fun w => b w.2)] at e1
    exact Rg.arg (a := 0) (b := 0) hw r0 e3 e1 (by omega) (by omega)
  rw [if_pos b, if_neg (show ¬ (1 : Int32) = 0 by decide), Option.bind_some, Sum.elim_inl, xI_o (g r1) rfl rfl, Option.bind_some] at e3
  rw [if_pos ⟨a, b⟩] at e1
  by_cases d : t.1 218 = -1
  · rw [if_pos d, Option.bind_some, may_eq, if_pos rfl, Option.bind_some, Sum.elim_inr] at e3
    rw [if_pos (by rw [d]; decide)] at e1
    exact Rg.sta (a := 0) (b := 0) hw r0 e3 e1 (by omega) (by omega)
  rw [if_neg d, Option.bind_some, may_eq, if_neg (show ¬ (1 : Int32) = 0 by decide), Option.bind_some, Sum.elim_inl] at e3
  rw [if_neg (rD.resolve_left d)] at e1
  obtain ⟨k, hk, rfl⟩ := i_nat (by omega) a.1 a.2
  obtain ⟨j, hj, rfl⟩ := i_nat (n := 7) (by omega) b.1 b.2
  rw [i_clamp (by omega), i_toInt (by omega)] at e3
  obtain ⟨nm, cc, ex, sr, lf, rf, wy, ms, mc', m, CE, h1, _, h3⟩ := rR k hk
  rcases h3 with ⟨w, _⟩ | ⟨_, sn, s4, rfl, a89, fl, fr, rfl, bm, rfl, hb⟩
  · exact absurd w d
  have R3p : R3 (rs s.1 own 3) (ptI t 0 0) := by
    obtain ⟨nf, n, nr, rl, mc, ru, q, bb, D, r1, rD, rT, rF, rL, r205, x⟩ := r0
    exact ⟨nf, n, nr, rl, mc, ru, q, bb, D, r1, rD, rT, R3f_cg (t := t) (T := ptI t 0 0) rfl rfl rfl rF, rL, r205, x⟩
  have fin : ∀ z : Int64, c_979 104 (Int32.ofNat k) (Int32.ofNat j) s = some (.inl (z, s)) → t_761 (Int32.ofNat k) (Int32.ofNat j) (ptI t 0 0) = some z → Rg thr0 (fun X => X = 3) 3 (fun H t => R3 (H 3) t) own s t 0 0 (c_979 104 (Int32.ofNat k) (Int32.ofNat j) s) (t_582 (Int32.ofNat k) (Int32.ofNat j) t) := fun z h h' => by
    rw [h', Option.bind_some] at e1
    exact Rg.same (a := 0) (b := 0) hw R3p h e1 (by omega) (by omega)
  have c1 := g h1
  have c7 : j = 0 ∨ j = 1 ∨ j = 2 ∨ j = 3 ∨ j = 4 ∨ j = 5 ∨ j = 6 := by omega
  have t12 : k < 12 := by omega
  obtain ⟨rL1, p1, p2, p3⟩ := c_prt (FrK_of fl) [(70, 5)] (a := ru k) (fun r : Option Nat => some r) ⟨_, _, _, _, c1, rfl, rfl⟩
  obtain ⟨rR1, q1, q2, q3⟩ := c_prt (FrK_of fr) [(70, 6)] (a := ru k) (fun r : Option Nat => some r) ⟨_, _, _, _, c1, rfl, rfl⟩
  have xl : xR s [(70, 5)] (ru k) = some rL1 := by rw [← p1]; cases xR s [(70, 5)] (ru k) <;> rfl
  have xr : xR s [(70, 6)] (ru k) = some rR1 := by rw [← q1]; cases xR s [(70, 6)] (ru k) <;> rfl
  rcases c7 with rfl | rfl | rfl | rfl | rfl | rfl | rfl
  · have hs := (rs_some.mp (k3.2.1 sn s4)).2
    refine fin (Int32.ofNat sn).toInt64 ?_ ?_
    · rw [e3, if_pos (by decide), xN_o c1 rfl rfl, Option.bind_some, if_pos (isK_t hs rfl)]
      unfold c_311
      rw [xI_o hs rfl rfl, Option.bind_some, Option.bind_some]
    · unfold t_761
      rw [if_pos (by decide), rdI_n t12 (by decide), Option.bind_some, show (ptI t 0 0).2.2.1 89 k = _ from a89]
  · refine fin (t.2.2.2 90 k) ?_ ?_
    · rw [e3, if_neg (by decide), if_pos (by decide), xl, Option.bind_some, p2, Option.bind_some]
    · unfold t_761
      rw [if_neg (by decide), if_pos (by decide), rdL_n t12 (by decide), Option.bind_some]; rfl
  · refine fin (t.2.2.2 91 k) ?_ ?_
    · rw [e3, if_neg (by decide), if_neg (by decide), if_pos (by decide), xl, Option.bind_some, p3, Option.bind_some]
    · unfold t_761
      rw [if_neg (by decide), if_neg (by decide), if_pos (by decide), rdL_n t12 (by decide), Option.bind_some]; rfl
  · refine fin (t.2.2.2 92 k) ?_ ?_
    · rw [e3, if_neg (by decide), if_neg (by decide), if_neg (by decide), if_pos (by decide), xr, Option.bind_some, q2, Option.bind_some]
    · unfold t_761
      rw [if_neg (by decide), if_neg (by decide), if_neg (by decide), if_pos (by decide), rdL_n t12 (by decide), Option.bind_some]; rfl
  · refine fin (t.2.2.2 93 k) ?_ ?_
    · rw [e3, if_neg (by decide), if_neg (by decide), if_neg (by decide), if_neg (by decide), if_pos (by decide), xr, Option.bind_some, q3, Option.bind_some]
    · unfold t_761
      rw [if_neg (by decide), if_neg (by decide), if_neg (by decide), if_neg (by decide), if_pos (by decide), rdL_n t12 (by decide), Option.bind_some]; rfl
  · refine fin (t.2.2.1 94 k).toInt64 ?_ ?_
    · rw [e3, if_neg (by decide), if_neg (by decide), if_neg (by decide), if_neg (by decide), if_neg (by decide), if_pos (by decide), xI_o c1 rfl rfl, Option.bind_some]
    · unfold t_761
      rw [if_neg (by decide), if_neg (by decide), if_neg (by decide), if_neg (by decide), if_neg (by decide), if_pos (by decide), rdI_n t12 (by decide), Option.bind_some]; rfl
  · refine fin (t.2.2.2 95 k) ?_ ?_
    · rw [e3, if_neg (by decide), if_neg (by decide), if_neg (by decide), if_neg (by decide), if_neg (by decide), if_neg (by decide), xN_o c1 rfl rfl, Option.bind_some]
      rcases hb with ⟨hb, z⟩ | ⟨w, xs, hb, hl, z⟩
      · have e81 : ∀ p, (p, ([] : List Nat)) ∈ sTab3 → bm = p → c_978 bm s = some 0 := fun p hp e => by
          rw [e]; exact c_nmL (rs_some.mp (k3.1 (p, []) hp)).2 (show ([] : List Nat).length < 1000 by decide)
        rw [z, hb.elim (e81 81 (by decide)) (e81 91 (by decide)), Option.bind_some]
      · rw [c_nmL (rs_some.mp hb).2 hl, Option.bind_some, z]
    · unfold t_761
      rw [if_neg (by decide), if_neg (by decide), if_neg (by decide), if_neg (by decide), if_neg (by decide), if_neg (by decide), rdL_n t12 (by decide), Option.bind_some]; rfl
end
