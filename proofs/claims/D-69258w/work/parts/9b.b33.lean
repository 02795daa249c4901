/-! the bus: send, call: whole -/
theorem argB_nat {v2 v3 v4 v5 v6 : Int32} (h : argB v2 v3 v4 v5 v6 = true) : ∃ p aim c f : Nat, p < 4 ∧ aim < 65536 ∧ 1 ≤ c ∧ c ≤ 14 ∧ f < 256 ∧ v2 = Int32.ofNat p ∧ v3 = Int32.ofNat aim ∧ v5 = Int32.ofNat c ∧ v6 = Int32.ofNat f := by
  obtain ⟨⟨a1, a2⟩, ⟨a3, a4⟩, ⟨a5, a6⟩, a7, a8⟩ := of_decide_eq_true h
  obtain ⟨p, hp, rfl⟩ := i_nat (n := 4) (by omega) a1 a2
  obtain ⟨aim, h3, rfl⟩ := i_nat (n := 65536) (x := v3) (by omega) a3 (by
    by_cases z : v4 = 0
    · rw [if_pos z] at a4; exact a4
    · rw [if_neg z] at a4
      exact Int32.lt_trans a4 (by decide))
  obtain ⟨c, hc, rfl⟩ := i_nat (n := 15) (x := v5) (by omega) (fun z => a5 (Int32.lt_trans z (by decide))) a6
  obtain ⟨f, hf, rfl⟩ := i_nat (n := 256) (by omega) a7 a8
  refine ⟨p, aim, c, f, hp, h3, ?_, by omega, hf, rfl, rfl, rfl, rfl⟩
  refine Nat.lt_of_not_le (fun z => a5 ?_)
  exact (i_lt (j := c) (k := 1) (by omega) (by omega)).mpr (by omega)
theorem bus_send {own : Nat → Nat} {s : CS} {t : TS} {N : Nat} (hw : wfS s) (hs : 179 ≤ s.2.1) (r : R6 (rs s.1 own 6) t N) (v1 v2 v3 v4 v5 v6 : Int32) : Res (fun X => X = 6) 6 (fun H t => R6 (H 6) t N) own s t 3 76 (c_1138 120 v1 v2 v3 v4 v5 v6 s) (t_647 v1 v2 v3 v4 v5 v6 t) := by
  have r2 := r
  obtain ⟨⟨⟨d, _, g1⟩, _⟩, _, _, n, ti, bi, m, _, _, rr⟩ := r2
  have h1 := (rs_in g1).1
  unfold c_1138 t_647
  rw [if_pos (isK_t h1 rfl), stOf r, isInB]
  cases hr : inB v1 8 with
  | true =>
    obtain ⟨k, hk, rfl⟩ := inB_nat 8 (by omega) hr
    have hkk : (Int32.ofNat k).toNatClampNeg = k := i_clamp (by omega)
    rw [if_pos rfl, if_pos rfl, Option.bind_some, Option.bind_some, Sum.elim_inl, if_neg (show ¬ (1 : Int32) = 0 by decide), argT]
    dsimp only
    rw [argC, hkk, Option.bind_some, Option.bind_some]
    obtain ⟨q1, q2, q3, q4, q5, q6⟩ := rr k hk
    have h7 := (rs_in q1).1
    have hq := (rs_in q2).1
    have e7 : xN s [(46, 3)] (127 + 3 * k) = some (129 + 3 * k) := xN_o h7 rfl rfl
    cases hA : argB v2 v3 v4 v5 v6 with
    | true =>
      obtain ⟨p, aim, c, f, y1, y2, y3, y4, y5, rfl, rfl, rfl, rfl⟩ := argB_nat hA
      rw [if_pos rfl, need_eq, if_neg (by decide), Option.bind_some, Sum.elim_inl, xI_o h1 rfl rfl, Option.bind_some, e7]
      simp only [Option.bind_some, isK_t (tab := [4]) hq rfl, if_true, adSize_r hq, rdI_n (show k < 8 by omega) (show 8 < 2147483648 by omega), q3]
      by_cases hb : t.1 1 = 0
      · exact Res.sta (x := 0) (by simp [hb, may_eq]) (by simp [hb, goes_eq, ptI])
      · by_cases hn : n k < 6
        · have e6 : (if Int32.ofNat (n k) < 6 then some (1 : Int32) else some 0) = some 1 := if_pos ((i_ltL (by omega) (by omega)).mpr hn)
          obtain ⟨gr, hg1, hg2⟩ : ∃ gr : Nat, (if v4 = 0 then some (0 : Int32) else some 128) = some (Int32.ofNat gr) ∧ (gr = 0 ∨ gr = 128) := by
            by_cases z : v4 = 0
            · exact ⟨0, by rw [if_pos z]; rfl, Or.inl rfl⟩
            · exact ⟨128, by rw [if_neg z]; rfl, Or.inr rfl⟩
          obtain ⟨S, S2, t', a, w1, w2, w3, w4, ⟨S1, w5, ⟨fs, w6⟩, w7⟩, w8, w9, w10, w11, w12, w13, w14, ⟨fs2, w15, w16⟩, w17⟩ := snd_two (t := ptI t 0 0) (v4 := v4) hw hs hk (R6_pt r) y1 y2 y3 y4 y5 hg1 hg2 (n k) q3 hn
          have h127 : S.1 (127 + 3 * k) = some (sC t k) := by rw [w4 _ (by omega)]; exact h7
          have h127' : S2.1 (127 + 3 * k) = some (sC t k) := by rw [w17]; exact h7
          refine Or.inl ⟨Int32.ofNat (n k + 1), S2, t', _, ?_, ?_, by rw [w13]; rfl, fun Z h6 h9 => by rw [w14 Z h6, ptI_rt h9], w10, w9, w11, Nat.le_trans w12 (by omega)⟩
          · simp only [hb, if_false, e6, Option.bind_some, may_eq, show ¬ (1 : Int32) = 0 by decide, Sum.elim_inl]
            rw [e7, Option.bind_some, w2]
            dsimp only
            have w1' : t.2.2.1 143 k = Int32.ofNat a := w1
            rw [xI_o (x := Int32.ofNat a) h127 rfl (by rw [← w1']; rfl), Option.bind_some, if_pos (isK_t w3 rfl), w5, Option.bind_some, if_pos (isK_t w6 rfl), w7, Option.bind_some, xN_o (b := 129 + 3 * k) h127' rfl rfl, Option.bind_some, if_pos (isK_t w15 rfl)]
            have : adSize S2 (129 + 3 * k) = some (Int32.ofNat (n k + 1)) := by
              unfold adSize adC cc
              rw [w15]
              simp only [if_true, Option.bind_some, i_32, w16]
            rw [this, Option.bind_some]
          · simp only [hb, if_false, e6, Option.bind_some, goes_eq, show ¬ (1 : Int32) = 0 by decide, or_self]
            rw [w8, Option.bind_some]
        · have e6 : (if Int32.ofNat (n k) < 6 then some (1 : Int32) else some 0) = some 0 := if_neg (fun z => hn ((i_ltL (by omega) (by omega)).mp z))
          refine Res.sta (x := 0) ?_ ?_
          · simp only [hb, if_false, e6, Option.bind_some, may_eq, if_true, Sum.elim_inr]
          · simp [hb, e6, goes_eq, ptI]
    | false =>
      refine Res.arg (x := 0) ?_ ?_
      · simp [need_eq]
      · by_cases hb : t.1 1 = 0 <;> simp [hb, goes_eq, ptI]
  | false =>
    refine Res.arg (x := 0) (by simp) ?_
    by_cases hb : t.1 1 = 0 <;> simp [hb, goes_eq, ptI]
/-- a telegram of the house -/
theorem bus_call {own : Nat → Nat} {s : CS} {t : TS} {N g b : Nat} (hw : wfS s) (hs : 179 ≤ s.2.1) (r : R6 (rs s.1 own 6) t N) (hg : g < 256) (hb : b < 256) :
    ∃ s' t' own', c_1133 120 (Int32.ofNat g) (Int32.ofNat b) s = some s' ∧ (if t.2.2.1 146 7 < 6 then Option.bind (α := Int32 × TS) (t_825 7 0 (Int32.ofNat g) 1 2 (Int32.ofNat b) t) (fun x => some x.2) else some t) = some t' ∧ R6 (rs s'.1 own' 6) t' N ∧ Frm (fun X => X = 6) own own' s s' ∧ s'.2.2.1 ≤ s.2.2.1 + 3 ∧ s'.2.2.2 ≤ s.2.2.2 + 24 ∧ t'.1 = t.1 ∧ ∀ Z, Z ≠ 6 → rt t' Z = rt t Z := by
  have r2 := r
  obtain ⟨⟨⟨d, _, g1⟩, ⟨mc, g2⟩, _⟩, _, _, n, ti, bi, m, _, _, rr⟩ := r2
  have h1 := (rs_in g1).1
  have h2 := (rs_in g2).1
  obtain ⟨q1, q2, q3, q4, q5, q6⟩ := rr 7 (by omega)
  have h7 := (rs_in q1).1
  have hq := (rs_in q2).1
  have e7 : xN s [(46, 3)] (127 + 3 * 7) = some (129 + 3 * 7) := xN_o h7 rfl rfl
  unfold c_1133
  rw [xN_o h1 rfl rfl, Option.bind_some, if_pos (isK_t h2 rfl), show (7 : Int32) = Int32.ofNat 7 from rfl, alGet_r h2 (by omega) (by omega), Option.bind_some, toN_o h7 rfl, Option.bind_some, e7, Option.bind_some, if_pos (isK_t hq rfl), adSize_r hq, Option.bind_some, q3]
  by_cases hn : n 7 < 6
  · have e6 : Int32.ofNat (n 7) < 6 := (i_ltL (by omega) (by omega)).mpr hn
    rw [if_pos e6, if_pos e6]
    obtain ⟨S, S2, t', a, w1, w2, w3, w4, ⟨S1, w5, ⟨fs, w6⟩, w7⟩, w8, w9, w10, w11, w12, w13, w14, ⟨fs2, w15, w16⟩, w17⟩ := snd_two (v4 := 1) (k := 7) (p := 0) (aim := g) (gr := 128) (c := 2) (f := b) hw hs (by omega) r (by omega) (by omega) (by omega) (by omega) hb rfl (Or.inr rfl) (n 7) q3 hn
    have h127 : S.1 (127 + 3 * 7) = some (sC t 7) := by rw [w4 _ (by omega)]; exact h7
    refine ⟨S2, t', _, ?_, ?_, w9, w10, w11, w12, w13, w14⟩
    · rw [Option.bind_some, Option.bind_some, w2]
      dsimp only
      rw [xI_o (x := Int32.ofNat a) h127 rfl (by rw [← w1]; rfl), Option.bind_some, if_pos (isK_t w3 rfl), show (0 : Int32) = Int32.ofNat 0 from rfl, show (2 : Int32) = Int32.ofNat 2 from rfl, w5, Option.bind_some, if_pos (isK_t w6 rfl), w7, Option.bind_some]
    · rw [show (0 : Int32) = Int32.ofNat 0 from rfl, show (2 : Int32) = Int32.ofNat 2 from rfl, w8, Option.bind_some]
  · have e6 : ¬ Int32.ofNat (n 7) < 6 := fun z => hn ((i_ltL (by omega) (by omega)).mp z)
    rw [if_neg e6, if_neg e6]
    exact ⟨s, t, own, rfl, rfl, r, Frm.refl hw, by omega, by omega, rfl, fun _ _ => rfl⟩
