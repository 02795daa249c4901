/-! cells: leave, both sides -/
section
variable {own : Nat → Nat} {s : CS} {t : TS} {nl nr nd sm : Nat} {W : Nat → Nat} {e q g wn : Nat → Int32} {sc : Nat → Nat}
theorem ce_leave {K zn nr' nS nT nC nR nP nL a nw' : Nat} {rel : Int32} {S C CS' CM CT E RS RM' RT P G D L F : Nat → Nat} {RW : Nat → Nat → Nat} (hw : wfS s) (hs : 179 ≤ s.2.1) (h98 : ∀ a, a < s.2.1 → own a ≠ 98) (hK : K9 (rs s.1 own 11)) (r : R9x (rs s.1 own 9) t nl nr nd sm W e q g wn sc) (p : R4x (rs s.1 own 4) t K zn nr' nS nT nC nR nP nL a rel S C CS' CM CT E RS RM' RT P G D L F RW) (hb : t.1 1 ≠ 0) (h101 : s.1 101 = some (true, false, 56, [.int (t.1 2)])) (ho : own 101 ≠ 4 ∧ own 101 ≠ 9) (h2 : t.1 2 = Int32.ofNat nw') (hnw : nw' ≤ 6000) (hlt : ∀ j, j < 120 → sc j < nw') : ∃ s' T own' wn' sc', c_551 170 111 (t.1 9) s = some s' ∧ t_669 t = some T ∧ R4x (rs s'.1 own' 4) T K zn nr' nS nT nC nR nP nL a rel S C CS' CM CT E RS RM' RT P G D L F RW ∧ R9x (rs s'.1 own' 9) T nl nr nd sm W e q g wn' sc' ∧ Frm (fun X => X = 4 ∨ X = 9) own own' s s' ∧ T.1 = t.1 ∧ (∀ Z, Z ≠ 4 → Z ≠ 9 → rt T Z = rt t Z) ∧ s'.2.2.1 ≤ s.2.2.1 + 3 ∧ s'.2.2.2 ≤ s.2.2.2 + 44 := by
  have pr := R4_raw p
  have rr := R9_raw r
  obtain ⟨⟨mc, x1⟩, x2, x3, x4, _⟩ := pr.2.1
  have a170 := rr.1.1
  obtain ⟨⟨kw1, k61⟩, kw2, k62⟩ := hK
  have o61 := rs_in k61
  have o62 := rs_in k62
  have l61 := wf_lt hw o61.1
  have l62 := wf_lt hw o62.1
  have l101 := wf_lt hw h101
  unfold c_551 t_669
  rw [if_pos (isK_t x1 rfl), alSize_r x1, Option.bind_some]
  obtain ⟨S1, e1, n1, n2, n3, n4, n5, n6⟩ := nwa_o (s := s) 0 (.int 0) nS (by omega) hw
  rw [e1]; repeat (first | rw [Option.bind_some] | rw [Sum.elim_inl] | rw [Sum.elim_inr] | rw [if_neg (show ¬ (1 : Int32) = 0 by decide)] | rw [if_pos (show (0 : Int32) = 0 from rfl)] | rw [if_pos (show true = true from rfl)] | rw [if_neg (show ¬ false = true by decide)] | dsimp only)
  have keep1 : ∀ {q c}, s.1 q = some c → S1.1 q = some c := fun h => (n2 _ (by have := wf_lt hw h; omega)).trans h
  have p1 : R4x S1.1 t K zn nr' nS nT nC nR nP nL a rel S C CS' CM CT E RS RM' RT P G D L F RW := R4x_cg pr (fun q c h => keep1 h) rfl rfl (fun _ _ => rfl)
  have r1 : R9x S1.1 t nl nr nd sm W e q g wn sc := R9x_cg rr (fun q c h => keep1 h) rfl rfl rfl rfl (fun _ => rfl)
  obtain ⟨s2, f1, f2, f3, f4, f5⟩ := c_lvf n4 r1 p1 hb n1 (by omega)
  rw [f1]; repeat (first | rw [Option.bind_some] | rw [Sum.elim_inl] | rw [Sum.elim_inr])
  obtain ⟨S3, e3, m1, m2, m3, m4, m5, m6⟩ := nw_o (s := s2) 3 [.null, .int 0, .int 0] f5
  have m6' : S3.2.2.2 = s2.2.2.2 + 3 := m6
  have hs2 : s2.2.1 = s.2.1 + 1 := by rw [f4]; exact n3
  rw [e3]; repeat (first | rw [Option.bind_some] | rw [Sum.elim_inl] | rw [Sum.elim_inr] | rw [if_neg (show ¬ (1 : Int32) = 0 by decide)] | rw [if_pos (show (0 : Int32) = 0 from rfl)] | rw [if_pos (show true = true from rfl)] | rw [if_neg (show ¬ false = true by decide)] | dsimp only)
  rw [if_pos (isK_t m1 rfl), bsInit_o m1]; repeat (first | rw [Option.bind_some] | rw [Sum.elim_inl] | rw [Sum.elim_inr])
  generalize hS4 : chg (cup S3 s2.2.1 (true, false, 1003, [])) 1 1 = s4
  have q1 : s4.1 s2.2.1 = some (true, false, 1003, []) := by rw [← hS4]; exact cup_eq ..
  have q2 : ∀ q, q ≠ s2.2.1 → s4.1 q = s2.1 q := fun q hq => by rw [← hS4]; exact (cup_ne hq).trans (m2 q hq)
  have q3 : s4.2.1 = s.2.1 + 2 := by rw [← hS4]; show S3.2.1 = _; omega
  have q4 : wfS s4 := by rw [← hS4]; exact wf_chg (wf_cup m4 (by omega))
  have q5 : s4.2.2.1 = s.2.2.1 + 3 := by
    rw [← hS4]; show S3.2.2.1 + 1 = _
    have : s2.2.2.1 = S1.2.2.1 := by rw [f4]
    omega
  have q6 : s4.2.2.2 = s.2.2.2 + nS + 4 := by
    rw [← hS4]; show S3.2.2.2 + 1 = _
    have : s2.2.2.2 = S1.2.2.2 := by rw [f4]
    omega
  have old : ∀ q, q < s.2.1 → s4.1 q = s.1 q := fun q hq => (q2 q (by omega)).trans ((f3 q (by omega)).trans (n2 q (by omega)))
  have qA : s4.1 s.2.1 = some (true, true, 0, rowC (fun k => .int (atV t k)) nS) := (q2 _ (by omega)).trans f2
  obtain ⟨T0, g1, g2, g3, g4, g5, g6⟩ := t_lvc (t := t) x2 x3 (fun v25 => Option.bind (t_670 v25) (fun x3 => Option.bind (wh (S := TS × Int32) (X := TS) (fun p28 => (if p28.2 < 0 then some (.inr p28.1) else Option.bind (stI p28.1 49 40 p28.2 ((1 : Int32) &&& 1)) (fun s4 => Option.bind (t_671 p28.2 s4) (fun x5 => Option.bind (t_670 x5) (fun x6 => some (.inl (x5, x6))))))) (v25, x3)) (fun v42 => some v42)))
  have ho3 : ∀ q, q < s.2.1 → givs own s.2.1 2 98 q = own q := fun q hq => if_neg (by omega)
  have p4 : R4x (rs s4.1 (givs own s.2.1 2 98) 4) T0 K zn nr' nS nT nC nR nP nL a rel S C CS' CM CT E RS RM' RT P G D L F RW := R4x_cg p (fun q c h => rs_keep hw ho3 h (old q (wf_lt hw (rs_in h).1))) (by rw [g2]) (g6 4 (by decide)) (fun c hc => g3 c (by simp at hc; omega) (by simp at hc; omega))
  obtain ⟨nw2, w1, w2, w3⟩ := r.2.2.2.1
  have p9 : R9x (rs s4.1 (givs own s.2.1 2 98) 9) T0 nl nr nd sm W e q g wn sc := R9_sw r (fun q c _ _ h => rs_keep hw ho3 h (old q (wf_lt hw (rs_in h).1))) g2 (fun c _ h1 h2 => g3 c h1 h2) (rs_keep hw ho3 r.1.2.2.2.2.2.2.1 (old _ (wf_lt hw (rs_in r.1.2.2.2.2.2.2.1).1))) (rs_keep hw ho3 r.1.2.2.2.2.2.2.2 (old _ (wf_lt hw (rs_in r.1.2.2.2.2.2.2.2).1))) w1 w2 w3
  have hcn : cntR T0 wn sc := fun i hi => by
    rw [g4 i hi, if_neg]
    rw [g2, h2]
    intro z
    have := hlt i hi
    have := (i_inj (by omega) (by omega)).mp z
    omega
  have hgs : ∀ k, k < nS → v01 (T0.2.2.1 49 k) ∧ (bit [] k = true ↔ T0.2.2.1 49 k = 1) := fun k hk => by
    rw [g5 k hk]
    exact ⟨Or.inl rfl, fun h => absurd h (by simp [bit]), fun h => absurd h (by decide)⟩
  have hat : ∀ k, k < nS → T0.2.2.1 49 k = 0 → atR T0 (atV t k) k := fun k hk _ => atV_R pr g2 g3 hk
  have h101' : s4.1 101 = some (true, false, 56, [.int (T0.1 2)]) := by rw [old 101 l101, g2]; exact h101
  have hb0 : T0.1 1 ≠ 0 := by rw [g2]; exact hb
  obtain ⟨x0, y0, u1, u2, u3⟩ := ce_next (R9_raw p9) (R4_raw p4) hb0 h101' qA q1 hgs hat
  have b170 : s4.1 170 = _ := (old 170 (by omega)).trans a170
  rw [if_pos (isK_t b170 rfl), u1, g1, u2]; repeat (first | rw [Option.bind_some] | rw [Sum.elim_inl] | rw [Sum.elim_inr])
  have hK4 : K9 s4.1 := ⟨⟨kw1, (old 61 l61).trans o61.1⟩, kw2, (old 62 l62).trans o62.1⟩
  have oA : givs own s.2.1 2 98 s.2.1 = 98 := if_pos (by omega)
  have oB : givs own s.2.1 2 98 s2.2.1 = 98 := if_pos (by omega)
  have i0 : LvI (givs own s.2.1 2 98) s4 s4 T0 T0 nS s.2.1 s2.2.1 (atV t) (fun h t => R4x h t K zn nr' nS nT nC nR nP nL a rel S C CS' CM CT E RS RM' RT P G D L F RW) (fun h t wn sc => R9x h t nl nr nd sm W e q g wn sc) := ⟨p4, ⟨wn, sc, p9, hcn⟩, qA, ⟨[], q1, hgs⟩, hat, Frm.refl q4, rfl, rfl, fun _ _ _ => rfl⟩
  obtain ⟨s', T, z1, z2, z3⟩ := wh_msr (f := ((fun p45 => (if p45.2 = none then some (.inr p45.1) else Option.bind (p45.2) (fun a15 => Option.bind (xI p45.1 [(81, 0)] a15) (fun x16 => (if isK p45.1 [3] s2.2.1 = true then Option.bind (bsSet p45.1 s2.2.1 x16) (fun s17 => Option.bind (xI s17 [(81, 0)] a15) (fun x18 => Option.bind (aI s17 [0, 12] s.2.1 x18) (fun x19 => (if isK s17 [50] 170 = true then Option.bind (c_553 170 a15 x19 (t.1 9) s17) (fun x20 => (if isK x20 [50] 170 = true then Option.bind (c_552 170 111 s.2.1 s2.2.1 x20) (fun x21 => some (.inl (x20, x21))) else none)) else none)))) else none))))) : CS × Option Nat → Option (Sum (CS × Option Nat) CS))) (g := ((fun p28 => (if p28.2 < 0 then some (.inr p28.1) else Option.bind (stI p28.1 49 40 p28.2 ((1 : Int32) &&& 1)) (fun s4 => Option.bind (t_671 p28.2 s4) (fun x5 => Option.bind (t_670 x5) (fun x6 => some (.inl (x5, x6))))))) : TS × Int32 → Option (Sum (TS × Int32) TS))) (Q := fun S' T' => LvI (givs own s.2.1 2 98) s4 S' T0 T' nS s.2.1 s2.2.1 (atV t) (fun h t => R4x h t K zn nr' nS nT nC nR nP nL a rel S C CS' CM CT E RS RM' RT P G D L F RW) (fun h t wn sc => R9x h t nl nr nd sm W e q g wn sc)) (fun _ b => ctB (fun j => decide (b.1.2.2.1 49 j = 0)) nS) (fun x y => LvI (givs own s.2.1 2 98) s4 x.1 T0 y.1 nS s.2.1 s2.2.1 (atV t) (fun h t => R4x h t K zn nr' nS nT nC nR nP nL a rel S C CS' CM CT E RS RM' RT P G D L F RW) (fun h t wn sc => R9x h t nl nr nd sm W e q g wn sc) ∧ ((x.2 = none ∧ y.2 = -1) ∨ ∃ k, k < nS ∧ x.2 = some (S k) ∧ y.2 = Int32.ofNat k ∧ goR y.1 (atV t) k)) (a := (s4, x0)) (b := (T0, y0)) (by
    rintro ⟨U, o⟩ ⟨V, v⟩ ⟨hL, hn⟩
    dsimp only at hL hn ⊢
    rcases hn with ⟨rfl, rfl⟩ | ⟨k, hk, rfl, rfl, hgo⟩
    · left
      exact ⟨U, V, by rw [if_pos rfl], by rw [if_pos (show (-1 : Int32) < 0 by decide)], hL⟩
    · right
      obtain ⟨s5, T5, x5, y5, v1, v2, v3, v4, v5⟩ := lv_step hK4 (by rw [ho3 61 l61, ho3 62 l62, o61.2, o62.2]; decide) q4 hb0 h101' (by rw [ho3 101 l101]; exact ⟨ho.1, ho.2, h98 101 l101⟩) (by rw [g2]; exact h2) hnw oA oB (by omega) hL hk hgo
      rw [g2] at v1
      refine ⟨(s5, x5), (T5, y5), ?_, ?_, ⟨v3, v4⟩, v5⟩
      · rw [if_neg (by simp), Option.bind_some]; exact v1
      · rw [if_neg (i_nlt0 (by omega))]; exact v2) ⟨i0, u3⟩
  rw [z1, z2]; repeat (first | rw [Option.bind_some] | rw [Sum.elim_inl] | rw [Sum.elim_inr])
  obtain ⟨y1, ⟨wn', sc', y2, _⟩, _, _, _, y6, y7, y8, y9⟩ := z3
  have mono : ∀ X, X ≠ 98 → ∀ q c, rs s'.1 (givs own s.2.1 2 98) X q = some c → rs s'.1 (givs own s.2.1 2 9) X q = some c := fun X hX q c h => by
    obtain ⟨h1, h3⟩ := rs_in h
    refine rs_some.mpr ⟨?_, h1⟩
    unfold givs at h3 ⊢
    by_cases z : s.2.1 ≤ q ∧ q < s.2.1 + 2
    · rw [if_pos z] at h3; omega
    · rw [if_neg z] at h3 ⊢; exact h3
  refine ⟨s', T, givs own s.2.1 2 9, wn', sc', rfl, rfl, R4x_cg y1 (mono 4 (by decide)) rfl rfl (fun _ _ => rfl), R9x_cg y2 (mono 9 (by decide)) rfl rfl rfl rfl (fun _ => rfl), ⟨?_, fun q hq => if_neg (by omega), fun q hq hx => ?_, fun q h1 h3 => Or.inr (if_pos ⟨h1, by rw [y7] at h3; omega⟩), y6.2.2.2.2⟩, y8.trans g2, fun Z h4 h9 => (y9 Z h4 h9).trans (g6 Z h9), ?_, ?_⟩
  · rw [y7]; omega
  · have hnX : ¬ (givs own s.2.1 2 98 q = 4 ∨ givs own s.2.1 2 98 q = 9 ∨ givs own s.2.1 2 98 q = 98) := by
      rw [ho3 q hq]
      rintro (z | z | z)
      · exact hx (Or.inl z)
      · exact hx (Or.inr z)
      · exact h98 q hq z
    exact (y6.2.2.1 q (by omega) hnX).trans (old q hq)
  · rw [y7]; omega
  · rw [y7]; omega
end
