/-! cells: who is caught -/
section
variable {own : Nat → Nat} {s : CS} {t : TS} {nl nr nd sm : Nat} {W : Nat → Nat} {e q g wn : Nat → Int32} {sc : Nat → Nat}
theorem cXY (c : Nat) : 24 * cY c + cX c = Int32.ofNat c := by
  unfold cX cY
  rw [i_mulL, i_add]
  exact congrArg _ (by omega)
theorem ce_catch {K zn nr' nS nT nC nR nP nL a nw : Nat} {rel : Int32} {S C CS' CM CT E RS RM' RT P G D L F : Nat → Nat} {RW : Nat → Nat → Nat} (hw : wfS s) (r : R9x (rs s.1 own 9) t nl nr nd sm W e q g wn sc) (p : R4x (rs s.1 own 4) t K zn nr' nS nT nC nR nP nL a rel S C CS' CM CT E RS RM' RT P G D L F RW) (hnw : nw ≤ 6000) (h101 : s.1 101 = some (true, false, 56, [.int (t.1 2)])) (ho : own 101 ≠ 4) (h2 : t.1 2 = Int32.ofNat nw) : ∃ s' T, c_550 170 111 s = some s' ∧ wh (S := TS × Int32) (X := TS) (fun p98 : TS × Int32 => (if p98.2 < (p98.1.1 27) then Option.bind (rdI p98.1 24 40 p98.2) (fun x21 => Option.bind ((if x21 < (p98.1.1 9) then Option.bind (rdI p98.1 27 40 p98.2) (fun x22 => (if x22 < 0 then Option.bind (rdI p98.1 26 40 p98.2) (fun x23 => Option.bind (rdI p98.1 25 40 p98.2) (fun x24 => Option.bind (rdI p98.1 44 576 ((24 * x23) + x24)) (fun x25 => (if x25 = 0 then some p98.1 else Option.bind (stI p98.1 27 40 p98.2 (p98.1.1 2)) (fun s26 => some s26))))) else some p98.1)) else some p98.1)) (fun v135 => some (Sum.inl (β := TS) (v135, p98.2 + 1)))) else some (.inr p98.1))) (t, 0) = some T ∧ R4x (rs s'.1 own 4) T K zn nr' nS nT nC nR nP nL a rel S C CS' CM CT E RS RM' RT P G D L F RW ∧ Frm (fun X => X = 4) own own s s' ∧ s'.2 = s.2 ∧ T.1 = t.1 ∧ (∀ Z, Z ≠ 4 → Z ≠ 99 → rt T Z = rt t Z) := by
  unfold c_550
  obtain ⟨x, y, h1, h2', h3⟩ := wh_two (f := (fun p2 : CS × Int32 => (if isK p2.1 [13] 111 = true then Option.bind (alSize p2.1 111) (fun x1 => (if p2.2 < x1 then (if isK p2.1 [13] 111 = true then Option.bind (alGet p2.1 111 p2.2) (fun e2 => Option.bind (toN p2.1 [81] e2) (fun a3 => (if isK p2.1 [81] a3 = true then Option.bind (c_997 a3 p2.1) (fun x4 => Option.bind ((if x4 = 0 then some p2.1 else Option.bind (xN p2.1 [(50, 7)] 170) (fun a5 => Option.bind (xI p2.1 [(81, 5)] a3) (fun x6 => Option.bind (xI p2.1 [(81, 4)] a3) (fun x7 => (if isK p2.1 [3] a5 = true then Option.bind (bsGet p2.1 a5 ((24 * x6) + x7)) (fun x8 => (if x8 = 0 then some p2.1 else Option.bind (xN p2.1 [(50, 0)] 170) (fun a9 => Option.bind (xI p2.1 [(56, 0)] a9) (fun x10 => Option.bind (xP p2.1 [(81, 6)] a3 (.int x10)) (fun s11 => some s11))))) else none)))))) (fun v30 => some (Sum.inl (β := CS) (v30, p2.2 + 1)))) else none))) else none) else some (.inr p2.1))) else none))) (g := (fun p98 : TS × Int32 => (if p98.2 < (p98.1.1 27) then Option.bind (rdI p98.1 24 40 p98.2) (fun x21 => Option.bind ((if x21 < (p98.1.1 9) then Option.bind (rdI p98.1 27 40 p98.2) (fun x22 => (if x22 < 0 then Option.bind (rdI p98.1 26 40 p98.2) (fun x23 => Option.bind (rdI p98.1 25 40 p98.2) (fun x24 => Option.bind (rdI p98.1 44 576 ((24 * x23) + x24)) (fun x25 => (if x25 = 0 then some p98.1 else Option.bind (stI p98.1 27 40 p98.2 (p98.1.1 2)) (fun s26 => some s26))))) else some p98.1)) else some p98.1)) (fun v135 => some (Sum.inl (β := TS) (v135, p98.2 + 1)))) else some (.inr p98.1)))) (a := (s, 0)) (b := (t, 0)) (Q := fun x y => R4x (rs x.1 own 4) y K zn nr' nS nT nC nR nP nL a rel S C CS' CM CT E RS RM' RT P G D L F RW ∧ Frm (fun X => X = 4) own own s x ∧ x.2 = s.2 ∧ y.1 = t.1 ∧ (∀ Z, Z ≠ 4 → Z ≠ 99 → rt y Z = rt t Z)) nS (fun k x y => x.2 = Int32.ofNat k ∧ y.2 = Int32.ofNat k ∧ R4x (rs x.1.1 own 4) y.1 K zn nr' nS nT nC nR nP nL a rel S C CS' CM CT E RS RM' RT P G D L F RW ∧ Frm (fun X => X = 4) own own s x.1 ∧ x.1.2 = s.2 ∧ y.1.1 = t.1 ∧ (∀ Z, Z ≠ 4 → Z ≠ 99 → rt y.1 Z = rt t Z)) (by
    rintro k ⟨S1, _⟩ ⟨T1, _⟩ hk ⟨rfl, rfl, p1, f1, g1, g2, g3⟩
    right
    dsimp only at p1 f1 g1 g2 g3 ⊢
    have pr := R4_raw p1
    obtain ⟨⟨mc, x1⟩, x2, x3, x4, _⟩ := pr.2.1
    obtain ⟨dS, okS, _⟩ := x4 k hk
    have hr9 : R9x S1.1 T1 nl nr nd sm W e q g wn sc := by
      have e1 := frm_rs hw f1 (show ¬ (9 : Nat) = 4 by decide)
      have r' := r
      rw [← e1] at r'
      exact R9_raw (R9x_cg r' (fun _ _ h => h) (by rw [g2]) (by rw [g2]) (by rw [g2]) (g3 9 (by decide) (by decide)) (fun _ => g3 2 (by decide) (by decide)))
    obtain ⟨⟨a1, _⟩, ⟨s1, ⟨xs, s2, s3, s4⟩, s5⟩, _⟩ := hr9
    have h101' : S1.1 101 = some (true, false, 56, [.int (T1.1 2)]) := by
      rw [f1.2.2.1 101 (wf_lt hw h101) ho, g2]; exact h101
    have i27 : (T1.1 2) = Int32.ofNat nw := by rw [g2]; exact h2
    have same : ∃ a' b', some (Sum.inl (β := CS) (S1, Int32.ofNat k + 1)) = some (.inl a') ∧ some (Sum.inl (β := TS) (T1, Int32.ofNat k + 1)) = some (.inl b') ∧ a'.2 = Int32.ofNat (k + 1) ∧ b'.2 = Int32.ofNat (k + 1) ∧ R4x (rs a'.1.1 own 4) b'.1 K zn nr' nS nT nC nR nP nL a rel S C CS' CM CT E RS RM' RT P G D L F RW ∧ Frm (fun X => X = 4) own own s a'.1 ∧ a'.1.2 = s.2 ∧ b'.1.1 = t.1 ∧ (∀ Z, Z ≠ 4 → Z ≠ 99 → rt b'.1 Z = rt t Z) := ⟨_, _, rfl, rfl, i_suc k, i_suc k, p1, f1, g1, g2, g3⟩
    rw [if_pos (isK_t x1 rfl), alSize_r x1, Option.bind_some, if_pos ((i_lt (by omega) (by omega)).mpr hk), if_pos (isK_t x1 rfl), alGet_r x1 hk (by omega), Option.bind_some, toN_o dS rfl, Option.bind_some, if_pos (isK_t dS rfl), xN_o (b := sm) a1 rfl rfl, xI_o (x := T1.2.2.1 26 k) dS rfl rfl, xI_o (x := T1.2.2.1 25 k) dS rfl rfl, Option.bind_some, Option.bind_some, Option.bind_some]
    rw [x2, if_pos ((i_lt (by omega) (by omega)).mpr hk), rdI_n (by omega) (by omega), rdI_n (by omega) (by omega), rdI_n (by omega) (by omega), rdI_n (by omega) (by omega), Option.bind_some, Option.bind_some, Option.bind_some, Option.bind_some]
    rcases in_p pr hk with ⟨j1, j2, j3, c, hc, j4, j5⟩ | ⟨j1, j2⟩
    · rw [j1, if_pos j2, if_pos j3, j4, j5, cXY, if_pos (isK_t s2 rfl), bsGet_r s2 (by omega), rdI_n (by omega) (by omega), Option.bind_some, if_neg (show ¬ (1 : Int32) = 0 by decide), Option.bind_some, Option.bind_some]
      have hbc : bit xs c = true ↔ T1.2.2.1 44 c = 1 := by rw [s4]; exact ⟨fun h => h.2, fun h => ⟨hc, h⟩⟩
      rcases s5 c hc with w | w
      · have nb : ¬ bit xs c = true := fun h => by have := hbc.mp h; rw [w] at this; exact absurd this (by decide)
        rw [if_neg nb, if_pos rfl, w, if_pos rfl, Option.bind_some, Option.bind_some]
        exact same
      · rw [if_pos (hbc.mpr w), if_neg (by decide), w, if_neg (by decide), xN_o (b := 101) a1 rfl rfl, Option.bind_some, xI_o (x := T1.1 2) h101' rfl rfl, Option.bind_some, xP_c (fs' := [.int (Int32.ofNat k), .int (T1.2.2.1 22 k), .int (T1.2.2.1 23 k), .int (T1.2.2.1 24 k), .int (T1.2.2.1 25 k), .int (T1.2.2.1 26 k), .int (T1.1 2), .int (T1.2.2.1 28 k), .int (T1.2.2.1 29 k)]) dS rfl (by simp) rfl, Option.bind_some, Option.bind_some, stI_n (by omega) (by omega), Option.bind_some, Option.bind_some]
        have o := rs_in (p1.2.1.2.2.2.1 k hk).1
        have T3 : ∀ d j, (wrI T1 27 k (T1.1 2)).2.2.1 d j = if d = 27 ∧ j = k then T1.1 2 else T1.2.2.1 d j := fun d j => rfl
        have hper : (true, false, 81, [.int (Int32.ofNat k), .int (T1.2.2.1 22 k), .int (T1.2.2.1 23 k), .int (T1.2.2.1 24 k), .int (T1.2.2.1 25 k), .int (T1.2.2.1 26 k), .int (T1.1 2), .int (T1.2.2.1 28 k), .int (T1.2.2.1 29 k)]) = perC (wrI T1 27 k (T1.1 2)) k := by
          unfold perC
          simp [T3]
        rw [hper]
        refine ⟨_, _, rfl, rfl, i_suc k, i_suc k, R4_per (T := wrI T1 27 k (T1.1 2)) p1 hk (fun q c hq hqc => rs_keep f1.2.2.2.2 (fun _ _ => rfl) hqc (cup_ne hq)) (fun _ _ => rfl) (fun d j hh => by rw [T3, if_neg (by omega)]) ?_ (rs_some.mpr ⟨o.2, cup_eq ..⟩), f1.trans (frm_cup f1.2.2.2.2 (wf_lt f1.2.2.2.2 dS) o.2), g1, g2, fun Z h4 h9 => by dsimp only; rw [rt_wrI (by show (4 : Nat) ≠ Z; omega)]; exact g3 Z h4 h9⟩
        unfold okPer at *
        rw [T3 24 k, T3 25 k, T3 26 k, T3 27 k, T3 29 k, T3 22 k, T3 23 k]
        simp only [show ¬ (24 : Nat) = 27 by omega, show ¬ (25 : Nat) = 27 by omega, show ¬ (26 : Nat) = 27 by omega, show ¬ (29 : Nat) = 27 by omega, show ¬ (22 : Nat) = 27 by omega, show ¬ (23 : Nat) = 27 by omega, false_and, if_false, true_and, if_true]
        refine ⟨okS.1, Or.inr ?_, okS.2.2⟩
        rw [i27]; exact i_nlt0 (by omega)
    · have hn : (if T1.2.2.1 24 k < T1.1 9 then (if T1.2.2.1 27 k < 0 then Option.bind (rdI T1 44 576 (24 * T1.2.2.1 26 k + T1.2.2.1 25 k)) (fun x25 => (if x25 = 0 then some T1 else Option.bind (stI T1 27 40 (Int32.ofNat k) (T1.1 2)) (fun s26 => some s26))) else some T1) else some T1) = some T1 := by
        rcases j2 with ⟨j2, _⟩ | ⟨j2, j3⟩
        · rw [if_neg j2]
        · rw [if_pos j2, if_neg j3]
      rw [j1, hn, Option.bind_some, if_pos rfl, Option.bind_some, Option.bind_some]
      exact same) (by
    rintro ⟨S1, _⟩ ⟨T1, _⟩ ⟨rfl, rfl, p1, f1, g1, g2, g3⟩
    dsimp only at p1 f1 g1 g2 g3 ⊢
    have pr := R4_raw p1
    obtain ⟨⟨mc, x1⟩, x2, x3, x4, _⟩ := pr.2.1
    refine ⟨S1, T1, ?_, ?_, p1, f1, g1, g2, g3⟩
    · rw [if_pos (isK_t x1 rfl), alSize_r x1, Option.bind_some, if_neg (fun z => by have := (i_lt (by omega) (by omega)).mp z; omega)]
    · rw [x2, if_neg (fun z => by have := (i_lt (by omega) (by omega)).mp z; omega)]) ⟨rfl, rfl, p, Frm.refl hw, rfl, rfl, fun _ _ _ => rfl⟩
  exact ⟨x, y, by rw [h1]; rfl, h2', h3⟩
end
