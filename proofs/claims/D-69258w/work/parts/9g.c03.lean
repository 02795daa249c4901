/-! cells: what is in a cell -/
section
variable {own : Nat → Nat} {s : CS} {t : TS} {nl nr nd sm : Nat} {W : Nat → Nat} {e q g wn : Nat → Int32} {sc : Nat → Nat}
/-- whether somebody is inside: both sides -/
theorem in_p {K zn nr nS nT nC nR nP nL a : Nat} {rel : Int32} {S C CS' CM CT E RS RM' RT P G D L F : Nat → Nat} {RW : Nat → Nat → Nat} (r : R4x s.1 t K zn nr nS nT nC nR nP nL a rel S C CS' CM CT E RS RM' RT P G D L F RW) {k : Nat} (hk : k < nS) : (c_997 (S k) s = some 1 ∧ t.2.2.1 24 k < t.1 9 ∧ t.2.2.1 27 k < 0 ∧ ∃ c, c < 576 ∧ t.2.2.1 25 k = cX c ∧ t.2.2.1 26 k = cY c) ∨ (c_997 (S k) s = some 0 ∧ ((¬ t.2.2.1 24 k < t.1 9 ∧ t.2.2.1 25 k = -1) ∨ (t.2.2.1 24 k < t.1 9 ∧ ¬ t.2.2.1 27 k < 0))) := by
  have g9 := r.1.2.2.2.1
  have hnr := r.1.2.2.2.2.1
  obtain ⟨⟨mc, x1⟩, x2, x3, x4, _⟩ := r.2.1
  obtain ⟨dS, okS, _⟩ := x4 k hk
  obtain ⟨h24, h27, _⟩ := okS
  have e9 : bN (t.1 9) = nr := by rw [g9, bN_of (by omega)]
  unfold c_997
  rw [xI_o (x := t.2.2.1 25 k) dS rfl rfl, xI_o (x := t.2.2.1 27 k) dS rfl rfl]
  have e27 : t.2.2.1 27 k < 0 ↔ t.2.2.1 27 k = -1 := by
    rcases h27 with z | z
    · rw [z]; exact ⟨fun _ => rfl, fun _ => by decide⟩
    · exact ⟨fun w => absurd w z, fun w => absurd (show t.2.2.1 27 k < 0 by rw [w]; decide) z⟩
  rcases h24 with ⟨z1, z2, z3⟩ | ⟨⟨b, hb, z1⟩, ⟨x, hx, z2⟩, ⟨y, hy, z3⟩⟩
  · right
    refine ⟨by rw [z2]; rfl, Or.inl ⟨?_, z2⟩⟩
    rw [z1, g9]; exact fun w => by have := (i_lt (by omega) (by omega)).mp w; omega
  · rw [e9] at hb
    have n25 : ¬ t.2.2.1 25 k = -1 := fun w => by
      rw [z2] at w
      exact i_ne1 (by omega) w
    have h24' : t.2.2.1 24 k < t.1 9 := by rw [z1, g9]; exact (i_lt (by omega) (by omega)).mpr hb
    by_cases z : t.2.2.1 27 k = -1
    · left
      refine ⟨by simp [n25, z], h24', e27.mpr z, 24 * y + x, by omega, ?_, ?_⟩
      · rw [z2]; exact congrArg _ (by omega)
      · rw [z3]; exact congrArg _ (by omega)
    · right
      exact ⟨by simp [n25, z], Or.inr ⟨h24', fun w => z (e27.mp w)⟩⟩
theorem ce_cell {K zn nr' nS nT nC nR nP nL a : Nat} {rel : Int32} {S C CS' CM CT E RS RM' RT P G D L F : Nat → Nat} {RW : Nat → Nat → Nat} (hw : wfS s) (r : R9 (rs s.1 own 9) t) (p : R4x s.1 t K zn nr' nS nT nC nR nP nL a rel S C CS' CM CT E RS RM' RT P G D L F RW) (v1 v2 v3 : Int32) : Rg thr0 (fun X => X = 9) 9 (fun H t => R9 (H 9) t) own s t 0 0 (c_546 170 v1 v2 v3 111 s) (t_661 v1 v2 v3 t) := by
  obtain ⟨nl, nr, nd, sm, W, e, q, g, wn, sc, r⟩ := r
  have hR := R9x_ex r
  have hR0 := R9x_ex (R9_pt r 0)
  have qq := R9_raw r
  obtain ⟨⟨a1, a2, a3, a4, a5, a6, a7⟩, ⟨s1, ⟨xs, s2, s3, s4⟩, s5⟩, vb, _, hbb, _⟩ := qq
  have hv3 : (if v3 < 0 then some (0 : Int32) else (if 2 < v3 then some 0 else some 1)) = some (if inB v3 3 = true then 1 else 0) := by
    have h := rngB v3 2 2 (by omega) rfl
    rw [show inB v3 (Int32.ofNat (2 + 1)) = inB v3 3 from rfl] at h
    by_cases h1 : v3 < 0
    · rw [if_pos h1] at h ⊢; exact h
    · rw [if_neg h1] at h ⊢; exact h
  unfold c_546 t_661
  rw [c_isC, t_isC, hv3, isInB]; repeat (first | rw [Option.bind_some] | rw [Sum.elim_inl] | rw [Sum.elim_inr])
  by_cases hb : inB v1 24 = true ∧ inB v2 24 = true
  · rw [if_pos hb, if_neg (show ¬ (1 : Int32) = 0 by decide), if_neg (show ¬ (1 : Int32) = 0 by decide)]; repeat (first | rw [Option.bind_some] | rw [Sum.elim_inl] | rw [Sum.elim_inr])
    rw [need_eq]
    cases h3 : inB v3 3 with
    | false =>
      rw [if_neg (show ¬ false = true by decide)]; repeat (first | rw [Option.bind_some] | rw [Sum.elim_inl] | rw [Sum.elim_inr] | rw [if_neg (show ¬ (1 : Int32) = 0 by decide)] | rw [if_pos (show (0 : Int32) = 0 from rfl)] | rw [if_pos (show true = true from rfl)] | rw [if_neg (show ¬ false = true by decide)] | dsimp only)
      rw [goes_0]; repeat (first | rw [Option.bind_some] | rw [Sum.elim_inl] | rw [Sum.elim_inr] | rw [if_neg (show ¬ (1 : Int32) = 0 by decide)] | rw [if_pos (show (0 : Int32) = 0 from rfl)] | rw [if_pos (show true = true from rfl)] | rw [if_neg (show ¬ false = true by decide)] | dsimp only)
      exact Rg.arg (x := 0) (a := 0) (b := 0) hw hR rfl rfl (by omega) (by omega)
    | true =>
    rw [if_pos rfl, if_neg (show ¬ (1 : Int32) = 0 by decide), if_neg (show ¬ (1 : Int32) = 0 by decide)]; repeat (first | rw [Option.bind_some] | rw [Sum.elim_inl] | rw [Sum.elim_inr])
    rw [xI_o (x := t.1 1) a1 rfl rfl]; repeat (first | rw [Option.bind_some] | rw [Sum.elim_inl] | rw [Sum.elim_inr])
    rw [may_eq]
    rcases vb with z | z
    · rw [z, if_pos rfl, goes_2]; repeat (first | rw [Option.bind_some] | rw [Sum.elim_inl] | rw [Sum.elim_inr] | rw [if_neg (show ¬ (1 : Int32) = 0 by decide)] | rw [if_pos (show (0 : Int32) = 0 from rfl)] | rw [if_pos (show true = true from rfl)] | rw [if_neg (show ¬ false = true by decide)] | dsimp only)
      exact Rg.sta (x := 0) (a := 0) (b := 0) hw hR rfl rfl (by omega) (by omega)
    · have z0 : ¬ t.1 1 = 0 := by rw [z]; decide
      obtain ⟨_, _, _, _, hnm, _⟩ := hbb z0
      rw [goes_1 t z0, z, if_neg (show ¬ (1 : Int32) = 0 by decide)]; repeat (first | rw [Option.bind_some] | rw [Sum.elim_inl] | rw [Sum.elim_inr] | rw [if_neg (show ¬ (1 : Int32) = 0 by decide)] | rw [if_pos (show (0 : Int32) = 0 from rfl)] | rw [if_pos (show true = true from rfl)] | rw [if_neg (show ¬ false = true by decide)] | dsimp only)
      obtain ⟨c, hc, rfl, rfl, ec⟩ := cel_in hb
      obtain ⟨w, hw3, rfl⟩ := inB_nat (n := 3) (by omega) h3
      rcases (show w = 0 ∨ w = 1 ∨ w = 2 by omega) with rfl | rfl | rfl
      · rw [if_pos (show Int32.ofNat 0 < (2 : Int32) by decide), if_pos (show Int32.ofNat 0 < (2 : Int32) by decide), if_neg (show ¬ Int32.ofNat 0 = (1 : Int32) by decide), if_pos (show Int32.ofNat 0 = (0 : Int32) from rfl), xN_o (b := sm) a1 rfl rfl, ec]; repeat (first | rw [Option.bind_some] | rw [Sum.elim_inl] | rw [Sum.elim_inr])
        rw [if_pos (isK_t s2 rfl), bsGet_r s2 (by omega), rdI_n (by omega) (by omega)]; repeat (first | rw [Option.bind_some] | rw [Sum.elim_inl] | rw [Sum.elim_inr])
        rw [show (ptI t 0 0).2.2.1 44 c = t.2.2.1 44 c from rfl]
        have hbc : bit xs c = true ↔ t.2.2.1 44 c = 1 := by rw [s4]; exact ⟨fun h => h.2, fun h => ⟨hc, h⟩⟩
        rcases s5 c hc with w | w
        · have nb : ¬ bit xs c = true := fun h => by have := hbc.mp h; rw [w] at this; exact absurd this (by decide)
          rw [if_neg nb, if_pos rfl, w, if_pos rfl]
          exact Rg.same (x := 0) (a := 0) (b := 0) hw hR0 rfl rfl (by omega) (by omega)
        · rw [if_pos (hbc.mpr w), if_neg (by decide), w, if_neg (by decide)]
          exact Rg.same (x := 1) (a := 0) (b := 0) hw hR0 rfl rfl (by omega) (by omega)
      · rw [if_pos (show Int32.ofNat 1 < (2 : Int32) by decide), if_pos (show Int32.ofNat 1 < (2 : Int32) by decide), if_pos (show Int32.ofNat 1 = (1 : Int32) from rfl), if_neg (show ¬ Int32.ofNat 1 = (0 : Int32) by decide), xN_o (b := 175) a1 rfl rfl, ec]; repeat (first | rw [Option.bind_some] | rw [Sum.elim_inl] | rw [Sum.elim_inr])
        rw [aI_r (x := nmC t c) a6 (by omega) rfl hc (by omega) (congrArg _ (hnm c hc).2), rdI_n (by omega) (by omega)]; repeat (first | rw [Option.bind_some] | rw [Sum.elim_inl] | rw [Sum.elim_inr])
        rw [show (ptI t 0 0).2.2.1 46 c = t.2.2.1 46 c from rfl]
        have : (if t.2.2.1 46 c = 0 then some ((-1 : Int32), ptI t 0 0) else some (t.2.2.1 46 c, ptI t 0 0)) = some (nmC t c, ptI t 0 0) := by
          unfold nmC
          split <;> rfl
        rw [this]
        exact Rg.same (x := nmC t c) (a := 0) (b := 0) hw hR0 rfl rfl (by omega) (by omega)
      · rw [if_neg (show ¬ Int32.ofNat 2 < (2 : Int32) by decide), if_neg (show ¬ Int32.ofNat 2 < (2 : Int32) by decide)]
        obtain ⟨⟨mc, x1⟩, x2, x3, x4, _⟩ := p.2.1
        obtain ⟨x, y, h1, h2, rfl⟩ := wh_two (f := (fun p48 : Int32 × Int32 => (if isK s [13] 111 = true then Option.bind (alSize s 111) (fun x7 => (if p48.2 < x7 then (if isK s [13] 111 = true then Option.bind (alGet s 111 p48.2) (fun e8 => Option.bind (toN s [81] e8) (fun a9 => (if isK s [81] a9 = true then Option.bind (c_997 a9 s) (fun x10 => Option.bind ((if x10 = 0 then some (0 : Int32) else Option.bind (xI s [(81, 4)] a9) (fun x11 => (if x11 = (cX c) then Option.bind (xI s [(81, 5)] a9) (fun x12 => (if x12 = (cY c) then some (1 : Int32) else some (0 : Int32))) else some (0 : Int32))))) (fun v72 => some (Sum.inl (β := Int32) (p48.1 + v72, p48.2 + 1)))) else none))) else none) else some (.inr p48.1))) else none))) (g := (fun p54 : Int32 × Int32 => (if p54.2 < ((ptI t 0 0).1 27) then Option.bind (rdI (ptI t 0 0) 25 40 p54.2) (fun x4 => Option.bind ((if x4 = (cX c) then Option.bind (rdI (ptI t 0 0) 26 40 p54.2) (fun x5 => (if x5 = (cY c) then Option.bind (rdI (ptI t 0 0) 27 40 p54.2) (fun x6 => (if x6 < 0 then some (1 : Int32) else some (0 : Int32))) else some (0 : Int32))) else some (0 : Int32))) (fun v79 => some (Sum.inl (β := Int32) (p54.1 + v79, p54.2 + 1)))) else some (.inr p54.1)))) (a := ((0 : Int32), (0 : Int32))) (b := ((0 : Int32), (0 : Int32))) (Q := fun x y => x = y) nS (fun k x y => x = y ∧ x.2 = Int32.ofNat k) (by
          rintro k ⟨i, _⟩ ⟨_, _⟩ hk ⟨e, rfl⟩
          obtain ⟨rfl, rfl⟩ := Prod.ext_iff.mp e
          right
          obtain ⟨dS, okS, _⟩ := x4 k hk
          have hv : ∃ v : Int32, (∀ {A : Type} (f : Int32 → Option A), Option.bind (c_997 (S k) s) (fun x10 => Option.bind ((if x10 = 0 then some (0 : Int32) else (if t.2.2.1 25 k = cX c then (if t.2.2.1 26 k = cY c then some 1 else some 0) else some 0))) f) = f v) ∧ (∀ {A : Type} (f : Int32 → Option A), Option.bind (if t.2.2.1 25 k = cX c then (if t.2.2.1 26 k = cY c then (if t.2.2.1 27 k < 0 then some (1 : Int32) else some 0) else some 0) else some 0) f = f v) := by
            have ncX : ¬ (-1 : Int32) = cX c := fun h => i_ne1 (k := c % 24) (by omega) h.symm
            rcases in_p p hk with ⟨g1, g2, g3, _⟩ | ⟨g1, ⟨g2, g3⟩ | ⟨g2, g3⟩⟩
            · refine ⟨if t.2.2.1 25 k = cX c then (if t.2.2.1 26 k = cY c then 1 else 0) else 0, fun f => ?_, fun f => ?_⟩
              · rw [g1, Option.bind_some, if_neg (by decide)]
                split
                · split <;> rfl
                · rfl
              · rw [if_pos g3]
                split
                · split <;> rfl
                · rfl
            · refine ⟨0, fun f => by rw [g1]; rfl, fun f => ?_⟩
              rw [g3, if_neg ncX]; rfl
            · refine ⟨0, fun f => by rw [g1]; rfl, fun f => ?_⟩
              rw [if_neg g3]
              split
              · split <;> rfl
              · rfl
          obtain ⟨v, hv2, hv3⟩ := hv
          refine ⟨(i + v, Int32.ofNat (k + 1)), (i + v, Int32.ofNat (k + 1)), ?_, ?_, rfl, rfl⟩
          · dsimp only
            rw [if_pos (isK_t x1 rfl), alSize_r x1, Option.bind_some, if_pos ((i_lt (by omega) (by omega)).mpr hk), if_pos (isK_t x1 rfl), alGet_r x1 hk (by omega), Option.bind_some, toN_o dS rfl, Option.bind_some, if_pos (isK_t dS rfl), xI_o (x := t.2.2.1 25 k) dS rfl rfl, xI_o (x := t.2.2.1 26 k) dS rfl rfl, Option.bind_some, Option.bind_some, hv2, i_suc]
          · dsimp only
            rw [show (ptI t 0 0).1 27 = t.1 27 from rfl, x2, if_pos ((i_lt (by omega) (by omega)).mpr hk), rdI_n (by omega) (by omega), rdI_n (by omega) (by omega), rdI_n (by omega) (by omega), Option.bind_some, Option.bind_some, Option.bind_some]
            refine (hv3 _).trans ?_
            rw [i_suc]) (by
          rintro ⟨i, _⟩ ⟨_, _⟩ ⟨e, rfl⟩
          obtain ⟨rfl, rfl⟩ := Prod.ext_iff.mp e
          refine ⟨i, i, ?_, ?_, rfl⟩
          · dsimp only
            rw [if_pos (isK_t x1 rfl), alSize_r x1, Option.bind_some, if_neg (fun z => by have := (i_lt (by omega) (by omega)).mp z; omega)]
          · dsimp only
            rw [show (ptI t 0 0).1 27 = t.1 27 from rfl, x2, if_neg (fun z => by have := (i_lt (by omega) (by omega)).mp z; omega)]) ⟨rfl, rfl⟩
        rw [h1, h2]
        exact Rg.same (x := x) (a := 0) (b := 0) hw hR0 rfl rfl (by omega) (by omega)
  · rw [if_neg hb, if_pos rfl, if_pos rfl]; repeat (first | rw [Option.bind_some] | rw [Sum.elim_inl] | rw [Sum.elim_inr])
    rw [need_eq, if_pos rfl, goes_0]; repeat (first | rw [Option.bind_some] | rw [Sum.elim_inl] | rw [Sum.elim_inr] | rw [if_neg (show ¬ (1 : Int32) = 0 by decide)] | rw [if_pos (show (0 : Int32) = 0 from rfl)] | rw [if_pos (show true = true from rfl)] | rw [if_neg (show ¬ false = true by decide)] | dsimp only)
    exact Rg.arg (x := 0) (a := 0) (b := 0) hw hR rfl rfl (by omega) (by omega)
end
