/-! permits: fractions in lowest terms -/
section
variable {s : CS} {t : TS}
noncomputable def frU (u l : Int64) : Int64 := if l / gda u l < 0 then -(u / gda u l) else u / gda u l
noncomputable def frL (u l : Int64) : Int64 := if l / gda u l < 0 then -(l / gda u l) else l / gda u l
noncomputable def frO (u l : Int64) : Bool := decide (l / gda u l < 0) && (decide (u / gda u l = Int64.minValue) || decide (l / gda u l = Int64.minValue))
/-- a new fraction -/
def frN (s : CS) (x y : Int64) : CS := (lUpd s.1 s.2.1 (true, false, 76, [.long x, .long y]), s.2.1 + 1, s.2.2.1 + 1, s.2.2.2 + 2)
theorem ovS_0 (x : Int64) : ovS 0 x = decide (x = Int64.minValue) := by
  unfold ovS
  have rx := l_rng x
  have e0 : (0 : Int64).toInt = 0 := rfl
  have em : (Int64.minValue).toInt = -9223372036854775808 := by decide
  by_cases h : x = Int64.minValue
  · rw [h]; decide
  · have hx : x.toInt ≠ -9223372036854775808 := fun w => h (Int64.toInt_inj.mp (w.trans em.symm))
    have e1 : (0 - x).toInt = -x.toInt := by
      rw [Int64.toInt_sub, e0, Int.bmod_eq_of_le (by omega) (by omega)]; omega
    rw [decide_eq_false h]
    by_cases h2 : x < 0
    · have h3 : ¬ (0 - x < 0) := by
        rw [Int64.lt_iff_toInt_lt] at h2 ⊢
        rw [e1, e0]; rw [e0] at h2; omega
      rw [decide_eq_true h2, decide_eq_false h3, decide_eq_false (show ¬ (0 : Int64) < 0 from Int64.lt_irrefl)]; rfl
    · rw [decide_eq_false h2, decide_eq_false (show ¬ (0 : Int64) < 0 from Int64.lt_irrefl)]; rfl
theorem l_0sub (x : Int64) : 0 - x = -x := Int64.zero_sub x
theorem c_frac {u l : Int64} (h : l ≠ 0) : c_959 u l s = if frO u l = true then some (.inr (s.2.1, exAr s)) else some (.inl (s.2.1, frN s (frU u l) (frL u l))) := by
  have nx : ∀ x y : Int64, Option.bind (some (nw s 76 [.long 0, .long 0])) (fun n6 => (if isK n6.2 [76] n6.1 = true then Option.bind (c_961 n6.1 x y n6.2) (fun x7 => (some (.inl (n6.1, x7)) : Option (Sum (Nat × CS) (Nat × CS)))) else none)) = some (.inl (s.2.1, frN s x y)) := fun x y => by
    simp [nw, nwc, c_961, xP, lUpd_at, lLook, cup, lUpdU, frN, isK, kdo]
  unfold c_959
  rw [c_gd, Option.bind_some, if_neg (gda_ne h), if_neg (gda_ne h)]
  unfold frO frU frL
  by_cases z : l / gda u l < 0
  · rw [if_pos ((lc_neg _ _).mpr z), c_subX, ovS_0]
    by_cases y : u / gda u l = Int64.minValue
    · simp [z, y]
    · rw [if_neg (show ¬ decide (u / gda u l = Int64.minValue) = true by simp [y]), Option.bind_some, Sum.elim_inl]
      dsimp only
      rw [c_subX, ovS_0]
      by_cases w : l / gda u l = Int64.minValue
      · rw [if_pos (show decide (l / gda u l = Int64.minValue) = true from decide_eq_true w), Option.bind_some, Sum.elim_inr, Option.bind_some, Sum.elim_inr, if_pos (show (decide (l / gda u l < 0) && (decide (u / gda u l = Int64.minValue) || decide (l / gda u l = Int64.minValue))) = true by rw [decide_eq_true z, decide_eq_true w, Bool.or_true]; rfl)]
      · rw [if_neg (show ¬ decide (l / gda u l = Int64.minValue) = true by rw [decide_eq_false w]; decide), Option.bind_some, Sum.elim_inl, Option.bind_some, Sum.elim_inl]
        dsimp only
        rw [nx, if_neg (show ¬ (decide (l / gda u l < 0) && (decide (u / gda u l = Int64.minValue) || decide (l / gda u l = Int64.minValue))) = true by rw [decide_eq_false y, decide_eq_false w, Bool.or_false, Bool.and_false]; decide), if_pos z, if_pos z, l_0sub, l_0sub]
  · rw [if_neg (fun w => z ((lc_neg _ _).mp w)), Option.bind_some, Sum.elim_inl]
    dsimp only
    rw [nx]
    simp [z]
end
