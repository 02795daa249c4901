/-! permits: a side's loop, the reference -/
section
variable {t T S U : TS} {x : List Nat}
noncomputable def sdF : TS × Int32 × Int32 × Int32 × Int32 → Option (Sum (TS × Int32 × Int32 × Int32 × Int32) TS) := fun p11 => (if p11.2.2.2.2 = 0 then some (.inr p11.1) else (if (p11.1.1 231) = 0 then Option.bind (α := Int32) (t_744 (p11.1.1 228) p11.1) (fun x2 => Option.bind (α := TS × Int32 × Int32 × Int32 × Int32) (Option.bind (α := Sum (Unit) (TS × Int32 × Int32 × Int32 × Int32)) ((if p11.2.2.2.1 = 0 then some (.inl ()) else (if p11.2.2.1 = 0 then some (.inl ()) else (if (p11.1.1 228) = 45 then Option.bind (α := TS) (t_745 0 0 p11.1) (fun x3 => Option.bind (α := TS) (stI x3 96 200 (x3.1 236) 3) (fun s4 => Option.bind (α := TS) (some (ptI s4 236 ((s4.1 236) + 1))) (fun s5 => Option.bind (α := TS) (t_741 1 s5) (fun x6 => some (.inr (x6, p11.2.1, 0, p11.2.2.2.1, p11.2.2.2.2)))))) else some (.inl ()))))) (Sum.elim (fun v50 => Option.bind (α := Sum (Unit) (TS × Int32 × Int32 × Int32 × Int32)) ((if p11.2.2.2.1 = 0 then some (.inl ()) else (if (p11.1.1 228) = 40 then Option.bind (α := Int32) ((if p11.2.1 = 8 then some 1 else some 0)) (fun v63 => (if v63 = 0 ∨ v63 = 1 then Option.bind (α := TS) (some (ptI p11.1 231 v63)) (fun s7 => Option.bind (α := TS) (stI s7 96 200 (s7.1 236) 1) (fun s8 => Option.bind (α := TS) (some (ptI s8 236 ((s8.1 236) + 1))) (fun s9 => Option.bind (α := TS) (t_741 1 s9) (fun x10 => some (.inr (x10, p11.2.1 + 1, 1, p11.2.2.2.1, p11.2.2.2.2)))))) else none)) else some (.inl ())))) (Sum.elim (fun v83 => (if p11.2.2.2.1 = 0 then (if 0 < x2 then Option.bind (α := Int32) ((if 3 < x2 then some 2 else some 1)) (fun v121 => Option.bind (α := TS) (t_746 v121 p11.1) (fun x15 => Option.bind (α := TS) (stI x15 96 200 (x15.1 236) x2) (fun s16 => Option.bind (α := TS) (some (ptI s16 236 ((s16.1 236) + 1))) (fun s17 => Option.bind (α := TS) (t_741 1 s17) (fun x18 => some (x18, p11.2.1, 0, 1, p11.2.2.2.2)))))) else Option.bind (α := Sum (Unit) (TS × Int32 × Int32 × Int32 × Int32)) ((if (p11.1.1 228) = 41 then (if 0 < p11.2.1 then Option.bind (α := TS) (t_746 1 p11.1) (fun x11 => Option.bind (α := TS) (some (ptI x11 236 ((x11.1 236) - 1))) (fun s12 => Option.bind (α := TS) (t_741 1 s12) (fun x13 => some (.inr (x13, p11.2.1 - 1, p11.2.2.1, p11.2.2.2.1, p11.2.2.2.2))))) else some (.inl ())) else some (.inl ()))) (Sum.elim (fun v162 => Option.bind (α := Int32) ((if 0 < p11.2.1 then some 1 else some 0)) (fun v168 => (if v168 = 0 ∨ v168 = 1 then Option.bind (α := TS) (some (ptI p11.1 231 v168)) (fun s14 => some (s14, p11.2.1, p11.2.2.1, p11.2.2.2.1, 0)) else none))) (fun z => some z))) else Option.bind (α := Int32) ((if (p11.1.1 228) = 1 then some 0 else some 1)) (fun v93 => Option.bind (α := TS) (t_745 v93 (p11.1.2.1 229) p11.1) (fun x19 => Option.bind (α := Int32) ((if (x19.1 228) = 1 then some 1 else (if (x19.1 228) = 2 then some 1 else some 0))) (fun v110 => Option.bind (α := TS) (t_741 v110 x19) (fun x20 => some (x20, p11.2.1, p11.2.2.1, 0, p11.2.2.2.2))))))) (fun z => some z))) (fun z => some z))) (fun v171 => some (.inl (v171.1, v171.2.1, v171.2.2.1, v171.2.2.2.1, v171.2.2.2.2)))) else some (.inr p11.1)))
theorem t_743_eq (s : TS) : t_743 s = Option.bind (some (ptI s 236 0)) (fun s1 => Option.bind (wh sdF (s1, 0, 1, 1, 1)) (fun v172 => Option.bind (t_746 1 v172) (fun x21 => some x21))) := rfl
def opN (K : Nat) : Nat := if K = 43 then 2 else if K = 45 then 3 else if K = 42 then 4 else if K = 47 then 5 else 0
theorem t_744g {K : Nat} (hK : K < 1000) : t_744 (Int32.ofNat K) T = some (Int32.ofNat (opN K)) := by
  unfold t_744 opN
  have a : Int32.ofNat K = 43 ↔ K = 43 := i_inj (j := K) (k := 43) (by omega) (by decide)
  have b : Int32.ofNat K = 45 ↔ K = 45 := i_inj (j := K) (k := 45) (by omega) (by decide)
  have c : Int32.ofNat K = 42 ↔ K = 42 := i_inj (j := K) (k := 42) (by omega) (by decide)
  have d : Int32.ofNat K = 47 ↔ K = 47 := i_inj (j := K) (k := 47) (by omega) (by decide)
  by_cases h1 : K = 43
  · rw [if_pos (a.mpr h1), if_pos h1]; rfl
  · by_cases h2 : K = 45
    · rw [if_neg (fun w => h1 (a.mp w)), if_pos (b.mpr h2), if_neg h1, if_pos h2]; rfl
    · by_cases h3 : K = 42
      · rw [if_neg (fun w => h1 (a.mp w)), if_neg (fun w => h2 (b.mp w)), if_pos (c.mpr h3), if_neg h1, if_neg h2, if_pos h3]; rfl
      · by_cases h4 : K = 47
        · rw [if_neg (fun w => h1 (a.mp w)), if_neg (fun w => h2 (b.mp w)), if_neg (fun w => h3 (c.mp w)), if_pos (d.mpr h4), if_neg h1, if_neg h2, if_neg h3, if_pos h4]; rfl
        · rw [if_neg (fun w => h1 (a.mp w)), if_neg (fun w => h2 (b.mp w)), if_neg (fun w => h3 (c.mp w)), if_neg (fun w => h4 (d.mp w)), if_neg h1, if_neg h2, if_neg h3, if_neg h4]; rfl
theorem sd_out0 (d f w : Int32) : sdF (T, d, f, w, 0) = some (.inr T) := if_pos rfl
theorem sd_out (d f w : Int32) (h : T.1 231 = 1) : sdF (T, d, f, w, 1) = some (.inr T) := by
  unfold sdF
  dsimp only
  rw [if_neg (show ¬ (1 : Int32) = 0 by decide), h, if_neg (show ¬ (1 : Int32) = 0 by decide)]
theorem sd_minus {K : Nat} (h231 : T.1 231 = 0) (h228 : T.1 228 = Int32.ofNat K) (hK : K < 400) (d : Int32) (k45 : K = 45) : sdF (T, d, 1, 1, 1) = Option.bind (t_745 0 0 T) (fun x3 => Option.bind (stI x3 96 200 (x3.1 236) 3) (fun s4 => Option.bind (some (ptI s4 236 ((s4.1 236) + 1))) (fun s5 => Option.bind (t_741 1 s5) (fun x6 => some (.inl (x6, d, 0, 1, 1)))))) := by
  unfold sdF
  dsimp only
  rw [if_neg (show ¬ (1 : Int32) = 0 by decide), h231, if_pos rfl, h228, t_744g (by omega), Option.bind_some, if_neg (show ¬ (1 : Int32) = 0 by decide), if_neg (show ¬ (1 : Int32) = 0 by decide), if_pos (show Int32.ofNat K = 45 by rw [k45]; rfl)]
  cases h1 : t_745 0 0 T with
  | none => rfl
  | some a =>
    rw [Option.bind_some, Option.bind_some]
    cases h2 : stI a 96 200 (a.1 236) 3 with
    | none => rfl
    | some b =>
      rw [Option.bind_some, Option.bind_some, Option.bind_some, Option.bind_some]
      cases h3 : t_741 1 (ptI b 236 (b.1 236 + 1)) with
      | none => rfl
      | some c => rfl
theorem sd_open {K : Nat} (h231 : T.1 231 = 0) (h228 : T.1 228 = Int32.ofNat K) (hK : K < 400) (d f : Int32) (nf : ¬ (f ≠ 0 ∧ K = 45)) (k40 : K = 40) {v : Int32} (hv : (if d = 8 then (1 : Int32) else 0) = v) : sdF (T, d, f, 1, 1) = Option.bind (stI (ptI T 231 v) 96 200 ((ptI T 231 v).1 236) 1) (fun s8 => Option.bind (some (ptI s8 236 ((s8.1 236) + 1))) (fun s9 => Option.bind (t_741 1 s9) (fun x10 => some (.inl (x10, d + 1, 1, 1, 1))))) := by
  have n45 : ¬ Int32.ofNat K = 45 := fun w => by have := (i_inj (j := K) (k := 45) (by omega) (by decide)).mp w; omega
  have dv : (if d = 8 then some (1 : Int32) else some 0) = some v := by
    rw [← hv]
    by_cases z : d = 8
    · rw [if_pos z, if_pos z]
    · rw [if_neg z, if_neg z]
  have v01 : v = 0 ∨ v = 1 := by
    rw [← hv]
    by_cases z : d = 8
    · rw [if_pos z]; exact Or.inr rfl
    · rw [if_neg z]; exact Or.inl rfl
  unfold sdF
  dsimp only
  rw [if_neg (show ¬ (1 : Int32) = 0 by decide), h231, if_pos rfl, h228, t_744g (by omega), Option.bind_some, if_neg (show ¬ (1 : Int32) = 0 by decide)]
  have f1 : ∀ {A : Type} {a b : Option (Sum Unit A)}, (a = b) → (if f = 0 then b else a) = b := fun {A a b} h => by
    by_cases z : f = 0
    · rw [if_pos z]
    · rw [if_neg z, h]
  rw [f1 (if_neg n45), Option.bind_some, Sum.elim_inl, if_neg (show ¬ (1 : Int32) = 0 by decide), if_pos (show Int32.ofNat K = 40 by rw [k40]; rfl), dv, Option.bind_some, if_pos v01, Option.bind_some]
  cases h2 : stI (ptI T 231 v) 96 200 ((ptI T 231 v).1 236) 1 with
  | none => rfl
  | some b =>
    rw [Option.bind_some, Option.bind_some, Option.bind_some, Option.bind_some]
    cases h3 : t_741 1 (ptI b 236 (b.1 236 + 1)) with
    | none => rfl
    | some c => rfl
theorem sd_val {K : Nat} (h231 : T.1 231 = 0) (h228 : T.1 228 = Int32.ofNat K) (hK : K < 400) (d f : Int32) (nf : ¬ (f ≠ 0 ∧ K = 45)) (k40 : K ≠ 40) : sdF (T, d, f, 1, 1) = Option.bind (t_745 (if K = 1 then 0 else 1) (T.2.1 229) T) (fun x19 => Option.bind ((if (x19.1 228) = 1 then some 1 else (if (x19.1 228) = 2 then some 1 else some 0))) (fun v110 => Option.bind (t_741 v110 x19) (fun x20 => some (.inl (x20, d, f, 0, 1))))) := by
  have n40 : ¬ Int32.ofNat K = 40 := fun w => by have := (i_inj (j := K) (k := 40) (by omega) (by decide)).mp w; omega
  have e1 : (if Int32.ofNat K = 1 then some (0 : Int32) else some 1) = some (if K = 1 then 0 else 1) := by
    by_cases z : K = 1
    · rw [if_pos (show Int32.ofNat K = 1 by rw [z]; rfl), if_pos z]
    · rw [if_neg (show ¬ Int32.ofNat K = 1 from fun w => z ((i_inj (j := K) (k := 1) (by omega) (by decide)).mp w)), if_neg z]
  have f1 : ∀ {A : Type} {a b : Option (Sum Unit A)}, (¬ K = 45 → a = b) → (if f = 0 then b else a) = b := fun {A a b} h => by
    by_cases z : f = 0
    · rw [if_pos z]
    · rw [if_neg z, h (fun w => nf ⟨z, w⟩)]
  unfold sdF
  dsimp only
  rw [if_neg (show ¬ (1 : Int32) = 0 by decide), h231, if_pos rfl, h228, t_744g (by omega), Option.bind_some, if_neg (show ¬ (1 : Int32) = 0 by decide)]
  rw [f1 (fun k45 => if_neg (show ¬ Int32.ofNat K = 45 from fun w => k45 ((i_inj (j := K) (k := 45) (by omega) (by decide)).mp w))), Option.bind_some, Sum.elim_inl, if_neg (show ¬ (1 : Int32) = 0 by decide), if_neg n40, Option.bind_some, Sum.elim_inl, if_neg (show ¬ (1 : Int32) = 0 by decide), e1, Option.bind_some]
  cases h1 : t_745 (if K = 1 then 0 else 1) (T.2.1 229) T with
  | none => rfl
  | some a =>
    rw [Option.bind_some, Option.bind_some]
    cases h2 : (if (a.1 228) = 1 then some (1 : Int32) else (if (a.1 228) = 2 then some 1 else some 0)) with
    | none => rfl
    | some b =>
      rw [Option.bind_some, Option.bind_some]
      cases h3 : t_741 b a with
      | none => rfl
      | some c => rfl
theorem sd_op {K : Nat} (h231 : T.1 231 = 0) (h228 : T.1 228 = Int32.ofNat K) (hK : K < 400) (d f : Int32) (ho : 0 < opN K) : sdF (T, d, f, 0, 1) = Option.bind (t_746 (if 3 < opN K then 2 else 1) T) (fun x15 => Option.bind (stI x15 96 200 (x15.1 236) (Int32.ofNat (opN K))) (fun s16 => Option.bind (some (ptI s16 236 ((s16.1 236) + 1))) (fun s17 => Option.bind (t_741 1 s17) (fun x18 => some (.inl (x18, d, 0, 1, 1)))))) := by
  have o5 : opN K ≤ 5 := by unfold opN; split <;> (try split) <;> (try split) <;> (try split) <;> omega
  have e1 : (if (3 : Int32) < Int32.ofNat (opN K) then some (2 : Int32) else some 1) = some (if 3 < opN K then 2 else 1) := by
    by_cases z : 3 < opN K
    · rw [if_pos (show (3 : Int32) < Int32.ofNat (opN K) from (i_lt (j := 3) (by decide) (by omega)).mpr z), if_pos z]
    · rw [if_neg (show ¬ (3 : Int32) < Int32.ofNat (opN K) from fun w => z ((i_lt (j := 3) (by decide) (by omega)).mp w)), if_neg z]
  unfold sdF
  dsimp only
  rw [if_neg (show ¬ (1 : Int32) = 0 by decide), h231, if_pos rfl, h228, t_744g (by omega), Option.bind_some, if_pos rfl, Option.bind_some, Sum.elim_inl, if_pos rfl, Option.bind_some, Sum.elim_inl, if_pos rfl, if_pos (show (0 : Int32) < Int32.ofNat (opN K) from (i_lt (j := 0) (by decide) (by omega)).mpr ho), e1, Option.bind_some]
  cases h1 : t_746 (if 3 < opN K then 2 else 1) T with
  | none => rfl
  | some a =>
    rw [Option.bind_some, Option.bind_some]
    cases h2 : stI a 96 200 (a.1 236) (Int32.ofNat (opN K)) with
    | none => rfl
    | some b =>
      rw [Option.bind_some, Option.bind_some, Option.bind_some, Option.bind_some]
      cases h3 : t_741 1 (ptI b 236 (b.1 236 + 1)) with
      | none => rfl
      | some c => rfl
theorem sd_close {K : Nat} (h231 : T.1 231 = 0) (h228 : T.1 228 = Int32.ofNat K) (hK : K < 400) (d f : Int32) (ho : opN K = 0) (k41 : K = 41) (hd : 0 < d) : sdF (T, d, f, 0, 1) = Option.bind (t_746 1 T) (fun x11 => Option.bind (some (ptI x11 236 ((x11.1 236) - 1))) (fun s12 => Option.bind (t_741 1 s12) (fun x13 => some (.inl (x13, d - 1, f, 0, 1))))) := by
  unfold sdF
  dsimp only
  rw [if_neg (show ¬ (1 : Int32) = 0 by decide), h231, if_pos rfl, h228, t_744g (by omega), Option.bind_some, if_pos rfl, Option.bind_some, Sum.elim_inl, if_pos rfl, Option.bind_some, Sum.elim_inl, if_pos rfl, ho, if_neg (show ¬ (0 : Int32) < Int32.ofNat 0 by decide), if_pos (show Int32.ofNat K = 41 by rw [k41]; rfl), if_pos hd]
  cases h1 : t_746 1 T with
  | none => rfl
  | some a =>
    rw [Option.bind_some, Option.bind_some, Option.bind_some, Option.bind_some]
    cases h3 : t_741 1 (ptI a 236 (a.1 236 - 1)) with
    | none => rfl
    | some c => rfl
theorem sd_end {K : Nat} (h231 : T.1 231 = 0) (h228 : T.1 228 = Int32.ofNat K) (hK : K < 400) (d f : Int32) (ho : opN K = 0) (k41 : ¬ (K = 41 ∧ 0 < d)) : sdF (T, d, f, 0, 1) = some (.inl (ptI T 231 (if 0 < d then 1 else 0), d, f, 0, 0)) := by
  unfold sdF
  dsimp only
  have e2 : ∀ {A : Type} {a b : Option (Sum Unit A)}, (if Int32.ofNat K = 41 then (if 0 < d then a else b) else b) = b := fun {A a b} => by
    by_cases z : Int32.ofNat K = 41
    · rw [if_pos z, if_neg (fun w => k41 ⟨(i_inj (j := K) (k := 41) (by omega) (by decide)).mp z, w⟩)]
    · rw [if_neg z]
  have e3 : (if 0 < d then some (1 : Int32) else some 0) = some (if 0 < d then 1 else 0) := by
    by_cases z : 0 < d
    · rw [if_pos z, if_pos z]
    · rw [if_neg z, if_neg z]
  have v01 : (if 0 < d then (1 : Int32) else 0) = 0 ∨ (if 0 < d then (1 : Int32) else 0) = 1 := by
    by_cases z : 0 < d
    · rw [if_pos z]; exact Or.inr rfl
    · rw [if_neg z]; exact Or.inl rfl
  rw [if_neg (show ¬ (1 : Int32) = 0 by decide), h231, if_pos rfl, h228, t_744g (by omega), Option.bind_some, if_pos rfl, Option.bind_some, Sum.elim_inl, if_pos rfl, Option.bind_some, Sum.elim_inl, if_pos rfl, ho, if_neg (show ¬ (0 : Int32) < Int32.ofNat 0 by decide), e2, Option.bind_some, Sum.elim_inl, e3, Option.bind_some, if_pos v01]
  rfl
end
