/-! permits: the component's operations -/
section
variable {s : CS}
/-- the exception that something is open -/
def exOp (s : CS) (k : Int32) (nm : Nat) : CS := (lUpd s.1 s.2.1 (true, false, 75, [.ref s.2.1, .ref 17, .ref 18, .ref nm, .null, .int 0, .int k, .ref nm]), s.2.1 + 1, s.2.2.1 + 1, s.2.2.2 + 8)
theorem ex_75 (k : Int32) (nm : Nat) : Option.bind (some (nw s 75 [.null, .null, .null, .null, .null, .int 0, .int 0, .null])) (fun n12 => (if isK n12.2 [75] n12.1 = true then Option.bind (c_958 n12.1 k nm n12.2) (fun x13 => (if isX x13 n12.1 = true then (some (.inr (n12.1, x13)) : Option (Sum (Nat × CS) (Nat × CS))) else none)) else none)) = some (.inr (s.2.1, exOp s k nm)) := by
  simp [nw, nwc, c_958, c_68, c_67, xP, lUpd_at, lLook, cup, lUpdU, exOp, isK, kdo, isX, isF, fillT1, fillT2]
/-- what is answered, told by what it is -/
noncomputable def frX (s : CS) (r : Int32 × Int64 × Int64) : Sum (Nat × CS) (Nat × CS) := if r.1 = 0 then .inl (s.2.1, frN s r.2.1 r.2.2) else if r.1 = 2 then .inr (s.2.1, exAr s) else .inr (s.2.1, exOp s r.1 91)
theorem c_fracX {u l : Int64} (h : l ≠ 0) : c_959 u l s = some (frX s (frR u l)) := by
  rw [c_frac h]
  unfold frX frR
  by_cases z : frO u l = true
  · rw [if_pos z, if_pos z]; rfl
  · rw [if_neg z, if_neg z]; rfl
theorem frX_e (r : Int32 × Int64 × Int64) : Option.bind (some (frX s r)) (Sum.elim (fun x9 => some (.inl (x9.1, x9.2))) (fun q10 => (some (.inr (q10.1, q10.2)) : Option (Sum (Nat × CS) (Nat × CS))))) = some (frX s r) := by
  rw [Option.bind_some]
  cases frX s r <;> rfl
theorem mulG {A : Type} (a b : Int64) (f : Int64 × CS → Option (Sum A (Nat × CS))) : Option.bind (c_52 a b s) (Sum.elim f (fun q => some (.inr (q.1, q.2)))) = if ovM a b = true then some (.inr (s.2.1, exAr s)) else f (a * b, s) := by
  rw [c_mulX]
  by_cases z : ovM a b = true
  · rw [if_pos z, if_pos z]; rfl
  · rw [if_neg z, if_neg z]; rfl
theorem frX_P (o : Bool) (r : Int32 × Int64 × Int64) : frX s (frP o r) = if o = true then .inr (s.2.1, exAr s) else frX s r := by
  cases o <;> rfl
theorem ifS {A : Type} (o : Bool) (x y : A) : (if o = true then some x else some y) = some (if o = true then x else y) := by
  cases o <;> rfl
variable {a b : Nat} {x y z w : Int64}
def FrC (s : CS) (a : Nat) (x y : Int64) : Prop := s.1 a = some (true, false, 76, [.long x, .long y])
theorem c_tms (h0 : FrC s a x y) (h1 : FrC s b z w) (hy : y ≠ 0) (hw : w ≠ 0) : c_963 a b s = some (frX s (frop 4 x y z w)) := by
  unfold c_963 frop
  rw [if_neg (by decide), if_pos rfl, xL_o h0 rfl rfl, Option.bind_some, xL_o h1 rfl rfl, Option.bind_some, mulG, frX_P]
  by_cases p : ovM x z = true
  · rw [if_pos p, if_pos p]
  · rw [if_neg p, if_neg p]
    dsimp only
    rw [xL_o h0 rfl rfl, Option.bind_some, xL_o h1 rfl rfl, Option.bind_some, mulG, frX_P]
    by_cases q : ovM y w = true
    · rw [if_pos q, if_pos q]
    · rw [if_neg q, if_neg q]
      dsimp only
      rw [c_fracX (ovM_ne q hy hw), frX_e]
theorem c_byX (h0 : FrC s a x y) (h1 : FrC s b z w) (hy : y ≠ 0) : c_964 a b s = some (frX s (frop 5 x y z w)) := by
  unfold c_964 frop
  rw [if_pos rfl, xL_o h1 rfl rfl, Option.bind_some]
  by_cases z0 : z = 0
  · rw [if_pos ((lc_0 _ _).mpr z0), if_pos z0, ex_75]; rfl
  · rw [if_neg (fun v => z0 ((lc_0 _ _).mp v)), if_neg z0, xL_o h0 rfl rfl, Option.bind_some, xL_o h1 rfl rfl, Option.bind_some, mulG, frX_P]
    by_cases p : ovM x w = true
    · rw [if_pos p, if_pos p]
    · rw [if_neg p, if_neg p]
      dsimp only
      rw [xL_o h0 rfl rfl, Option.bind_some, xL_o h1 rfl rfl, Option.bind_some, mulG, frX_P]
      by_cases q : ovM y z = true
      · rw [if_pos q, if_pos q]
      · rw [if_neg q, if_neg q]
        dsimp only
        rw [c_fracX (ovM_ne q hy z0), frX_e]
theorem c_plsX (h0 : FrC s a x y) (h1 : FrC s b z w) (hy : y ≠ 0) (hw : w ≠ 0) (v : Int32) : c_962 a b v s = some (frX s (frop (if v = 0 then 2 else 3) x y z w)) := by
  unfold c_962
  rw [xL_o h0 rfl rfl, Option.bind_some, xL_o h1 rfl rfl, Option.bind_some, mulG]
  have fin : ∀ r : Int64, ovM y w = true ∨ ¬ ovM y w = true → Option.bind (xL s [(76, 1)] a) (fun x13 => Option.bind (xL s [(76, 1)] b) (fun x14 => Option.bind (c_52 x13 x14 s) (Sum.elim (fun x15 => Option.bind (c_959 r x15.1 x15.2) (Sum.elim (fun x17 => some (.inl (x17.1, x17.2))) (fun q18 => some (.inr (q18.1, q18.2))))) (fun q16 => (some (.inr (q16.1, q16.2)) : Option (Sum (Nat × CS) (Nat × CS))))))) = some (frX s (frP (ovM y w) (frR r (y * w)))) := fun r hq => by
    rw [xL_o h0 rfl rfl, Option.bind_some, xL_o h1 rfl rfl, Option.bind_some, mulG, frX_P]
    rcases hq with q | q
    · rw [if_pos q, if_pos q]
    · rw [if_neg q, if_neg q]
      dsimp only
      rw [c_fracX (ovM_ne q hy hw), frX_e]
  by_cases p : ovM x w = true
  · rw [if_pos p]
    unfold frop
    by_cases v0 : v = 0
    · rw [if_pos v0, if_neg (by decide), if_neg (by decide), if_neg (by decide), frX_P, if_pos p]
    · rw [if_neg v0, if_neg (by decide), if_neg (by decide), if_pos rfl, frX_P, if_pos p]
  · rw [if_neg p]
    dsimp only
    rw [xL_o h1 rfl rfl, Option.bind_some, xL_o h0 rfl rfl, Option.bind_some, mulG]
    unfold frop
    by_cases v0 : v = 0
    · simp only [if_pos v0]
      rw [if_neg (show ¬ (2 : Int32) = 5 by decide), if_neg (show ¬ (2 : Int32) = 4 by decide), if_neg (show ¬ (2 : Int32) = 3 by decide), frX_P, if_neg p, frX_P]
      by_cases q : ovM z y = true
      · rw [if_pos q, if_pos q]
      · rw [if_neg q, if_neg q]
        rw [c_addX, frX_P]
        by_cases o : ovA (x * w) (z * y) = true
        · rw [if_pos o, if_pos o]; rfl
        · rw [if_neg o, if_neg o, Option.bind_some, Sum.elim_inl, Option.bind_some, Sum.elim_inl]
          exact fin _ (Decidable.em _)
    · simp only [if_neg v0]
      rw [if_neg (show ¬ (3 : Int32) = 5 by decide), if_neg (show ¬ (3 : Int32) = 4 by decide), if_pos trivial, frX_P, if_neg p, frX_P]
      by_cases q : ovM z y = true
      · rw [if_pos q, if_pos q]
      · rw [if_neg q, if_neg q]
        rw [c_subX, frX_P]
        by_cases o : ovS (x * w) (z * y) = true
        · rw [if_pos o, if_pos o]; rfl
        · rw [if_neg o, if_neg o, Option.bind_some, Sum.elim_inl, Option.bind_some, Sum.elim_inl]
          exact fin _ (Decidable.em _)
end
