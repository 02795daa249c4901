/-! permits: exact numbers -/
section
variable {s : CS} {t : TS}
theorem lc_0 (a b : Int64) : lg_cmp a b = 0 ↔ a = b := by
  unfold lg_cmp
  by_cases h1 : b < a
  · rw [if_pos h1]
    exact ⟨fun z => absurd z (by decide), fun z => by rw [z] at h1; exact absurd h1 Int64.lt_irrefl⟩
  · rw [if_neg h1]
    by_cases h2 : a = b
    · rw [if_pos h2]
      exact ⟨fun _ => h2, fun _ => rfl⟩
    · rw [if_neg h2]
      exact ⟨fun z => absurd z (by decide), fun z => absurd z h2⟩
theorem l_ng (a : Int64) : a < 0 ↔ a.toBitVec.msb = true := by
  rw [Int64.lt_iff_toBitVec_slt, show (0 : Int64).toBitVec = 0#64 from rfl, BitVec.slt_zero_eq_msb]
/-- the reference notes the first thing that is open -/
def opnT (t : TS) (k : Int32) (nm : Int64) : TS := if t.1 240 = 0 then ptL (ptI t 240 k) 241 nm else t
theorem t_opn (k : Int32) (nm : Int64) : t_757 k nm t = some (opnT t k nm) := by
  unfold t_757 opnT
  by_cases h : t.1 240 = 0
  · rw [if_pos h, if_pos h]; rfl
  · rw [if_neg h, if_neg h]
/-- a machine's own exception -/
def exAr (s : CS) : CS := (lUpd s.1 s.2.1 (true, false, 33, [.null, .ref 12, .ref s.2.1, .ref 17, .int 0, .ref 18]), s.2.1 + 1, s.2.2.1 + 1, s.2.2.2 + 6)
theorem ex_33 : Option.bind (some (nw s 33 [.null, .null, .null, .null, .int 0, .null])) (fun n1 => (if isK n1.2 [33] n1.1 = true then Option.bind (c_191 n1.1 12 n1.2) (fun x2 => (if isX x2 n1.1 = true then (some (.inr (n1.1, x2)) : Option (Sum (Int64 × CS) (Nat × CS))) else none)) else none)) = some (.inr (s.2.1, exAr s)) := by
  simp [nw, nwc, c_191, c_70, c_68, c_67, xP, lUpd_at, lLook, cup, lUpdU, exAr, isK, kdo, isX, isF, fillT1, fillT2]
def ovA (a b : Int64) : Bool := (decide (a < 0) == decide (b < 0)) && (decide (a + b < 0) != decide (a < 0))
def ovS (a b : Int64) : Bool := (decide (a < 0) != decide (b < 0)) && (decide (a - b < 0) != decide (a < 0))
def ovM (a b : Int64) : Bool := decide (a ≠ 0) && decide (b ≠ 0) && (decide (a * b / b ≠ a) || decide (a * b / a ≠ b))
theorem c_addX (a b : Int64) : c_53 a b s = if ovA a b = true then some (.inr (s.2.1, exAr s)) else some (.inl (a + b, s)) := by
  unfold c_53
  rw [ex_33]
  have e : (lg_cmp ((a ^^^ (a + b)) &&& (b ^^^ (a + b))) 0 < 0) ↔ ovA a b = true := by
    rw [lc_neg, l_ng]
    unfold ovA
    simp only [l_ng, Int64.toBitVec_and, Int64.toBitVec_xor, BitVec.msb_and, BitVec.msb_xor]
    cases a.toBitVec.msb <;> cases b.toBitVec.msb <;> cases (a + b).toBitVec.msb <;> decide
  by_cases h : ovA a b = true
  · rw [if_pos h, if_pos (e.mpr h)]
  · rw [if_neg h, if_neg (fun w => h (e.mp w))]
theorem c_subX (a b : Int64) : c_51 a b s = if ovS a b = true then some (.inr (s.2.1, exAr s)) else some (.inl (a - b, s)) := by
  unfold c_51
  rw [ex_33]
  have e : (lg_cmp ((a ^^^ b) &&& (a ^^^ (a - b))) 0 < 0) ↔ ovS a b = true := by
    rw [lc_neg, l_ng]
    unfold ovS
    simp only [l_ng, Int64.toBitVec_and, Int64.toBitVec_xor, BitVec.msb_and, BitVec.msb_xor]
    cases a.toBitVec.msb <;> cases b.toBitVec.msb <;> cases (a - b).toBitVec.msb <;> decide
  by_cases h : ovS a b = true
  · rw [if_pos h, if_pos (e.mpr h)]
  · rw [if_neg h, if_neg (fun w => h (e.mp w))]
theorem t_tms (a b : Int64) : t_759 a b t = some (a * b, if ovM a b = true then opnT t 2 0 else t) := by
  unfold t_759 ovM
  simp only [lc_0, t_opn, Option.bind_some]
  by_cases h1 : a = 0
  · rw [if_pos h1]; simp [h1]
  · by_cases h2 : b = 0
    · rw [if_neg h1, if_pos h2]; simp [h2]
    · rw [if_neg h1, if_neg h2, if_neg h2]
      by_cases h3 : a * b / b = a
      · by_cases h4 : a * b / a = b
        · simp [h1, h2, h3, h4]
        · simp [h1, h2, h3, h4]
      · simp [h1, h2, h3]
theorem t_pls (a b : Int64) (v : Int32) : t_760 a b v t = some (if v = 0 then a + b else a - b, if (if v = 0 then ovA a b else ovS a b) = true then opnT t 2 0 else t) := by
  unfold t_760 ovA ovS
  simp only [lc_neg, t_opn]
  by_cases hv : v = 0
  · by_cases h1 : a < 0 <;> by_cases h2 : b < 0 <;> by_cases h3 : a + b < 0 <;> simp [hv, h1, h2, h3]
  · by_cases h1 : a < 0 <;> by_cases h2 : b < 0 <;> by_cases h3 : a - b < 0 <;> simp [hv, h1, h2, h3]
end
