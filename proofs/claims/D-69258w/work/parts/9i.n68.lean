/-! the plan: doors -/
section
variable {own : Nat → Nat} {s : CS} {t T : TS} {L : PLn} {nl : Nat} {LC LD : Nat → Nat} {DC : Nat → Nat → Nat} {nd : Nat → Nat} {fo be co : Value} {fi : Nat}
theorem pl_lnk (r : R2x (rs s.1 own 2) t L nl LC LD DC nd fo be co fi) : s.1 102 = some (true, false, 67, [.ref 103, fo, be, co, .int (t.1 110), .int (t.1 111), .int (t.1 1)]) ∧ (∃ ml : Int32, s.1 103 = some (true, false, 1013, .int ml :: rowC (fun l => .ref (LC l)) nl)) ∧ (∀ l, l < nl → s.1 (LC l) = some (lcC L LD l)) ∧ nl ≤ 20 ∧ t.1 100 = Int32.ofNat nl ∧ (∀ l, l < nl → smL L l ∧ ln1 t L l) := by
  obtain ⟨r1, r2, r3, r4, ⟨l1, l2, ⟨ml, l3⟩, l6⟩, d, r7⟩ := r
  have l3' := lnH_rs l3
  refine ⟨(rs_some.mp r1).2, ⟨ml, l3'.1⟩, l3'.2.1, l1.1, l2.1, fun l hl => ⟨⟨(l1.2.1 l hl).1, (l1.2.1 l hl).2.1, (l1.2.1 l hl).2.2⟩, ?_⟩⟩
  obtain ⟨a, b, c, d⟩ := l2.2 l hl
  have := l1.1
  exact ⟨by omega, a, b, c, d⟩
/-- a line by its number -/
theorem c_lineOf (r : R2x (rs s.1 own 2) t L nl LC LD DC nd fo be co fi) (v : Int32) : c_894 102 v s = if inB v (Int32.ofNat nl) = true then some (.inl (LC v.toNatClampNeg, s)) else some (.inr (s.2.1, exs s 11)) := by
  obtain ⟨h1, ⟨ml, h2⟩, h3, h4, _⟩ := pl_lnk r
  unfold c_894
  rw [xN_o (b := 103) h1 rfl rfl, Option.bind_some, if_pos (isK_t h2 rfl), alSize_r h2, Option.bind_some, orB, Option.bind_some, need_eq]
  by_cases z : inB v (Int32.ofNat nl) = true
  · obtain ⟨k, hk, rfl⟩ := inB_nat nl (by omega) z
    rw [if_pos z, if_pos z, if_neg (by decide), Option.bind_some, Sum.elim_inl, xN_o (b := 103) h1 rfl rfl, Option.bind_some, if_pos (isK_t h2 rfl), alGet_r h2 hk (by omega), Option.bind_some, toN_o (h3 k hk) rfl, Option.bind_some, i_clamp (by omega)]
  · rw [if_neg z, if_neg z, if_pos rfl]
    rfl
/-- the arguments of a door -/
def drA (n : Nat) (v2 v3 v4 : Int32) : Prop := ¬ v2 < 0 ∧ v2 < v3 ∧ ¬ Int32.ofNat n < v3 ∧ ¬ v4 < 1 ∧ ¬ 5 < v4
theorem drA_eq (n : Nat) (v2 v3 v4 : Int32) : by classical exact ((if v2 < 0 then some (0 : Int32) else (if v2 < v3 then Option.bind (some (Int32.ofNat n)) (fun x3 => (if x3 < v3 then some 0 else (if v4 < 1 then some 0 else (if 5 < v4 then some 0 else some 1)))) else some 0)) = some (if drA n v2 v3 v4 then 1 else 0)) := by
  classical
  rw [Option.bind_some]
  by_cases a : v2 < 0
  · rw [if_pos a, if_neg (show ¬ drA n v2 v3 v4 from fun h => h.1 a)]
  rw [if_neg a]
  by_cases b : v2 < v3
  · rw [if_pos b]
    by_cases c : Int32.ofNat n < v3
    · rw [if_pos c, if_neg (show ¬ drA n v2 v3 v4 from fun h => h.2.2.1 c)]
    rw [if_neg c]
    by_cases d : v4 < 1
    · rw [if_pos d, if_neg (show ¬ drA n v2 v3 v4 from fun h => h.2.2.2.1 d)]
    rw [if_neg d]
    by_cases e : 5 < v4
    · rw [if_pos e, if_neg (show ¬ drA n v2 v3 v4 from fun h => h.2.2.2.2 e)]
    · rw [if_neg e, if_pos (show drA n v2 v3 v4 from ⟨a, b, c, d, e⟩)]
  · rw [if_neg b, if_neg (show ¬ drA n v2 v3 v4 from fun h => b h.2.1)]
theorem drA_n {n : Nat} {v2 v3 v4 : Int32} (hn : n < 1000) (h : drA n v2 v3 v4) : ∃ a b r, v2 = Int32.ofNat a ∧ v3 = Int32.ofNat b ∧ v4 = Int32.ofNat r ∧ a < b ∧ b ≤ n ∧ 1 ≤ r ∧ r ≤ 5 := by
  obtain ⟨h1, h2, h3, h4, h5⟩ := h
  have h3' : v3 < Int32.ofNat (n + 1) := by
    rw [Int32.lt_iff_toInt_lt, Int32.toInt_ofNat_of_lt (by omega)] at h3 ⊢
    omega
  have h1' : ¬ v3 < 0 := by
    rw [Int32.lt_iff_toInt_lt] at h1 h2 ⊢
    omega
  obtain ⟨b, hb, rfl⟩ := i_nat (by omega) h1' h3'
  obtain ⟨a, ha, rfl⟩ := i_nat (by omega) h1 h2
  have h4' : ¬ v4 < 0 := by
    rw [Int32.lt_iff_toInt_lt] at h4 ⊢
    have e1 : (1 : Int32).toInt = 1 := rfl
    have e2 : (0 : Int32).toInt = 0 := rfl
    omega
  have h5' : v4 < Int32.ofNat 6 := by
    rw [Int32.lt_iff_toInt_lt] at h5 ⊢
    have e1 : (5 : Int32).toInt = 5 := rfl
    have e2 : (Int32.ofNat 6).toInt = 6 := rfl
    omega
  obtain ⟨r, hr, rfl⟩ := i_nat (by omega) h4' h5'
  refine ⟨a, b, r, rfl, rfl, rfl, ha, by omega, ?_, by omega⟩
  by_cases z : r = 0
  · rw [z] at h4; exact absurd (by decide) h4
  · omega
end
