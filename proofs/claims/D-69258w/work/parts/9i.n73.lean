/-! the plan: how far a line may go -/
section
variable {s : CS} {t T : TS}
theorem ab24 (x : Int32) : ∃ y, c_50 x.toInt64 s = some y ∧ (0 < lg_cmp y 24 ↔ x < -24 ∨ 24 < x) := by
  have b1 := Int32.le_toInt x
  have b2 := Int32.toInt_lt x
  have e0 : (0 : Int64).toInt = 0 := rfl
  have e24 : (24 : Int64).toInt = 24 := rfl
  have f1 : (-24 : Int32).toInt = -24 := rfl
  have f2 : (24 : Int32).toInt = 24 := rfl
  have ex : x.toInt64.toInt = x.toInt := Int32.toInt_toInt64 x
  unfold c_50
  by_cases h : lg_cmp x.toInt64 0 < 0
  · rw [if_pos h]
    rw [lc_neg, Int64.lt_iff_toInt_lt, ex, e0] at h
    refine ⟨_, rfl, ?_⟩
    have en : (-x.toInt64).toInt = -x.toInt := by
      rw [Int64.toInt_neg, ex, Int.bmod]
      split <;> omega
    rw [lc_pos, Int64.lt_iff_toInt_lt, en, e24, Int32.lt_iff_toInt_lt, Int32.lt_iff_toInt_lt, f1, f2]
    omega
  · rw [if_neg h]
    rw [lc_neg, Int64.lt_iff_toInt_lt, ex, e0] at h
    refine ⟨_, rfl, ?_⟩
    rw [lc_pos, Int64.lt_iff_toInt_lt, ex, e24, Int32.lt_iff_toInt_lt, Int32.lt_iff_toInt_lt, f1, f2]
    omega
def mvA (L : PLn) (k : Nat) (v2 v3 : Int32) : Prop := ¬ (v2 < -24 ∨ 24 < v2) ∧ ¬ (v3 < -24 ∨ 24 < v3) ∧ inB (Int32.ofNat (pX L k) + v2) (Int32.ofNat 25) = true ∧ inB (Int32.ofNat (pY L k) + v3) (Int32.ofNat 25) = true ∧ inB (Int32.ofNat (pHX L k) + v2) (Int32.ofNat 25) = true ∧ inB (Int32.ofNat (pHY L k) + v3) (Int32.ofNat 25) = true
theorem c_mvA {L : PLn} {LD : Nat → Nat} {a k : Nat} (h : s.1 a = some (lcC L LD k)) (v2 v3 : Int32) : by classical exact (Option.bind (c_50 v2.toInt64 s) (fun x3 => Option.bind ((if 0 < (lg_cmp x3 24) then some 0 else Option.bind (c_50 v3.toInt64 s) (fun x4 => (if 0 < (lg_cmp x4 24) then some 0 else Option.bind (xI s [(59, 3)] a) (fun x5 => Option.bind (c_891 (x5 + v2) s) (fun x6 => (if x6 = 0 then some 0 else Option.bind (xI s [(59, 4)] a) (fun x7 => Option.bind (c_891 (x7 + v3) s) (fun x8 => (if x8 = 0 then some 0 else (if isK s [59] a = true then Option.bind (c_867 a s) (fun x9 => Option.bind (c_891 (x9 + v2) s) (fun x10 => (if x10 = 0 then some 0 else (if isK s [59] a = true then Option.bind (c_868 a s) (fun x11 => Option.bind (c_891 (x11 + v3) s) (fun x12 => (if x12 = 0 then some 0 else some 1))) else none)))) else none)))))))))) : Option Int32) (fun v => some v)) = some (if mvA L k v2 v3 then 1 else 0)) := by
  classical
  obtain ⟨y2, e2, h2⟩ := ab24 (s := s) v2
  obtain ⟨y3, e3, h3⟩ := ab24 (s := s) v3
  have k9 := isK_t h (tab := [59]) rfl
  rw [e2, Option.bind_some]
  by_cases a1 : v2 < -24 ∨ 24 < v2
  · rw [if_pos (h2.mpr a1), if_neg (show ¬ mvA L k v2 v3 from fun z => z.1 a1)]; rfl
  rw [if_neg (fun z => a1 (h2.mp z)), e3, Option.bind_some]
  by_cases a2 : v3 < -24 ∨ 24 < v3
  · rw [if_pos (h3.mpr a2), if_neg (show ¬ mvA L k v2 v3 from fun z => z.2.1 a2)]; rfl
  rw [if_neg (fun z => a2 (h3.mp z)), xI_o (x := Int32.ofNat (pX L k)) h rfl rfl, Option.bind_some, c_in25, Option.bind_some]
  by_cases a3 : inB (Int32.ofNat (pX L k) + v2) (Int32.ofNat 25) = true
  rotate_left
  · rw [if_neg a3, if_pos rfl, if_neg (show ¬ mvA L k v2 v3 from fun z => a3 z.2.2.1)]; rfl
  rw [if_pos a3, if_neg (show ¬ (1 : Int32) = 0 by decide), xI_o (x := Int32.ofNat (pY L k)) h rfl rfl, Option.bind_some, c_in25, Option.bind_some]
  by_cases a4 : inB (Int32.ofNat (pY L k) + v3) (Int32.ofNat 25) = true
  rotate_left
  · rw [if_neg a4, if_pos rfl, if_neg (show ¬ mvA L k v2 v3 from fun z => a4 z.2.2.2.1)]; rfl
  rw [if_pos a4, if_neg (show ¬ (1 : Int32) = 0 by decide), if_pos k9, c_eX h, Option.bind_some, c_in25, Option.bind_some]
  by_cases a5 : inB (Int32.ofNat (pHX L k) + v2) (Int32.ofNat 25) = true
  rotate_left
  · rw [if_neg a5, if_pos rfl, if_neg (show ¬ mvA L k v2 v3 from fun z => a5 z.2.2.2.2.1)]; rfl
  rw [if_pos a5, if_neg (show ¬ (1 : Int32) = 0 by decide), if_pos k9, c_eY h, Option.bind_some, c_in25, Option.bind_some]
  by_cases a6 : inB (Int32.ofNat (pHY L k) + v3) (Int32.ofNat 25) = true
  rotate_left
  · rw [if_neg a6, if_pos rfl, if_neg (show ¬ mvA L k v2 v3 from fun z => a6 z.2.2.2.2.2)]; rfl
  rw [if_pos a6, if_neg (show ¬ (1 : Int32) = 0 by decide), if_pos (show mvA L k v2 v3 from ⟨a1, a2, a3, a4, a5, a6⟩)]; rfl
theorem t_mvA {L : PLn} {k : Nat} (h : ln1 t L k) (v2 v3 : Int32) : by classical exact (t_681 (Int32.ofNat k) v2 v3 t = some (if mvA L k v2 v3 then 1 else 0)) := by
  classical
  obtain ⟨r0, r1, _, _⟩ := ln1_r h
  unfold t_681
  by_cases a1 : v2 < -24
  · rw [if_pos a1, if_neg (show ¬ mvA L k v2 v3 from fun z => z.1 (Or.inl a1))]
  rw [if_neg a1]
  by_cases a1' : 24 < v2
  · rw [if_pos a1', if_neg (show ¬ mvA L k v2 v3 from fun z => z.1 (Or.inr a1'))]
  rw [if_neg a1']
  by_cases a2 : v3 < -24
  · rw [if_pos a2, if_neg (show ¬ mvA L k v2 v3 from fun z => z.2.1 (Or.inl a2))]
  rw [if_neg a2]
  by_cases a2' : 24 < v3
  · rw [if_pos a2', if_neg (show ¬ mvA L k v2 v3 from fun z => z.2.1 (Or.inr a2'))]
  rw [if_neg a2', r0, Option.bind_some, t_in25, Option.bind_some]
  by_cases a3 : inB (Int32.ofNat (pX L k) + v2) (Int32.ofNat 25) = true
  rotate_left
  · rw [if_neg a3, if_pos rfl, if_neg (show ¬ mvA L k v2 v3 from fun z => a3 z.2.2.1)]
  rw [if_pos a3, if_neg (show ¬ (1 : Int32) = 0 by decide), r1, Option.bind_some, t_in25, Option.bind_some]
  by_cases a4 : inB (Int32.ofNat (pY L k) + v3) (Int32.ofNat 25) = true
  rotate_left
  · rw [if_neg a4, if_pos rfl, if_neg (show ¬ mvA L k v2 v3 from fun z => a4 z.2.2.2.1)]
  rw [if_pos a4, if_neg (show ¬ (1 : Int32) = 0 by decide), t_hX1 h, Option.bind_some, t_in25, Option.bind_some]
  by_cases a5 : inB (Int32.ofNat (pHX L k) + v2) (Int32.ofNat 25) = true
  rotate_left
  · rw [if_neg a5, if_pos rfl, if_neg (show ¬ mvA L k v2 v3 from fun z => a5 z.2.2.2.2.1)]
  rw [if_pos a5, if_neg (show ¬ (1 : Int32) = 0 by decide), t_hY1 h, Option.bind_some, t_in25, Option.bind_some]
  by_cases a6 : inB (Int32.ofNat (pHY L k) + v3) (Int32.ofNat 25) = true
  rotate_left
  · rw [if_neg a6, if_pos rfl, if_neg (show ¬ mvA L k v2 v3 from fun z => a6 z.2.2.2.2.2)]
  rw [if_pos a6, if_neg (show ¬ (1 : Int32) = 0 by decide), if_pos (show mvA L k v2 v3 from ⟨by rintro (z | z); exact a1 z; exact a1' z, by rintro (z | z); exact a2 z; exact a2' z, a3, a4, a5, a6⟩)]
end
