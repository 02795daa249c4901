/-! the plan: a line's arguments; a line is made -/
section
variable {s : CS} {t T : TS}
def updL (L : PLn) (k : Nat) (v : Nat × Nat × Bool × Nat) : PLn := fun l => if l = k then v else L l
theorem updL_eq {L : PLn} {k : Nat} {v : Nat × Nat × Bool × Nat} : updL L k v k = v := if_pos rfl
theorem updL_ne {L : PLn} {k l : Nat} {v : Nat × Nat × Bool × Nat} (h : l ≠ k) : updL L k v l = L l := if_neg h
theorem nov_c {L L' : PLn} {l m : Nat} (h1 : L' l = L l) (h2 : L' m = L m) : nov L' l m ↔ nov L l m := by
  unfold nov pHX pHY pX pY pN pFl
  rw [h1, h2]
theorem nov_sy {L : PLn} {l m : Nat} (h : nov L l m) : nov L m l := by
  intro e
  have h := h e.symm
  by_cases z : pFl L l = true
  · rw [if_pos z] at h
    rw [if_pos (e.trans z)]
    omega
  · rw [if_neg z] at h
    rw [if_neg (fun w => z (e.symm.trans w))]
    omega
theorem lcC_c {L L' : PLn} {LD LD' : Nat → Nat} {l : Nat} (h : L' l = L l) (h2 : LD' l = LD l) : lcC L' LD' l = lcC L LD l := by
  unfold lcC pX pY pN pFl
  rw [h, h2]
def lnA (v1 v2 v3 v4 : Int32) : Prop := inB v1 (Int32.ofNat 25) = true ∧ inB v2 (Int32.ofNat 25) = true ∧ inB v3 (Int32.ofNat 25) = true ∧ inB v4 (Int32.ofNat 25) = true ∧ ¬ (v1 = v3 ↔ v2 = v4)
theorem c_in25 (v : Int32) : c_891 v s = some (if inB v (Int32.ofNat 25) = true then 1 else 0) := by
  unfold c_891
  exact rngB v 24 24 (by omega) rfl
theorem t_in25 (v : Int32) : t_675 v t = some (if inB v (Int32.ofNat 25) = true then 1 else 0) := by
  unfold t_675
  exact rngB v 24 24 (by omega) rfl
theorem ln_arg (v1 v2 v3 v4 : Int32) : by classical exact ((if (if inB v1 (Int32.ofNat 25) = true then (1 : Int32) else 0) = 0 then some (0 : Int32) else Option.bind (some (if inB v2 (Int32.ofNat 25) = true then (1 : Int32) else 0)) (fun x2 => (if x2 = 0 then some 0 else Option.bind (some (if inB v3 (Int32.ofNat 25) = true then (1 : Int32) else 0)) (fun x3 => (if x3 = 0 then some 0 else Option.bind (some (if inB v4 (Int32.ofNat 25) = true then (1 : Int32) else 0)) (fun x4 => (if x4 = 0 then some 0 else if v1 = v3 then (if v2 = v4 then some 0 else some 1) else (if v2 = v4 then some 1 else some 0)))))))) = some (if lnA v1 v2 v3 v4 then 1 else 0)) := by
  classical
  simp only [Option.bind_some]
  by_cases a : inB v1 (Int32.ofNat 25) = true
  · rw [if_neg (by rw [if_pos a]; decide)]
    by_cases b : inB v2 (Int32.ofNat 25) = true
    · rw [if_neg (by rw [if_pos b]; decide)]
      by_cases c : inB v3 (Int32.ofNat 25) = true
      · rw [if_neg (by rw [if_pos c]; decide)]
        by_cases d : inB v4 (Int32.ofNat 25) = true
        · rw [if_neg (by rw [if_pos d]; decide)]
          by_cases e : v1 = v3 <;> by_cases f : v2 = v4
          · rw [if_pos e, if_pos f, if_neg (show ¬ lnA v1 v2 v3 v4 from fun h => h.2.2.2.2 ⟨fun _ => f, fun _ => e⟩)]
          · rw [if_pos e, if_neg f, if_pos (show lnA v1 v2 v3 v4 from ⟨a, b, c, d, fun h => f (h.mp e)⟩)]
          · rw [if_neg e, if_pos f, if_pos (show lnA v1 v2 v3 v4 from ⟨a, b, c, d, fun h => e (h.mpr f)⟩)]
          · rw [if_neg e, if_neg f, if_neg (show ¬ lnA v1 v2 v3 v4 from fun h => h.2.2.2.2 ⟨fun z => absurd z e, fun z => absurd z f⟩)]
        · rw [if_pos (by rw [if_neg d]), if_neg (show ¬ lnA v1 v2 v3 v4 from fun h => d h.2.2.2.1)]
      · rw [if_pos (by rw [if_neg c]), if_neg (show ¬ lnA v1 v2 v3 v4 from fun h => c h.2.2.1)]
    · rw [if_pos (by rw [if_neg b]), if_neg (show ¬ lnA v1 v2 v3 v4 from fun h => b h.2.1)]
  · rw [if_pos (by rw [if_neg a]), if_neg (show ¬ lnA v1 v2 v3 v4 from fun h => a h.1)]
theorem lnA_n {v1 v2 v3 v4 : Int32} (h : lnA v1 v2 v3 v4) : ∃ a b c d, v1 = Int32.ofNat a ∧ v2 = Int32.ofNat b ∧ v3 = Int32.ofNat c ∧ v4 = Int32.ofNat d ∧ a < 25 ∧ b < 25 ∧ c < 25 ∧ d < 25 ∧ ¬ (a = c ↔ b = d) := by
  obtain ⟨h1, h2, h3, h4, h5⟩ := h
  obtain ⟨a, ha, rfl⟩ := inB_nat 25 (by omega) h1
  obtain ⟨b, hb, rfl⟩ := inB_nat 25 (by omega) h2
  obtain ⟨c, hc, rfl⟩ := inB_nat 25 (by omega) h3
  obtain ⟨d, hd, rfl⟩ := inB_nat 25 (by omega) h4
  rw [i_inj (by omega) (by omega), i_inj (by omega) (by omega)] at h5
  exact ⟨a, b, c, d, rfl, rfl, rfl, rfl, ha, hb, hc, hd, h5⟩
/-- a line from its ends -/
def lnV (a b c d : Nat) : Nat × Nat × Bool × Nat := (min a c, min b d, decide (b = d), (max a c - min a c) + (max b d - min b d))
theorem c_abs {a b : Nat} (ha : a < 1000) (hb : b < 1000) : c_49 (Int32.ofNat a - Int32.ofNat b) s = some (Int32.ofNat (max a b - min a b)) := by
  have e : Int32.ofNat a - Int32.ofNat b = Int32.ofInt ((a : Int) - b) := by rw [← i_ofI, ← i_ofI, i_subI]
  have z0 : ((0 : Int32)) = Int32.ofInt 0 := rfl
  unfold c_49
  rw [e]
  by_cases z : a < b
  · rw [if_pos (by rw [z0]; exact (ofI_lt (by omega) (by omega) (by omega) (by omega)).mpr (by omega))]
    rw [show (-Int32.ofInt ((a : Int) - b)) = Int32.ofInt (-((a : Int) - b)) from (Int32.ofInt_neg _).symm, ← i_ofI]
    congr 2; omega
  · rw [if_neg (by rw [z0]; intro w; have := (ofI_lt (by omega) (by omega) (by omega) (by omega)).mp w; omega), ← i_ofI]
    congr 2; omega
end
