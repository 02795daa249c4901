/-! permits: say, both sides -/
section
variable {s S : CS} {t T : TS} {own : Nat → Nat}
/-- the k-th byte of a word -/
theorem byte_n (v : Int64) (k : Int32) : ∃ b : Nat, b < 256 ∧ (((v >>> ((8 * k).toInt64 &&& 63)) &&& 255).toInt32) = Int32.ofNat b := by
  obtain ⟨y, hy⟩ : ∃ y, y = v >>> ((8 * k).toInt64 &&& 63) := ⟨_, rfl⟩
  rw [← hy]
  have h1 : ((y &&& 255).toBitVec).toNat ≤ 255 := by
    rw [Int64.toBitVec_and, BitVec.toNat_and]
    exact Nat.and_le_right
  refine ⟨(y &&& 255).toBitVec.toNat, by omega, ?_⟩
  apply Int32.toBitVec_inj.mp
  apply BitVec.eq_of_toNat_eq
  have e1 : ((y &&& 255).toInt32).toBitVec = (y &&& 255).toBitVec.setWidth 32 := by
    show BitVec.signExtend 32 _ = _
    exact BitVec.signExtend_eq_setWidth_of_le _ (by decide)
  rw [e1, BitVec.toNat_setWidth]
  show _ = (BitVec.ofNat 32 _).toNat
  rw [BitVec.toNat_ofNat]
noncomputable def bytN (v : Int64) (k : Nat) : Nat := Classical.choose (byte_n v (Int32.ofNat k))
theorem bytN_lt (v : Int64) (k : Nat) : bytN v k < 256 := (Classical.choose_spec (byte_n v (Int32.ofNat k))).1
theorem bytN_e (v : Int64) (k : Nat) : (((v >>> ((8 * Int32.ofNat k).toInt64 &&& 63)) &&& 255).toInt32) = Int32.ofNat (bytN v k) := (Classical.choose_spec (byte_n v (Int32.ofNat k))).2
def okB (b : Nat) : Bool := b == 0 || (decide (32 ≤ b) && decide (b ≤ 126))
theorem okB_i {b : Nat} : okB b = true ↔ b = 0 ∨ (32 ≤ b ∧ b ≤ 126) := by unfold okB; simp
noncomputable def allB (v : Int64) : Bool := (List.range 8).all (fun k => okB (bytN v k))
theorem allB_i {v : Int64} : allB v = true ↔ ∀ k, k < 8 → okB (bytN v k) = true := by
  unfold allB
  rw [List.all_eq_true]
  exact ⟨fun h k hk => h k (List.mem_range.mpr hk), fun h k hk => h k (List.mem_range.mp hk)⟩
/-- how many characters there are, from the last byte on; from the first on -/
def cnD (b : Nat → Nat) : Nat → Nat
  | 0 => 0
  | j + 1 => cnD b j + (if b (7 - j) = 0 then 0 else 1)
def cnU (b : Nat → Nat) : Nat → Nat
  | 0 => 0
  | j + 1 => cnU b j + (if b j = 0 then 0 else 1)
theorem cnDU (b : Nat → Nat) : cnD b 8 = cnU b 8 := by
  simp only [cnD, cnU, Nat.reduceSub, Nat.sub_zero, Nat.reduceAdd]
  omega
theorem cnD_le (b : Nat → Nat) : ∀ {j k : Nat}, j ≤ k → cnD b j ≤ cnD b k := by
  intro j k h
  induction k with
  | zero => rw [Nat.le_zero.mp h]; exact Nat.le_refl _
  | succ k ih =>
    by_cases z : j = k + 1
    · rw [z]; exact Nat.le_refl _
    · have := ih (by omega)
      show _ ≤ cnD b k + _
      omega
theorem cnD_8 (b : Nat → Nat) : ∀ j, cnD b j ≤ j := by
  intro j
  induction j with
  | zero => exact Nat.le_refl _
  | succ j ih => show cnD b j + (if b (7 - j) = 0 then 0 else 1) ≤ _; split <;> omega
def kI (j : Nat) : Int32 := if j < 8 then Int32.ofNat (7 - j) else -1
theorem kI_lt {j : Nat} (h : j < 8) : kI j = Int32.ofNat (7 - j) := if_pos h
theorem kI_s : ∀ j : Fin 8, kI j.val - 1 = kI (j.val + 1) := by decide
theorem kI_8 : kI 8 = -1 := rfl
/-- characters: the reference -/
theorem t_char (v : Int64) : t_730 v t = some (if allB v = true then Int32.ofNat (cnU (bytN v) 8) else -1) := by
  unfold t_730 t_731
  have le8 : ∀ (b : Nat → Nat) j, cnU b j ≤ j := fun b j => by
    induction j with
    | zero => exact Nat.le_refl _
    | succ j ih => show cnU b j + (if b j = 0 then 0 else 1) ≤ _; split <;> omega
  have key : ∃ x, wh (S := Int32 × Int32) (X := Sum (Unit) (Sum (Int32) (Int32))) (fun p4 => (if p4.2 < 8 then Option.bind (some (((v >>> ((8 * p4.2).toInt64 &&& 63)) &&& 255).toInt32)) (fun x1 => Option.bind (α := Sum (Unit) (Sum (Int32 × Int32) (Sum (Unit) (Sum (Int32) (Int32))))) ((if 0 < x1 then (if x1 < 32 then some (.inr (.inr (.inl ()))) else some (.inl ())) else some (.inl ()))) (Sum.elim (fun v16 => (if 126 < x1 then some (.inr (.inl ())) else Option.bind ((if 0 < x1 then some 1 else some 0)) (fun v27 => some (.inl (p4.1 + v27, p4.2 + 1))))) (fun z => some z))) else some (.inr (.inr (.inl p4.1))))) (0, 0) = some x ∧ ((x = .inl () ∧ ¬ ∀ k, k < 8 → okB (bytN v k) = true) ∨ (x = .inr (.inl (Int32.ofNat (cnU (bytN v) 8))) ∧ ∀ k, k < 8 → okB (bytN v k) = true)) := by
    refine wh_cnt 8 (fun j (a : Int32 × Int32) => a = (Int32.ofNat (cnU (bytN v) j), Int32.ofNat j) ∧ ∀ k, k < j → okB (bytN v k) = true) ?_ ?_ ⟨rfl, fun k h => absurd h (Nat.not_lt_zero _)⟩
    · rintro j _ hj ⟨rfl, hok⟩
      dsimp only
      have bl := bytN_lt v j
      have cl := le8 (bytN v) j
      rw [if_pos (show Int32.ofNat j < 8 from (i_lt (k := 8) (by omega) (by decide)).mpr hj), bytN_e, Option.bind_some]
      have p0 : (0 : Int32) < Int32.ofNat (bytN v j) ↔ 0 < bytN v j := i_lt (j := 0) (by decide) (by omega)
      have p32 : Int32.ofNat (bytN v j) < 32 ↔ bytN v j < 32 := i_lt (k := 32) (by omega) (by decide)
      have p126 : (126 : Int32) < Int32.ofNat (bytN v j) ↔ 126 < bytN v j := i_lt (j := 126) (by decide) (by omega)
      by_cases z0 : bytN v j = 0
      · right
        rw [if_neg (fun w => by have := p0.mp w; omega), Option.bind_some, Sum.elim_inl, if_neg (fun w => by have := p126.mp w; omega), if_neg (fun w => by have := p0.mp w; omega), Option.bind_some]
        refine ⟨_, rfl, ?_, fun k hk => ?_⟩
        · rw [i_suc, Int32.add_zero]
          show _ = (Int32.ofNat (cnU (bytN v) j + (if bytN v j = 0 then 0 else 1)), _)
          rw [if_pos z0]; rfl
        · by_cases e : k = j
          · rw [e, z0]; rfl
          · exact hok k (by omega)
      · by_cases z1 : bytN v j < 32
        · left
          rw [if_pos (p0.mpr (by omega)), if_pos (p32.mpr z1), Option.bind_some, Sum.elim_inr]
          exact ⟨_, rfl, Or.inl ⟨rfl, fun w => by have := okB_i.mp (w j hj); omega⟩⟩
        · by_cases z2 : 126 < bytN v j
          · left
            rw [if_pos (p0.mpr (by omega)), if_neg (fun w => z1 (p32.mp w)), Option.bind_some, Sum.elim_inl, if_pos (p126.mpr z2)]
            exact ⟨_, rfl, Or.inl ⟨rfl, fun w => by have := okB_i.mp (w j hj); omega⟩⟩
          · right
            rw [if_pos (p0.mpr (by omega)), if_neg (fun w => z1 (p32.mp w)), Option.bind_some, Sum.elim_inl, if_neg (fun w => z2 (p126.mp w)), if_pos (p0.mpr (by omega)), Option.bind_some]
            refine ⟨_, rfl, ?_, fun k hk => ?_⟩
            · rw [i_suc, i_suc]
              show _ = (Int32.ofNat (cnU (bytN v) j + (if bytN v j = 0 then 0 else 1)), _)
              rw [if_neg z0]
            · by_cases e : k = j
              · rw [e]; exact okB_i.mpr (Or.inr ⟨by omega, by omega⟩)
              · exact hok k (by omega)
    · rintro _ ⟨rfl, hok⟩
      dsimp only
      rw [if_neg (by decide)]
      exact ⟨_, rfl, Or.inr ⟨rfl, hok⟩⟩
  obtain ⟨x, e, h⟩ := key
  rw [e, Option.bind_some]
  rcases h with ⟨rfl, h⟩ | ⟨rfl, h⟩
  · rw [if_neg (fun w => h (allB_i.mp w))]; rfl
  · rw [if_pos (allB_i.mpr h)]; rfl
/-- the component looks at its word -/
theorem c_char (v : Int64) : wh (S := CS × Int32 × Int32) (X := Sum (CS × Int32) (Sum (Int32 × CS) (Nat × CS))) (fun p4 => (if p4.2.2 < 0 then some (.inr (.inl (p4.1, p4.2.1))) else Option.bind ((if (((v >>> ((8 * p4.2.2).toInt64 &&& 63)) &&& 255).toInt32) = 0 then some 1 else (if (((v >>> ((8 * p4.2.2).toInt64 &&& 63)) &&& 255).toInt32) < 32 then some 0 else (if 126 < (((v >>> ((8 * p4.2.2).toInt64 &&& 63)) &&& 255).toInt32) then some 0 else some 1)))) (fun v26 => Option.bind (c_394 v26 p4.1) (Sum.elim (fun x1 => Option.bind ((if (((v >>> ((8 * p4.2.2).toInt64 &&& 63)) &&& 255).toInt32) = 0 then some 0 else some 1)) (fun v33 => some (.inl (x1, p4.2.1 + v33, p4.2.2 - 1)))) (fun q2 => some (.inr (.inr (.inr (q2.1, q2.2))))))))) (s, 0, 7) = some (if allB v = true then .inl (s, Int32.ofNat (cnD (bytN v) 8)) else .inr (.inr (s.2.1, exs s 11))) := by
  have key : ∃ x, wh (S := CS × Int32 × Int32) (X := Sum (CS × Int32) (Sum (Int32 × CS) (Nat × CS))) (fun p4 => (if p4.2.2 < 0 then some (.inr (.inl (p4.1, p4.2.1))) else Option.bind ((if (((v >>> ((8 * p4.2.2).toInt64 &&& 63)) &&& 255).toInt32) = 0 then some 1 else (if (((v >>> ((8 * p4.2.2).toInt64 &&& 63)) &&& 255).toInt32) < 32 then some 0 else (if 126 < (((v >>> ((8 * p4.2.2).toInt64 &&& 63)) &&& 255).toInt32) then some 0 else some 1)))) (fun v26 => Option.bind (c_394 v26 p4.1) (Sum.elim (fun x1 => Option.bind ((if (((v >>> ((8 * p4.2.2).toInt64 &&& 63)) &&& 255).toInt32) = 0 then some 0 else some 1)) (fun v33 => some (.inl (x1, p4.2.1 + v33, p4.2.2 - 1)))) (fun q2 => some (.inr (.inr (.inr (q2.1, q2.2))))))))) (s, 0, 7) = some x ∧ ((x = .inr (.inr (s.2.1, exs s 11)) ∧ ¬ ∀ k, k < 8 → okB (bytN v k) = true) ∨ (x = .inl (s, Int32.ofNat (cnD (bytN v) 8)) ∧ ∀ k, k < 8 → okB (bytN v k) = true)) := by
    refine wh_cnt 8 (fun j (a : CS × Int32 × Int32) => a = (s, Int32.ofNat (cnD (bytN v) j), kI j) ∧ ∀ k, k < j → okB (bytN v (7 - k)) = true) ?_ ?_ ⟨rfl, fun k h => absurd h (Nat.not_lt_zero _)⟩
    · rintro j _ hj ⟨rfl, hok⟩
      dsimp only
      have bl := bytN_lt v (7 - j)
      have cl := cnD_8 (bytN v) j
      have ks := kI_s ⟨j, hj⟩
      dsimp only at ks
      rw [ks, kI_lt hj, if_neg (i_nlt0 (by omega)), bytN_e]
      have p0 : Int32.ofNat (bytN v (7 - j)) = 0 ↔ bytN v (7 - j) = 0 := i_inj (k := 0) (by omega) (by decide)
      have p32 : Int32.ofNat (bytN v (7 - j)) < 32 ↔ bytN v (7 - j) < 32 := i_lt (k := 32) (by omega) (by decide)
      have p126 : (126 : Int32) < Int32.ofNat (bytN v (7 - j)) ↔ 126 < bytN v (7 - j) := i_lt (j := 126) (by decide) (by omega)
      by_cases z0 : bytN v (7 - j) = 0
      · right
        rw [if_pos (p0.mpr z0), Option.bind_some, need_eq, if_neg (by decide), Option.bind_some, Sum.elim_inl, if_pos (p0.mpr z0), Option.bind_some]
        refine ⟨_, rfl, ?_, fun k hk => ?_⟩
        · rw [Int32.add_zero]
          show _ = (s, Int32.ofNat (cnD (bytN v) j + (if bytN v (7 - j) = 0 then 0 else 1)), _)
          rw [if_pos z0]; rfl
        · by_cases e : k = j
          · rw [e, z0]; rfl
          · exact hok k (by omega)
      · rw [if_neg (fun w => z0 (p0.mp w))]
        by_cases z1 : bytN v (7 - j) < 32
        · left
          rw [if_pos (p32.mpr z1), Option.bind_some, need_eq, if_pos rfl, Option.bind_some, Sum.elim_inr]
          exact ⟨_, rfl, Or.inl ⟨rfl, fun w => by have := okB_i.mp (w (7 - j) (by omega)); omega⟩⟩
        · rw [if_neg (fun w => z1 (p32.mp w))]
          by_cases z2 : 126 < bytN v (7 - j)
          · left
            rw [if_pos (p126.mpr z2), Option.bind_some, need_eq, if_pos rfl, Option.bind_some, Sum.elim_inr]
            exact ⟨_, rfl, Or.inl ⟨rfl, fun w => by have := okB_i.mp (w (7 - j) (by omega)); omega⟩⟩
          · right
            rw [if_neg (fun w => z2 (p126.mp w)), Option.bind_some, need_eq, if_neg (by decide), Option.bind_some, Sum.elim_inl, if_neg (fun w => z0 (p0.mp w)), Option.bind_some]
            refine ⟨_, rfl, ?_, fun k hk => ?_⟩
            · rw [i_suc]
              show _ = (s, Int32.ofNat (cnD (bytN v) j + (if bytN v (7 - j) = 0 then 0 else 1)), _)
              rw [if_neg z0]
            · by_cases e : k = j
              · rw [e]; exact okB_i.mpr (Or.inr ⟨by omega, by omega⟩)
              · exact hok k (by omega)
    · rintro _ ⟨rfl, hok⟩
      dsimp only
      rw [kI_8, if_pos (by decide)]
      exact ⟨_, rfl, Or.inr ⟨rfl, fun k hk => by have := hok (7 - k) (by omega); rw [show 7 - (7 - k) = k by omega] at this; exact this⟩⟩
  obtain ⟨x, e, h⟩ := key
  rw [e]
  rcases h with ⟨rfl, h⟩ | ⟨rfl, h⟩
  · rw [if_neg (fun w => h (allB_i.mp w))]
  · rw [if_pos (allB_i.mpr h)]
end
