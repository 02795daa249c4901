/-! the warden: a zone has a point -/
def hasB (g : Nat → Int32) (n : Nat) (v : Int32) : Bool := (List.range n).any (fun i => decide (g i = v))
theorem hasB_suc (g : Nat → Int32) (n : Nat) (v : Int32) : hasB g (n + 1) v = (hasB g n v || decide (g n = v)) := by
  unfold hasB
  rw [List.range_succ, List.any_append]; simp
theorem c_hasP {s : CS} {z zp n : Nat} {g : Nat → Int32} {a b mc : Int32} (h1 : s.1 z = some (true, false, 90, [.int a, .int b, .ref zp])) (h2 : s.1 zp = some (true, false, 1013, .int mc :: rowC (fun i => .int (g i)) n)) (hn : n ≤ 12) (v : Int32) : c_1054 z v s = some (if hasB g n v = true then 1 else 0) := by
  suffices q : Tr (c_1054 z v s) (fun x => x = if hasB g n v = true then 1 else 0) by
    obtain ⟨x, e1, e2⟩ := q
    rw [e1, e2]
  unfold c_1054
  refine Tr.bd (P := fun x => x = if hasB g n v = true then 1 else 0) (wh_cnt n (fun k a => a = (if hasB g k v = true then 1 else 0, Int32.ofNat k)) ?_ ?_ rfl) ?_
  · rintro k _ hk rfl
    refine Or.inr ⟨_, ?_, rfl⟩
    dsimp only
    rw [xN_o (b := zp) h1 rfl rfl, Option.bind_some, if_pos (isK_t h2 rfl), alSize_r h2, Option.bind_some, if_pos ((i_lt (by omega) (by omega)).mpr hk), Option.bind_some, if_pos (isK_t h2 rfl), alGet_r h2 hk (by omega), Option.bind_some, show toB (.int (g k)) = some (g k) from rfl, Option.bind_some, i_suc, hasB_suc]
    by_cases y : g k = v
    · rw [if_pos y, Option.bind_some]
      cases hasB g k v <;> simp [y]
    · rw [if_neg y, Option.bind_some]
      cases hasB g k v <;> simp [y]
  · rintro _ rfl
    refine ⟨_, ?_, rfl⟩
    dsimp only
    rw [xN_o (b := zp) h1 rfl rfl, Option.bind_some, if_pos (isK_t h2 rfl), alSize_r h2, Option.bind_some, if_neg (by rw [i_lt (by omega) (by omega)]; omega)]
  · rintro _ rfl
    refine ⟨_, ?_, rfl⟩
    cases hasB g n v <;> rfl
theorem t_hasP {T : TS} {z n : Nat} (hz : z < 40) (h7 : T.2.2.1 107 z = Int32.ofNat n) (hn : n ≤ 12) (v : Int32) : t_783 (Int32.ofNat z) v T = some (if hasB (fun i => T.2.2.1 108 (12 * z + i)) n v = true then 1 else 0) := by
  suffices q : Tr (t_783 (Int32.ofNat z) v T) (fun x => x = if hasB (fun i => T.2.2.1 108 (12 * z + i)) n v = true then 1 else 0) by
    obtain ⟨x, e1, e2⟩ := q
    rw [e1, e2]
  unfold t_783
  refine Tr.bd (P := fun x => x = if hasB (fun i => T.2.2.1 108 (12 * z + i)) n v = true then 1 else 0) (wh_cnt n (fun k a => a = (if hasB (fun i => T.2.2.1 108 (12 * z + i)) k v = true then 1 else 0, Int32.ofNat k)) ?_ ?_ rfl) ?_
  · rintro k _ hk rfl
    refine Or.inr ⟨_, ?_, rfl⟩
    dsimp only
    have e1 : (12 : Int32) * Int32.ofNat z = Int32.ofNat (12 * z) := i_mul 12 z
    rw [rdI_n (by omega) (by omega), Option.bind_some, h7, if_pos ((i_lt (by omega) (by omega)).mpr hk), e1, i_add, rdI_n (by omega) (by omega), Option.bind_some, i_suc, hasB_suc]
    by_cases y : T.2.2.1 108 (12 * z + k) = v
    · rw [if_pos y]
      cases hasB (fun i => T.2.2.1 108 (12 * z + i)) k v <;> simp [y]
    · rw [if_neg y]
      cases hasB (fun i => T.2.2.1 108 (12 * z + i)) k v <;> simp [y]
  · rintro _ rfl
    refine ⟨_, ?_, rfl⟩
    dsimp only
    rw [rdI_n (by omega) (by omega), Option.bind_some, h7, if_neg (by rw [i_lt (by omega) (by omega)]; omega)]
  · rintro _ rfl
    refine ⟨_, ?_, rfl⟩
    cases hasB (fun i => T.2.2.1 108 (12 * z + i)) n v <;> rfl
