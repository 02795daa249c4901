/-! the bus: a telegram is written down (reference) -/
def sB (p a aim gr c f : Nat) (i : Nat) : Int32 := if i = 0 then Int32.ofNat (176 + 4 * p) else if i = 1 then Int32.ofNat (a / 256) else if i = 2 then Int32.ofNat (a % 256) else if i = 3 then Int32.ofNat (aim / 256) else if i = 4 then Int32.ofNat (aim % 256) else if i = 5 then Int32.ofNat (c - 1 + gr) else Int32.ofNat ((f + (i - 6)) % 256)
theorem sB_byt {p a aim gr c f i : Nat} (hp : p < 4) (ha : a < 65536) (haim : aim < 65536) (hg : gr = 0 ∨ gr = 128) (hc : c ≤ 14) : byt (sB p a aim gr c f i) := by
  unfold sB
  split
  · exact ⟨_, by omega, rfl⟩
  · split
    · exact ⟨_, by omega, rfl⟩
    · split
      · exact ⟨_, by omega, rfl⟩
      · split
        · exact ⟨_, by omega, rfl⟩
        · split
          · exact ⟨_, by omega, rfl⟩
          · split
            · exact ⟨_, by omega, rfl⟩
            · exact ⟨_, by omega, rfl⟩
/-- the loop of the bytes -/
theorem t_bytes {t : TS} {B c f : Nat} (hB : B + 24 ≤ 1152) (hc : c ≤ 14) (hf : f < 256) : ∃ t', wh (S := TS × Int32) (X := TS) (fun p79 => (if p79.2 < Int32.ofNat c then Option.bind (α := TS) (stI p79.1 147 1152 ((Int32.ofNat (B + 6)) + p79.2) ((Int32.ofNat f + p79.2) - (Int32.ofNat f + p79.2) / (256 : Int32) * (256 : Int32))) (fun s10 => some (.inl (s10, p79.2 + 1))) else some (.inr p79.1))) (t, 0) = some t' ∧ t'.1 = t.1 ∧ t'.2.1 = t.2.1 ∧ t'.2.2.2 = t.2.2.2 ∧ (∀ q j, q ≠ 147 → t'.2.2.1 q j = t.2.2.1 q j) ∧ ∀ j, t'.2.2.1 147 j = if B + 6 ≤ j ∧ j < B + 6 + c then Int32.ofNat ((f + (j - (B + 6))) % 256) else t.2.2.1 147 j := by
  refine wh_cnt (Q := fun t' : TS => t'.1 = t.1 ∧ t'.2.1 = t.2.1 ∧ t'.2.2.2 = t.2.2.2 ∧ (∀ q j, q ≠ 147 → t'.2.2.1 q j = t.2.2.1 q j) ∧ ∀ j, t'.2.2.1 147 j = if B + 6 ≤ j ∧ j < B + 6 + c then Int32.ofNat ((f + (j - (B + 6))) % 256) else t.2.2.1 147 j) c (fun k (a : TS × Int32) => a.2 = Int32.ofNat k ∧ a.1.1 = t.1 ∧ a.1.2.1 = t.2.1 ∧ a.1.2.2.2 = t.2.2.2 ∧ (∀ q j, q ≠ 147 → a.1.2.2.1 q j = t.2.2.1 q j) ∧ ∀ j, a.1.2.2.1 147 j = if B + 6 ≤ j ∧ j < B + 6 + k then Int32.ofNat ((f + (j - (B + 6))) % 256) else t.2.2.1 147 j) (a := (t, 0)) ?_ ?_ ⟨rfl, rfl, rfl, rfl, fun _ _ _ => rfl, fun j => (if_neg (by omega)).symm⟩
  · rintro k ⟨u, _⟩ hk ⟨e1, e2, e3, e4, e5, e6⟩
    obtain rfl : _ = Int32.ofNat k := e1
    right
    refine ⟨(wrI u 147 (B + 6 + k) (Int32.ofNat ((f + k) % 256)), Int32.ofNat k + 1), ?_, i_suc k, e2, e3, e4, fun q j hq => by rw [wr_ne hq]; exact e5 q j hq, fun j => ?_⟩
    · dsimp only
      rw [if_pos ((i_lt (by omega) (by omega)).mpr hk), i_add, i_add, i_modL (by omega) (by decide), stI_n (by omega) (by omega), Option.bind_some]
    · rw [wr_at]
      by_cases z : j = B + 6 + k
      · rw [if_pos ⟨rfl, z⟩, if_pos (by omega), show j - (B + 6) = k by omega]
      · rw [if_neg (fun q => z q.2)]
        have := e6 j
        rw [this]
        by_cases y : B + 6 ≤ j ∧ j < B + 6 + k
        · rw [if_pos y, if_pos (by omega)]
        · rw [if_neg y, if_neg (by omega)]
  · rintro ⟨u, _⟩ ⟨e1, e2, e3, e4, e5, e6⟩
    obtain rfl : _ = Int32.ofNat c := e1
    exact ⟨u, if_neg (fun z => by have := (i_lt (by omega) (by omega)).mp z; omega), e2, e3, e4, e5, e6⟩
