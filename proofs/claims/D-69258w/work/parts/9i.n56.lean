/-! the plan: what spaces before and now have in common: the component -/
section
variable {b0 : Nat} {h h' : lHeap} {s : CS} {L : PLn} {nl nr : Nat} {st ln LC : Nat → Nat} {lab : Int → Int → Int} {fd fL ou ol mp : Nat} {pid nid aid : Nat → Nat → Nat} {si rc rl sp sl : Nat → Nat} {rsv : Nat → Value} {nm : Nat → Int32} {inn : Int → List Nat}
theorem FD_ext (r : FD b0 h L nl nr st ln LC fd fL ou ol mp pid nid aid si rc rl sp sl rsv nm inn) (e : ∀ a c, h a = some c → c.2.2.1 ≠ 67 → c.2.2.1 ≠ 0 → c.2.2.1 ≠ 1003 → h' a = some c) : FD b0 h' L nl nr st ln LC fd fL ou ol mp pid nid aid si rc rl sp sl rsv nm inn := by
  obtain ⟨⟨rv, r1, r2⟩, r3, ⟨mf, r4⟩, ⟨r5, mo, r5b⟩, r6, r7, r8, r9, r10, r11⟩ := r
  refine ⟨⟨rv, ?_, r2⟩, e _ _ r3 (by show ¬ (61 : Nat) = 67; decide) (by show ¬ (61 : Nat) = 0; decide) (by show ¬ (61 : Nat) = 1003; decide), ⟨mf, e _ _ r4 (by show ¬ (1013 : Nat) = 67; decide) (by show ¬ (1013 : Nat) = 0; decide) (by show ¬ (1013 : Nat) = 1003; decide)⟩, ⟨e _ _ r5 (by show ¬ (62 : Nat) = 67; decide) (by show ¬ (62 : Nat) = 0; decide) (by show ¬ (62 : Nat) = 1003; decide), mo, e _ _ r5b (by show ¬ (1013 : Nat) = 67; decide) (by show ¬ (1013 : Nat) = 0; decide) (by show ¬ (1013 : Nat) = 1003; decide)⟩, fun j hj => ?_, fun k hk => ?_, r8, r9, r10, r11⟩
  · have m1 : ∃ cm es, h mp = some (true, false, 1042, .int cm :: fl es) := by obtain ⟨⟨mc, es, q, _⟩, _⟩ := r1.1; exact ⟨mc, es, q⟩
    obtain ⟨mc, es, m1⟩ := m1
    exact GSt_ex r1 (fun a c h1 h2 => e a c h1 (by omega) (by omega) (by omega)) ((e _ _ m1 (by show ¬ (1042 : Nat) = 67; decide) (by show ¬ (1042 : Nat) = 0; decide) (by show ¬ (1042 : Nat) = 1003; decide)).trans m1.symm) (fun k hk => e _ _ (r1.2.1 k hk).2 (by show ¬ (65 : Nat) = 67; decide) (by show ¬ (65 : Nat) = 0; decide) (by show ¬ (65 : Nat) = 1003; decide))
  · obtain ⟨a1, a2, a3, m, a4⟩ := r6 j hj
    exact ⟨e _ _ a1 (by show ¬ (62 : Nat) = 67; decide) (by show ¬ (62 : Nat) = 0; decide) (by show ¬ (62 : Nat) = 1003; decide), a2, a3, m, e _ _ a4 (by show ¬ (1013 : Nat) = 67; decide) (by show ¬ (1013 : Nat) = 0; decide) (by show ¬ (1013 : Nat) = 1003; decide)⟩
  · obtain ⟨a1, a2, a3, m, a4⟩ := r7 k hk
    exact ⟨a1, a2, e _ _ a3 (by show ¬ (66 : Nat) = 67; decide) (by show ¬ (66 : Nat) = 0; decide) (by show ¬ (66 : Nat) = 1003; decide), m, e _ _ a4 (by show ¬ (1013 : Nat) = 67; decide) (by show ¬ (1013 : Nat) = 0; decide) (by show ¬ (1013 : Nat) = 1003; decide)⟩
/-- the next of some bits -/
theorem bs_nx {ms : List Nat} {xs : List Value} {B v k : Nat} (hm : ms.Pairwise (· < ·)) (hB : s.1 B = some (true, false, 1003, xs)) (hx : ∀ q, bit xs q = true ↔ q ∈ ms) (hb : ∀ q ∈ ms, q < 1000) (hv : v < 1000) (hk : k ≤ ms.length) (h1 : ∀ j, j < k → ms.getD j 0 < v) (h2 : k < ms.length → v ≤ ms.getD k 0) : bsNext s B (Int32.ofNat v) = some (if k < ms.length then Int32.ofNat (ms.getD k 0) else -1) := by
  by_cases z : k < ms.length
  · rw [if_pos z]
    have m2 := (hx _).mpr (show ms.getD k 0 ∈ ms by rw [getD_lt z]; exact List.getElem_mem z)
    rcases bsNext_r hB (i := v) (by omega) with ⟨_, h⟩ | ⟨j, g1, g2, g3, g4⟩
    · rw [h _ (h2 z)] at m2; cases m2
    · rw [g1]
      obtain ⟨i, hi, ei⟩ := List.getElem_of_mem ((hx j).mp g3)
      rw [← getD_lt hi] at ei
      have : i = k := by
        rcases Nat.lt_trichotomy i k with w | w | w
        · have := h1 i w; omega
        · exact w
        · have := pw_lt hm w hi
          have := g4 _ (h2 z) (by omega)
          rw [this] at m2; cases m2
      rw [← ei, this]
  · rw [if_neg z]
    rcases bsNext_r hB (i := v) (by omega) with ⟨g1, _⟩ | ⟨j, g1, g2, g3, g4⟩
    · exact g1
    · exfalso
      obtain ⟨i, hi, ei⟩ := List.getElem_of_mem ((hx j).mp g3)
      rw [← getD_lt hi] at ei
      have := h1 i (by omega)
      omega
theorem bs_nx0 {ms : List Nat} {xs : List Value} {B : Nat} (hm : ms.Pairwise (· < ·)) (hB : s.1 B = some (true, false, 1003, xs)) (hx : ∀ q, bit xs q = true ↔ q ∈ ms) (hb : ∀ q ∈ ms, q < 1000) : bsNext s B 0 = some (if 0 < ms.length then Int32.ofNat (ms.getD 0 0) else -1) := bs_nx (v := 0) (k := 0) hm hB hx hb (by omega) (Nat.zero_le _) (fun j hj => absurd hj (Nat.not_lt_zero _)) (fun _ => Nat.zero_le _)
theorem bs_nxS {ms : List Nat} {xs : List Value} {B k : Nat} (hm : ms.Pairwise (· < ·)) (hB : s.1 B = some (true, false, 1003, xs)) (hx : ∀ q, bit xs q = true ↔ q ∈ ms) (hb : ∀ q ∈ ms, q < 999) (hk : k < ms.length) : bsNext s B (Int32.ofNat (ms.getD k 0) + 1) = some (if k + 1 < ms.length then Int32.ofNat (ms.getD (k + 1) 0) else -1) := by
  have b1 := hb (ms.getD k 0) (by rw [getD_lt hk]; exact List.getElem_mem hk)
  rw [i_suc]
  refine bs_nx hm hB hx (fun q hq => by have := hb q hq; omega) (by omega) (by omega) (fun j hj => ?_) (fun z => ?_)
  · by_cases e : j = k
    · rw [e]; omega
    · have := pw_lt hm (show j < k by omega) hk; omega
  · have := pw_lt hm (show k < k + 1 by omega) z; omega
/-- the number of a unit's space -/
theorem FD_num (hg : gdL L nl) (hR : RF L nl nr st ln) (hL : LabN L nl nr st ln lab) (r : FD b0 s.1 L nl nr st ln LC fd fL ou ol mp pid nid aid si rc rl sp sl rsv nm inn) (i j : Int) {S : CS} (hS : S.1 = s.1) : xI S [(62, 0)] (spo ou sp (lab i j)) = some (Int32.ofInt (lab i j)) := by
  obtain ⟨_, _, _, ⟨r5, _⟩, r6, _⟩ := r
  unfold spo
  rcases hL.lt hg hR i j with z | ⟨n, z, w⟩
  · rw [z, if_pos rfl]
    exact xI_o (x := -1) (by rw [hS]; exact r5) rfl rfl
  · rw [z, if_neg (by omega), i_ofI]
    exact xI_o (x := Int32.ofNat n) (by rw [hS]; exact (r6 n w).1) rfl rfl
end
