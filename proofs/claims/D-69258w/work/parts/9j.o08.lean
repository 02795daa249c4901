/-! building: the gate's relation, whole -/
section
variable {own : Nat → Nat} {s U : CS} {tu t T : TS} {L : PLn} {nl nr : Nat} {st ln : Nat → Nat} {lab : Int → Int → Int} {nm : Nat → Int32} {nd : Nat → Nat} {GA : Nat → Nat} {n0 K : Nat}
def ow4 (own : Nat → Nat) (n : Nat) : Nat → Nat := fun a => if n ≤ a then 4 else own a
theorem ga_built (hw : wfS s) (h179 : 179 ≤ s.2.1) (ru : R4 (rs s.1 own 4) tu K) (h1u : tu.1 1 = 0) (zr : ∀ c k, 12 ≤ c → c ≤ 16 → tu.2.2.1 c k = 0) (au : agr [0, 1, 9, 300] [47] tu t) (t1 : t.1 1 = 1) (h9 : t.1 9 = Int32.ofNat (spn L nl st ln nr)) (h40 : spn L nl st ln nr ≤ 40) (hn : ∀ i, i < spn L nl st ln nr → bel (t.2.2.1 64 i) 1001) (F : FT t L nl nr st ln lab nm) (hd : drR t L nl nd) (n6 : ∀ l, l < nl → nd l ≤ 6) (r : PorS t T L nl lab (gapA t L nl lab nd nl)) (hwU : wfS U)
    (u8 : ∀ ff z0 z1, s.1 108 = some (true, false, 89, .ref 101 :: z0 :: z1 :: .ref 110 :: ff) → U.1 108 = some (true, false, 89, .ref 101 :: .int (Int32.ofNat (spn L nl st ln nr)) :: .ref s.2.1 :: .ref 110 :: ff))
    (uz : U.1 s.2.1 = some (true, true, 0, rowC (fun i => .int (zonF t i)) (spn L nl st ln nr)))
    (ul : ∃ mc : Int32, U.1 110 = some (true, false, 1013, .int mc :: rowC (fun j => .ref (n0 + 3 * j)) (gapA t L nl lab nd nl).length))
    (up : ∀ j, j < (gapA t L nl lab nd nl).length → (s.2.1 < GA j ∧ GA j < n0 ∧ U.1 (GA j) = some (gapC t L nl lab ((gapA t L nl lab nd nl).getD j (0, 0, 0)))) ∧ U.1 (n0 + 3 * j) = some (porX t L nl lab GA (Int32.ofNat (spn L nl st ln nr)) n0 j ((gapA t L nl lab nd nl).getD j (0, 0, 0))) ∧ U.1 (n0 + 3 * j + 1) = some (true, false, 1004, []) ∧ U.1 (n0 + 3 * j + 2) = some (true, false, 1003, []))
    (uq : ∀ q, q < s.2.1 → q ≠ 108 → q ≠ 110 → U.1 q = s.1 q) (un : s.2.1 + 1 ≤ n0) : R4 (rs U.1 (ow4 own s.2.1) 4) T K := by
  obtain ⟨zn, nr0, nS, nT, nC, nR, nQ, nL, a, rel, S, C, CS', CM, CT, E, RS, RM', RT, P, G, D, Lk, Fa, RW, v0, v1, v2t, v2c, v2r, v2d, v3, v4, k1, z⟩ := ru
  obtain ⟨rfl, rfl, rfl, rfl, rfl, rfl, rfl⟩ := z h1u
  have aT := r.1
  have hlen := gapA_1320 (t := t) (lab := lab) F.1 (n := nl) (nd := nd) n6
  have kr : ∀ q c, rs s.1 own 4 q = some c → q ≠ 108 → q ≠ 110 → rs U.1 (ow4 own s.2.1) 4 q = some c := by
    intro q c e h1 h2
    obtain ⟨x1, x2⟩ := rs_some.mp e
    have := wf_lt hw x2
    exact rs_some.mpr ⟨by unfold ow4; rw [if_neg (by omega)]; exact x1, by rw [uq q this h1 h2]; exact x2⟩
  have nwc : ∀ q c, U.1 q = some c → s.2.1 ≤ q → rs U.1 (ow4 own s.2.1) 4 q = some c := fun q c e h => rs_some.mpr ⟨by unfold ow4; exact if_pos h, e⟩
  have i1 : T.1 1 = 1 := (aT.1 1 (by simp)).trans t1
  have iu : ∀ c, c ∉ [0, 1, 9, 300] → c ≠ 10 → T.1 c = tu.1 c := fun c h1 h2 => (aT.1 c (by simpa using h2)).trans (au.1 c h1)
  have ru : ∀ c, c ≠ 47 → c ∉ [7, 8, 9, 10, 11, 15] → T.2.2.1 c = tu.2.2.1 c := fun c h1 h2 => (aT.2.2.1 c h2).trans (au.2.2.1 c (by simpa using h1))
  have e9 : T.1 9 = Int32.ofNat (spn L nl st ln nr) := (aT.1 9 (by simp)).trans h9
  obtain ⟨w0, w1, w2, w3, w4, w5⟩ := v0
  refine ⟨s.2.1, spn L nl st ln nr, 0, 0, 0, 0, (gapA t L nl lab nd nl).length, 0, 0, rel, S, C, CS', CM, CT, E, RS, RM', RT, fun j => n0 + 3 * j, GA, fun j => n0 + 3 * j + 1, fun j => n0 + 3 * j + 2, Fa, RW, ⟨?_, by rw [i1]; exact Or.inr rfl, w2, e9, h40, fun _ => ⟨by omega, fun i => zonF t i, nwc _ _ uz (Nat.le_refl _), fun i hi => ?_⟩⟩, ?_, ?_, ?_, ?_, v2d, ?_, ?_, k1, fun h => by rw [i1] at h; cases h⟩
  · obtain ⟨x1, x2⟩ := rs_some.mp w0
    refine rs_some.mpr ⟨by unfold ow4; rw [if_neg (by omega)]; exact x1, ?_⟩
    rw [u8 _ _ _ x2, i1, if_neg (by decide), e9, iu 49 (by simp) (by decide), iu 45 (by simp) (by decide)]
  · have e64 : T.2.2.1 64 = t.2.2.1 64 := aT.2.2.1 64 (by simp)
    rw [e64]
    exact ⟨hn i hi, rfl⟩
  · obtain ⟨⟨mc, x1⟩, x2, x3, x4, x5, x6⟩ := v1
    refine ⟨⟨mc, kr _ _ x1 (by decide) (by decide)⟩, by rw [iu 27 (by simp) (by decide)]; exact x2, x3, fun k hk => absurd hk (Nat.not_lt_zero _), fun j k hj => absurd hj (Nat.not_lt_zero _), fun k h1 h2 => ?_⟩
    rw [ru 28 (by decide) (by simp), ru 29 (by decide) (by simp)]
    exact x6 k h1 h2
  · exact ⟨by rw [iu 45 (by simp) (by decide)]; exact v2t.1, fun j hj => absurd hj (Nat.not_lt_zero _)⟩
  · obtain ⟨⟨mc, x1⟩, x2, x3, x4, x5, x6⟩ := v2c
    exact ⟨⟨mc, kr _ _ x1 (by decide) (by decide)⟩, by rw [iu 36 (by simp) (by decide)]; exact x2, x3, fun k hk => absurd hk (Nat.not_lt_zero _), fun j k hj => absurd hj (Nat.not_lt_zero _), fun j k _ _ hj => absurd hj (Nat.not_lt_zero _)⟩
  · obtain ⟨⟨mc, x1⟩, x2, x3, x4, x5⟩ := v2r
    exact ⟨⟨mc, kr _ _ x1 (by decide) (by decide)⟩, by rw [iu 39 (by simp) (by decide)]; exact x2, x3, fun k hk => absurd hk (Nat.not_lt_zero _), fun j k _ _ hj => absurd hj (Nat.not_lt_zero _)⟩
  · obtain ⟨⟨mc0, x1⟩, _, _, _, _, _, _, x24, _⟩ := v3
    obtain ⟨mc, ul⟩ := ul
    obtain ⟨o110, _⟩ := rs_some.mp x1
    refine ⟨⟨mc, rs_some.mpr ⟨by unfold ow4; rw [if_neg (by omega)]; exact o110, ul⟩⟩, r.2.1, by omega, fun j hj => ?_, fun j k _ _ h => by dsimp only at h; omega, fun j k _ _ h => by dsimp only at h; omega, fun j k _ _ h => by dsimp only at h; omega, by rw [iu 24 (by simp) (by decide)]; exact x24, fun k hk => absurd hk (Nat.not_lt_zero _)⟩
    obtain ⟨⟨g1, g2, g3⟩, p1, p2, p3⟩ := up j hj
    obtain ⟨l, d, p, u, eg, h1, h2, h3, h4, h5, h5', y7, y8, y9, y10, y11, y15, fl, cx, cy, ne⟩ := por_T F hd h9 r hj
    have r12 : ∀ c, 12 ≤ c → c ≤ 14 ∨ c = 16 → T.2.2.1 c j = 0 := fun c a b => by
      rw [ru c (by omega) (by simp only [List.mem_cons, List.not_mem_nil, or_false]; omega)]
      exact zr c j a (by omega)
    rw [eg] at g3 p1
    refine ⟨?_, by dsimp only; omega, ?_⟩
    · refine (nwc _ _ p1 (by omega)).trans ?_
      unfold porX porC
      dsimp only
      rw [y7, y8, cx, cy, fl, r12 12 (by omega) (by omega), r12 13 (by omega) (by omega), r12 14 (by omega) (by omega), y15, ← h4]
      rfl
    · have gc := nwc _ _ g3 (by omega)
      refine ⟨by rw [gc]; simp, ⟨.int (Int32.ofInt (gLL (gS L nl) lab (2 * p))), (.int (Int32.ofInt (gLL (gS L nl) lab (2 * p + 1))), .int (Int32.ofNat (min (dB t l d) (kB L nl p)))), ?_⟩, ⟨by omega, by dsimp only; omega, by dsimp only; omega⟩, por_ok F hd h9 r hj, by rw [r12 12 (by omega) (by omega)]; exact Or.inl rfl, by rw [r12 13 (by omega) (by omega)]; exact Or.inl rfl, by rw [r12 14 (by omega) (by omega)]; exact ⟨0, by omega, rfl⟩, Or.inl ⟨y15, r12 16 (by omega) (by omega)⟩, ⟨0, by omega, r12 16 (by omega) (by omega), nwc _ _ p2 (show s.2.1 ≤ n0 + 3 * j + 1 by omega), fun i hi => absurd hi (Nat.not_lt_zero _)⟩, [], nwc _ _ p3 (show s.2.1 ≤ n0 + 3 * j + 2 by omega), fun q => ?_⟩
      · refine gc.trans ?_
        unfold gapC
        dsimp only
        rw [y9, y10, y11, h4]
      · constructor
        · intro h; cases h
        · rintro ⟨_, k, hk, _⟩
          exact absurd hk (Nat.not_lt_zero _)
  · obtain ⟨⟨mc, x1⟩, x2, _⟩ := v4
    exact ⟨⟨mc, kr _ _ x1 (by decide) (by decide)⟩, by rw [iu 49 (by simp) (by decide)]; exact x2, fun k hk => absurd hk (Nat.not_lt_zero _)⟩
end
