/-! the lifts: a call is begun -/
theorem R8_beg {h h' : lHeap} {t : TS} {nc nk c : Nat} {C D M : Nat → Nat} {b b' : Nat → Option Nat} {v : Int32} (r : R8x h t nc nk C D M b) (hc : c < nk) (hO : isO t c) (hv : v = -1 ∨ ∃ k, k < nc ∧ v = Int32.ofNat k)
    (hb' : ∀ k c', k < nc → (b' k = some c' ↔ c' < nk ∧ isO t c' ∧ (if c' = c then v else t.2.2.1 167 c') = Int32.ofNat k)) (hC : ∀ k, k < nc → h' (C k) = some (carC t C D (b' k) k)) (hD : h' (D c) = some (calC (wrI t 167 c v) C c)) (ho : ∀ q, (∀ k, k < nc → q ≠ C k) → q ≠ D c → h' q = h q) : R8x h' (wrI t 167 c v) nc nk C D M b' := by
  obtain ⟨⟨nw, hm, lst, p1⟩, ⟨m1, p2⟩, ⟨m2, e2, p3⟩, ⟨m3, e3, p4⟩, ⟨f5, p5⟩, ⟨f6, p6⟩, p7, p8, p9, p10, p11, p12, p13, p14, p15, p16, p17, p18, ⟨mo, eo, o1, o2, o3, o4⟩, ⟨mm, em, q1, q2, q3, q4, q5, q6⟩⟩ := r
  have hDc := (p16 c hc).2.2 hO
  have lo : ∀ q, q < 179 → h' q = h q := fun q hq => ho q (fun k hk => by have := (p14 k hk).2.2; omega) (by have := hDc.2; omega)
  have e : ∀ q, q ≠ 167 → ∀ j, (wrI t 167 c v).2.2.1 q j = t.2.2.1 q j := fun q hq j => wr_ne hq j
  refine ⟨⟨nw, hm, lst, (lo _ (by omega)).trans p1⟩, ⟨m1, (lo _ (by omega)).trans p2⟩, ⟨m2, e2, (lo _ (by omega)).trans p3⟩, ⟨m3, e3, (lo _ (by omega)).trans p4⟩, ⟨f5, (lo _ (by omega)).trans p5⟩, ⟨f6, (lo _ (by omega)).trans p6⟩, p7, p8, p9, p10, p11, p12, p13, ?_, p15, ?_, p17, ?_, ⟨mo, eo, (lo _ (by omega)).trans o1, o2, o3, o4⟩, ⟨mm, em, (lo _ (by omega)).trans q1, q2, q3, q4, fun c' h1 h2 => ?_, q6⟩⟩
  · intro k hk
    exact ⟨hC k hk, (p14 k hk).2.1, (p14 k hk).2.2⟩
  · intro c' hc'
    obtain ⟨y1, ⟨u1, u2, u3, u4⟩, y3⟩ := p16 c' hc'
    by_cases z : c' = c
    · subst z
      refine ⟨y1, ⟨u1, u2, u3, ?_⟩, fun _ => ⟨hD, hDc.2⟩⟩
      rw [wr_at, if_pos ⟨rfl, rfl⟩]; exact hv
    · have e7 : (wrI t 167 c v).2.2.1 167 c' = t.2.2.1 167 c' := wr_nk z
      refine ⟨y1, ⟨u1, u2, u3, by rw [e7]; exact u4⟩, fun hO' => ?_⟩
      have hO2 : isO t c' := hO'
      obtain ⟨x1, x2⟩ := y3 hO2
      refine ⟨?_, x2⟩
      rw [ho _ (fun k hk => apart x1 (p14 k hk).1 (by show (96 : Nat) ≠ 95; omega)) (fun w => z (p17 c' c hc' hc hO2 hO w)), x1]
      unfold calC
      rw [e7]
      rfl
  · intro k c' hk
    rw [hb' k c' hk]
    have : (wrI t 167 c v).2.2.1 167 c' = if c' = c then v else t.2.2.1 167 c' := by
      rw [wr_at]
      by_cases z : c' = c
      · rw [if_pos ⟨rfl, z⟩, if_pos z]
      · rw [if_neg (fun w => z w.2), if_neg z]
    rw [this]
    rfl
  · obtain ⟨y1, y2, y3⟩ := q5 c' h1 h2
    refine ⟨y1, ?_, y3⟩
    rw [ho _ (fun k hk => apart y2 (p14 k hk).1 (by show (99 : Nat) ≠ 95; omega)) (apart y2 hDc.1 (by show (99 : Nat) ≠ 96; omega)), y2]
    rfl
/-- a call is closed -/
theorem R8_don {h h' : lHeap} {t : TS} {nc nk c : Nat} {C D M : Nat → Nat} {b b' : Nat → Option Nat} {m1' : Int32} {es' : List (Value × Value)} (r : R8x h t nc nk C D M b) (hc : c < nk) (hO : isO t c)
    (hb' : ∀ k, k < nc → b' k = if b k = some c then none else b k) (hC : ∀ k, k < nc → h' (C k) = some (carC t C D (b' k) k)) (hM : h' 164 = some (true, false, 1042, .int m1' :: fl es')) (hm1 : Mp rkI es' (fun z => if z = (c : Int) then none else if 0 ≤ z ∧ z < (nk : Int) ∧ t.2.2.1 166 z.toNat = 1 then some (.ref (D z.toNat)) else none)) (hm2 : ∀ x ∈ es'.map Prod.fst, ∃ i, x = .int i) (hm3 : es'.length ≤ 6) (ho : ∀ q, (∀ k, k < nc → q ≠ C k) → q ≠ D c → q ≠ 164 → h' q = h q) : R8x h' (wrI t 166 c 0) nc nk C D M b' := by
  obtain ⟨⟨nw, hm, lst, p1⟩, ⟨m1, p2⟩, ⟨m2, e2, p3⟩, ⟨m3, e3, p4⟩, ⟨f5, p5⟩, ⟨f6, p6⟩, p7, p8, p9, p10, p11, p12, p13, p14, p15, p16, p17, p18, ⟨mo, eo, o1, o2, o3, o4⟩, ⟨mm, em, q1, q2, q3, q4, q5, q6⟩⟩ := r
  have hDc := (p16 c hc).2.2 hO
  have lo : ∀ q, q < 179 → q ≠ 164 → h' q = h q := fun q hq hq2 => ho q (fun k hk => by have := (p14 k hk).2.2; omega) (by have := hDc.2; omega) hq2
  have iO : ∀ c', isO (wrI t 166 c 0) c' ↔ c' ≠ c ∧ isO t c' := by
    intro c'
    unfold isO
    rw [wr_at]
    by_cases z : c' = c
    · rw [if_pos ⟨rfl, z⟩]
      exact ⟨fun w => absurd w (by decide), fun w => absurd z w.1⟩
    · rw [if_neg (fun w => z w.2)]
      exact ⟨fun w => ⟨z, w⟩, fun w => w.2⟩
  refine ⟨⟨nw, hm, lst, (lo _ (by omega) (by omega)).trans p1⟩, ⟨m1, (lo _ (by omega) (by omega)).trans p2⟩, ⟨m2, e2, (lo _ (by omega) (by omega)).trans p3⟩, ⟨m3, e3, (lo _ (by omega) (by omega)).trans p4⟩, ⟨f5, (lo _ (by omega) (by omega)).trans p5⟩, ⟨f6, (lo _ (by omega) (by omega)).trans p6⟩, p7, p8, p9, p10, p11, p12, p13, ?_, p15, ?_, ?_, ?_, ⟨m1', es', hM, ?_, hm2, hm3⟩, ⟨mm, em, (lo _ (by omega) (by omega)).trans q1, q2, q3, q4, fun c' h1 h2 => ?_, q6⟩⟩
  · intro k hk
    exact ⟨hC k hk, (p14 k hk).2.1, (p14 k hk).2.2⟩
  · intro c' hc'
    obtain ⟨y1, y2, y3⟩ := p16 c' hc'
    refine ⟨?_, y2, fun hO' => ?_⟩
    · rw [wr_at]
      by_cases z : c' = c
      · rw [if_pos ⟨rfl, z⟩]; exact Or.inl rfl
      · rw [if_neg (fun w => z w.2)]; exact y1
    · obtain ⟨z, hO2⟩ := (iO c').mp hO'
      obtain ⟨x1, x2⟩ := y3 hO2
      refine ⟨?_, x2⟩
      rw [ho _ (fun k hk => apart x1 (p14 k hk).1 (by show (96 : Nat) ≠ 95; omega)) (fun w => z (p17 c' c hc' hc hO2 hO w)) (by omega), x1]
      rfl
  · intro c1 c2 h1 h2 h3 h4 h5
    exact p17 c1 c2 h1 h2 ((iO c1).mp h3).2 ((iO c2).mp h4).2 h5
  · intro k c' hk
    rw [hb' k hk, iO]
    have h7 : (wrI t 166 c 0).2.2.1 167 c' = t.2.2.1 167 c' := wr_ne (by omega) _
    rw [h7]
    by_cases z : b k = some c
    · rw [if_pos z]
      constructor
      · intro w; cases w
      · rintro ⟨w1, ⟨w2, w3⟩, w4⟩
        have := (p18 k c' hk).mpr ⟨w1, w3, w4⟩
        rw [z] at this
        exact absurd (Option.some.inj this).symm w2
    · rw [if_neg z, p18 k c' hk]
      constructor
      · rintro ⟨w1, w2, w3⟩
        refine ⟨w1, ⟨fun w => z ?_, w2⟩, w3⟩
        rw [← w]
        exact (p18 k c' hk).mpr ⟨w1, w2, w3⟩
      · rintro ⟨w1, ⟨_, w2⟩, w3⟩
        exact ⟨w1, w2, w3⟩
  · have : (fun z : Int => if z = (c : Int) then none else if 0 ≤ z ∧ z < (nk : Int) ∧ t.2.2.1 166 z.toNat = 1 then some (Value.ref (D z.toNat)) else none) = (fun z : Int => if 0 ≤ z ∧ z < (nk : Int) ∧ (wrI t 166 c 0).2.2.1 166 z.toNat = 1 then some (.ref (D z.toNat)) else none) := by
      funext z
      by_cases y : z = (c : Int)
      · rw [if_pos y, if_neg]
        rintro ⟨_, _, x⟩
        rw [y, Int.toNat_natCast, wr_at, if_pos ⟨rfl, rfl⟩] at x
        exact absurd x (by decide)
      · rw [if_neg y]
        by_cases y2 : 0 ≤ z
        · rw [wr_nk (show z.toNat ≠ c by omega)]
        · rw [if_neg (fun w => y2 w.1), if_neg (fun w => y2 w.1)]
    rw [← this]
    exact hm1
  · obtain ⟨y1, y2, y3⟩ := q5 c' h1 h2
    refine ⟨y1, ?_, y3⟩
    rw [ho _ (fun k hk => apart y2 (p14 k hk).1 (by show (99 : Nat) ≠ 95; omega)) (apart y2 hDc.1 (by show (99 : Nat) ≠ 96; omega)) (by omega), y2]
    rfl
