/-! the bus: the component's telegram, whole -/
theorem c_tel {s : CS} {a p ad aim gr c f : Nat} {v4 : Int32} (h1 : s.1 a = some (true, false, 93, [.int 0, .null, .int 0])) (ha : a ≠ s.2.1) (had : ad < 65536) (hp : p < 4) (haim : aim < 65536) (hc1 : 1 ≤ c) (hc : c ≤ 14) (hf : f < 256) (hgr : (if v4 = 0 then some (0 : Int32) else some 128) = some (Int32.ofNat gr)) (hgr2 : gr ≤ 128) :
    ∃ s', c_1062 a (Int32.ofNat p) (Int32.ofNat ad) (Int32.ofNat aim) v4 (Int32.ofNat c) (Int32.ofNat f) s = some s' ∧ s'.1 a = some (tlC (Int32.ofNat p) 0 s.2.1) ∧ s'.1 s.2.1 = some (true, true, 0, rowC (fun j => .int (if j = c + 6 then xr (sB p ad aim gr c f) (c + 6) else sB p ad aim gr c f j)) (c + 7)) ∧ s'.2 = (s.2.1 + 1, s.2.2.1 + 1, s.2.2.2 + (c + 7)) ∧ ∀ q, q ≠ a → q ≠ s.2.1 → s'.1 q = s.1 q := by
  have x1 : xP s [(93, 0)] a (.int (Int32.ofNat p)) = some (cup s a (true, false, 93, [.int (Int32.ofNat p), .null, .int 0])) := by simp only [xP, h1]; rfl
  have e7 : Int32.ofNat c + 7 = Int32.ofNat (c + 7) := i_addL 7 c
  generalize hs1 : cup s a (true, false, 93, [.int (Int32.ofNat p), .null, .int 0]) = s1 at x1
  have i1 : s1.2 = s.2 := by rw [← hs1]; rfl
  have y1 : nwa s1 0 (.int 0) (Int32.ofNat c + 7) = some (nwc s1 (true, true, 0, rowC (fun _ => .int 0) (c + 7)) 1 (c + 7)) := by
    unfold nwa
    rw [e7, i_clamp (by omega), if_pos ⟨i_nlt0 (by omega), by omega⟩]
    have : List.replicate (c + 7) (Value.int 0) = rowC (fun _ => .int 0) (c + 7) := by
      rw [rowC, List.map_const', List.length_range]
    rw [this]
  have q1 : s1.1 a = some (true, false, 93, [.int (Int32.ofNat p), .null, .int 0]) := by rw [← hs1, cup_at, if_pos rfl]
  have q2 : ∀ q, q ≠ a → s1.1 q = s.1 q := fun q hq => by rw [← hs1, cup_at, if_neg hq]
  obtain ⟨n2, hn⟩ : ∃ n2, n2 = nwc s1 (true, true, 0, rowC (fun _ => .int 0) (c + 7)) 1 (c + 7) := ⟨_, rfl⟩
  have n1 : n2.1 = s.2.1 := by rw [hn]; show s1.2.1 = _; rw [i1]
  have n3 : n2.2.1 = lUpd s1.1 s.2.1 (true, true, 0, rowC (fun _ => .int 0) (c + 7)) := by rw [hn]; show lUpd s1.1 s1.2.1 _ = _; rw [i1]
  have n4 : n2.2.2 = (s.2.1 + 1, s.2.2.1 + 1, s.2.2.2 + (c + 7)) := by rw [hn]; show (s1.2.1 + 1, s1.2.2.1 + 1, s1.2.2.2 + (c + 7)) = _; rw [i1]
  have n5 : n2.2.1 a = some (true, false, 93, [.int (Int32.ofNat p), .null, .int 0]) := by rw [n3, lUpd_at, if_neg ha]; exact q1
  have x3 : xP n2.2 [(93, 1)] a (.ref n2.1) = some (cup n2.2 a (tlC (Int32.ofNat p) 0 s.2.1)) := by simp only [xP, n5, n1]; rfl
  have z0 : (cup n2.2 a (tlC (Int32.ofNat p) 0 s.2.1)).1 s.2.1 = some (true, true, 0, rowC (fun j => .int ((fun _ => 0) j)) (c + 7)) := by rw [cup_at, if_neg (fun e => ha e.symm), n3, lUpd_at, if_pos rfl]
  obtain ⟨s5, p1, a1, b1, c1, d1⟩ := tl_put (i := 0) (w := Int32.ofNat (176 + 4 * p)) ha (by rw [cup_at, if_pos rfl]) z0 (by omega) (by omega)
  obtain ⟨s7, p2, a2, b2, c2, d2⟩ := tl_put (i := 1) (w := Int32.ofNat (ad / 256)) ha a1 b1 (by omega) (by omega)
  obtain ⟨s9, p3, a3, b3, c3, d3⟩ := tl_put (i := 2) (w := Int32.ofNat (ad % 256)) ha a2 b2 (by omega) (by omega)
  obtain ⟨s11, p4, a4, b4, c4, d4⟩ := tl_put (i := 3) (w := Int32.ofNat (aim / 256)) ha a3 b3 (by omega) (by omega)
  obtain ⟨s13, p5, a5, b5, c5, d5⟩ := tl_put (i := 4) (w := Int32.ofNat (aim % 256)) ha a4 b4 (by omega) (by omega)
  obtain ⟨s16, p6, a6, b6, c6, d6⟩ := tl_put (i := 5) (w := Int32.ofNat (c - 1 + gr)) ha a5 b5 (by omega) (by omega)
  obtain ⟨s18, p7, a7, b7, c7, d7⟩ := c_bytes (c := c) (f := f) ha a6 b6 (by omega) (by omega) hf
  have rw8 : rowC (fun j => Value.int (if 6 ≤ j ∧ j < 6 + c then Int32.ofNat ((f + (j - 6)) % 256) else if j = 5 then Int32.ofNat (c - 1 + gr) else if j = 4 then Int32.ofNat (aim % 256) else if j = 3 then Int32.ofNat (aim / 256) else if j = 2 then Int32.ofNat (ad % 256) else if j = 1 then Int32.ofNat (ad / 256) else if j = 0 then Int32.ofNat (176 + 4 * p) else (fun _ => 0) j)) (c + 7) = rowC (fun j => Value.int (if j = c + 6 then 0 else sB p ad aim gr c f j)) (c + 7) := rowC_congr (fun j hj => by
    congr 1
    by_cases z : j = c + 6
    · rw [if_pos z, if_neg (by omega), if_neg (by omega), if_neg (by omega), if_neg (by omega), if_neg (by omega), if_neg (by omega), if_neg (by omega)]
    · rw [if_neg z]
      unfold sB
      by_cases y : 6 ≤ j
      · rw [if_pos (by omega), if_neg (by omega), if_neg (by omega), if_neg (by omega), if_neg (by omega), if_neg (by omega), if_neg (by omega)]
      · have : j = 0 ∨ j = 1 ∨ j = 2 ∨ j = 3 ∨ j = 4 ∨ j = 5 := by omega
        rcases this with rfl | rfl | rfl | rfl | rfl | rfl <;> simp)
  rw [rw8] at b7
  have cl := c_close (f := fun j => if j = c + 6 then 0 else sB p ad aim gr c f j) (show s18.1 a = some (true, false, 93, [.int (Int32.ofNat p), .ref s.2.1, .int 0]) from a7) b7 (by omega) (by omega)
  have vp : (176 : Int32) + (4 * Int32.ofNat p) = Int32.ofNat (176 + 4 * p) := by rw [i_mulL, i_Ladd]
  have v8 : ∀ x, x < 65536 → Int32.ofNat x >>> ((8 : Int32) &&& 31) = Int32.ofNat (x / 256) := fun x hx => by rw [show ((8 : Int32) &&& 31) = Int32.ofNat 8 from rfl, i_shr (by omega) (by omega)]
  have vc : Int32.ofNat gr + Int32.ofNat c - 1 = Int32.ofNat (c - 1 + gr) := by
    rw [i_add, show gr + c = (c - 1 + gr) + 1 by omega, ← i_suc, Int32.add_sub_cancel]
  refine ⟨cup s18 s.2.1 (true, true, 0, rowC (fun j => if j = c + 7 - 1 then .int (xr (fun j => if j = c + 6 then 0 else sB p ad aim gr c f j) (c + 7 - 1)) else .int (if j = c + 6 then 0 else sB p ad aim gr c f j)) (c + 7)), ?_, ?_, ?_, ?_, ?_⟩
  rotate_left
  · rw [cup_at, if_neg ha]; exact a7
  · rw [cup_at, if_pos rfl]
    rw [rowC_congr (g := fun j => Value.int (if j = c + 6 then xr (sB p ad aim gr c f) (c + 6) else sB p ad aim gr c f j)) (fun j _ => by
      have e6 : c + 7 - 1 = c + 6 := by omega
      rw [e6]
      by_cases z : j = c + 6
      · rw [if_pos z, if_pos z, xr_cg (g := sB p ad aim gr c f) (fun i hi => if_neg (by omega))]
      · rw [if_neg z, if_neg z, if_neg z])]
  · show s18.2 = _
    rw [c7, c6, c5, c4, c3, c2, c1]; exact n4
  · intro q h q'
    rw [cup_at, if_neg q', d7 q q', d6 q q', d5 q q', d4 q q', d3 q q', d2 q q', d1 q q', cup_at, if_neg h, n3, lUpd_at, if_neg q', q2 q h]
  · unfold c_1062
    rw [x1, Option.bind_some, y1, Option.bind_some, ← hn, x3, Option.bind_some]
    have A0 : (cup n2.2 a (tlC (Int32.ofNat p) 0 s.2.1)).1 a = some (tlC (Int32.ofNat p) 0 s.2.1) := by rw [cup_at, if_pos rfl]
    rw [(tl_f A0).1, Option.bind_some, vp]
    erw [p1]
    rw [Option.bind_some, (tl_f a1).1, Option.bind_some, v8 ad had]
    erw [p2]
    rw [Option.bind_some, (tl_f a2).1, Option.bind_some, i_and255]
    erw [p3]
    rw [Option.bind_some, (tl_f a3).1, Option.bind_some, v8 aim haim]
    erw [p4]
    rw [Option.bind_some, (tl_f a4).1, Option.bind_some, i_and255]
    erw [p5]
    rw [Option.bind_some, (tl_f a5).2.1, Option.bind_some, hgr, Option.bind_some, Option.bind_some, vc]
    erw [p6]
    rw [Option.bind_some, p7, Option.bind_some, if_pos (tl_f a7).2.2, cl, Option.bind_some]
