/-! the bus: what stations send -/
theorem byt_N {x : Int32} (h : byt x) : x = Int32.ofNat (bN x) ∧ bN x < 256 := by
  obtain ⟨b, hb, rfl⟩ := h
  have : bN (Int32.ofNat b) = b := i_clamp (by omega)
  rw [this]
  exact ⟨rfl, hb⟩
theorem c_lbB {x : Int32} {k : Nat} (h : byt x) (hk : k < 11) (s : CS) : c_1107 x (Int32.ofNat k) s = some (Int32.ofNat (lb (bN x) k)) := by
  obtain ⟨b, hb, rfl⟩ := h
  have : bN (Int32.ofNat b) = b := i_clamp (by omega)
  rw [this, c_lb hb hk]
theorem t_lbB {x : Int32} {k : Nat} (h : byt x) (hk : k < 11) (s : TS) : t_836 x (Int32.ofNat k) s = some (Int32.ofNat (lb (bN x) k)) := by
  obtain ⟨b, hb, rfl⟩ := h
  have : bN (Int32.ofNat b) = b := i_clamp (by omega)
  rw [this, t_lb hb hk]
/-- bit p of what is said first -/
def tb (t : TS) (k p : Nat) : Nat := if p % 13 < 11 then lb (bN (tl t k 0 (p / 13))) (p % 13) else 1
theorem tb_2 (t : TS) (k p : Nat) : tb t k p = 0 ∨ tb t k p = 1 := by
  unfold tb
  split
  · exact lb_2 _ _
  · simp
theorem i_lb {x : Nat} (h : x = 0 ∨ x = 1) : (if Int32.ofNat x = 0 then some (0 : Int32) else some 1) = some (Int32.ofNat x) := by
  rcases h with rfl | rfl <;> rfl
theorem c_tb {h : lHeap} {s : CS} {t : TS} {k a b m p : Nat} (hs : ∀ q c, h q = some c → s.1 q = some c) (r : R6t h t k 0 a b m) (hp : p + 2 < 13 * m) : c_1064 a (Int32.ofNat p) s = some (Int32.ofNat (tb t k p)) := by
  obtain ⟨r1, r2, r3, r4, r5, r6, r7, r8⟩ := r
  have h1 := hs _ _ r1
  have h2 := hs _ _ r2
  have hb := byt_N (r6 (p / 13) (by omega)).1
  unfold c_1064 tb
  rw [i_modL (by omega) (by omega), i_divL (by omega) (by omega)]
  by_cases hl : p % 13 < 11
  · rw [if_pos ((i_ltL (by omega) (by omega)).mpr hl), if_pos hl]
    simp only [xN, xV, h1, lLook, toP, Option.bind_some, if_true, List.getElem?_cons_succ, List.getElem?_cons_zero]
    rw [aI_r h2 (by omega) (by decide) (show p / 13 < m by omega) (by omega) rfl, Option.bind_some, c_lbB (r6 (p / 13) (by omega)).1 (by omega), Option.bind_some]
  · rw [if_neg (by rw [i_ltL (by omega) (by omega)]; exact hl), if_neg hl]; rfl
theorem t_tb {h : lHeap} {t : TS} {k a b m p : Nat} (hk : k < 8) (r : R6t h t k 0 a b m) (hp : p + 2 < 13 * m) : t_835 (Int32.ofNat k) (Int32.ofNat p) t = some (Int32.ofNat (tb t k p)) := by
  obtain ⟨r1, r2, r3, r4, r5, r6, r7, r8⟩ := r
  have hb := byt_N (r6 (p / 13) (by omega)).1
  unfold t_835 tb
  rw [i_modL (by omega) (by omega), i_divL (by omega) (by omega)]
  by_cases hl : p % 13 < 11
  · have h10 : ¬ (10 : Int32) < Int32.ofNat (p % 13) := fun q => absurd ((i_Llt (by omega) (by omega)).mp q) (by show ¬ 10 < p % 13; omega)
    rw [if_neg h10, if_pos hl, i_mulL, i_add, rdI_n (show 144 * k + p / 13 < 1152 by omega) (by omega), Option.bind_some]
    have e : t.2.2.1 147 (144 * k + p / 13) = tl t k 0 (p / 13) := by unfold tl; rw [show 144 * k + p / 13 = 24 * (6 * k + 0) + p / 13 by omega]
    rw [e, t_lbB (r6 (p / 13) (by omega)).1 (by omega), Option.bind_some, i_lb (lb_2 _ _)]
  · rw [if_pos ((i_Llt (by omega) (by omega)).mpr (by omega)), if_neg hl]; rfl
/-- what a station sends -/
def sb (t : TS) (k : Nat) : Nat := (if t.2.2.1 148 k = -1 then 1 else tb t k (bN (t.2.2.1 148 k))) * (if t.2.2.1 150 k = -1 then 1 else lb (bN (t.2.2.1 150 k)) (bN (t.2.2.1 151 k)))
theorem sb_2 (t : TS) (k : Nat) : sb t k = 0 ∨ sb t k = 1 := by
  unfold sb
  split <;> split
  · simp
  · rcases lb_2 (bN (t.2.2.1 150 k)) (bN (t.2.2.1 151 k)) with h | h <;> simp [h]
  · rcases tb_2 t k (bN (t.2.2.1 148 k)) with h | h <;> simp [h]
  · rcases lb_2 (bN (t.2.2.1 150 k)) (bN (t.2.2.1 151 k)) with h | h <;> rcases tb_2 t k (bN (t.2.2.1 148 k)) with h' | h' <;> simp [h, h']
theorem i_bN {k : Nat} (h : k < 2147483648) : bN (Int32.ofNat k) = k := i_clamp h
theorem c_sb {h : lHeap} {s : CS} {t : TS} {k n : Nat} {ti bi m : Nat → Nat} (hs : ∀ q c, h q = some c → s.1 q = some c) (r : R6s h t k n ti bi m) : c_480 (127 + 3 * k) s = some (Int32.ofNat (sb t k)) := by
  obtain ⟨s1, s2, s3, s4, s5, s6, s7, s8, s9, s10, s11, _⟩ := r
  have h1 := hs _ _ s1
  have h2 := hs _ _ s2
  unfold c_480 sb
  have a4 : xI s [(46, 4)] (127 + 3 * k) = some (t.2.2.1 148 k) := by simp [xI, xV, h1, sC, lLook, toI]
  have a6 : xI s [(46, 6)] (127 + 3 * k) = some (t.2.2.1 150 k) := by simp [xI, xV, h1, sC, lLook, toI]
  have a7 : xI s [(46, 7)] (127 + 3 * k) = some (t.2.2.1 151 k) := by simp [xI, xV, h1, sC, lLook, toI]
  have a3 : xN s [(46, 3)] (127 + 3 * k) = some (129 + 3 * k) := by simp [xN, xV, h1, sC, lLook, toP]
  have k4 : isK s [4] (129 + 3 * k) = true := by simp [isK, kdo, h2]
  simp only [a4, a3, a6, a7, k4, Option.bind_some, if_true]
  -- its own bit
  have own : (if t.2.2.1 148 k = -1 then some (1 : Int32) else Option.bind (adFirst s (129 + 3 * k)) (fun e3 => Option.bind (toN s [93] e3) (fun a4 => if isK s [93] a4 = true then Option.bind (c_1064 a4 (t.2.2.1 148 k) s) (fun x6 => some x6) else none))) = some (Int32.ofNat (if t.2.2.1 148 k = -1 then 1 else tb t k (bN (t.2.2.1 148 k)))) := by
    by_cases e : t.2.2.1 148 k = -1
    · simp only [if_pos e]; rfl
    · rcases s9 with q | ⟨p, q, q1, q2⟩
      · exact absurd q e
      · have rt := s6 0 q1
        have h3 := hs _ _ rt.1
        have k93 : isK s [93] (ti 0) = true := by simp [isK, kdo, h3]
        simp only [if_neg e, adFirst_r h2 q1, Option.bind_some, toN, k93, if_true, q]
        have hp : p < 2147483648 := by have := rt.2.2.2.2.1; omega
        rw [c_tb hs rt q2, i_bN hp, if_neg (i_ne1 hp), if_neg (i_ne1 hp)]
        rfl
  rw [own, Option.bind_some]
  by_cases e : t.2.2.1 150 k = -1
  · simp only [if_pos e, Nat.mul_one]
  · rcases s11 with q | ⟨q, p, hp, q2⟩
    · exact absurd q e
    · have hb := byt_N q
      simp only [if_neg e]
      rw [q2, c_lbB q hp, Option.bind_some, i_and, i_bN (by omega)]
      congr 2
      have o1 : (if t.2.2.1 148 k = -1 then 1 else tb t k (bN (t.2.2.1 148 k))) = 0 ∨ (if t.2.2.1 148 k = -1 then 1 else tb t k (bN (t.2.2.1 148 k))) = 1 := by
        split
        · simp
        · exact tb_2 _ _ _
      rcases o1 with o1 | o1 <;> rcases lb_2 (bN (t.2.2.1 150 k)) p with o2 | o2 <;> rw [o1, o2] <;> rfl
theorem t_sb {h : lHeap} {t : TS} {k n : Nat} {ti bi m : Nat → Nat} (hk : k < 8) (r : R6s h t k n ti bi m) : t_834 (Int32.ofNat k) t = some (Int32.ofNat (sb t k)) := by
  obtain ⟨s1, s2, s3, s4, s5, s6, s7, s8, s9, s10, s11, _⟩ := r
  unfold t_834 sb
  simp only [rdI_n hk (show 8 < 2147483648 by omega), Option.bind_some]
  have own : (if t.2.2.1 148 k < 0 then some (1 : Int32) else Option.bind (t_835 (Int32.ofNat k) (t.2.2.1 148 k) t) (fun x3 => if x3 = 0 then some 0 else some 1)) = some (Int32.ofNat (if t.2.2.1 148 k = -1 then 1 else tb t k (bN (t.2.2.1 148 k)))) := by
    rcases s9 with q | ⟨p, q, q1, q2⟩
    · simp only [q]; rfl
    · have rt := s6 0 q1
      have hp : p < 2147483648 := by have := rt.2.2.2.2.1; omega
      simp only [q]
      rw [if_neg (i_nlt0 hp), if_neg (i_ne1 hp), t_tb hk rt q2, Option.bind_some, i_lb (tb_2 _ _ _), i_bN hp]
  rw [own, Option.bind_some]
  have o1 : (if t.2.2.1 148 k = -1 then 1 else tb t k (bN (t.2.2.1 148 k))) = 0 ∨ (if t.2.2.1 148 k = -1 then 1 else tb t k (bN (t.2.2.1 148 k))) = 1 := by
    split
    · simp
    · exact tb_2 _ _ _
  rcases s11 with q | ⟨q, p, hp, q2⟩
  · simp only [q, if_true, Nat.mul_one]
    rcases o1 with o1 | o1 <;> rw [o1] <;> rfl
  · have hb := byt_N q
    have hb3 : ¬ t.2.2.1 150 k < 0 := by rw [hb.1]; exact i_nlt0 (by have := hb.2; omega)
    have hb4 : t.2.2.1 150 k ≠ -1 := by rw [hb.1]; exact i_ne1 (by have := hb.2; omega)
    rw [if_neg hb3, if_neg hb4, q2, i_bN (show p < 2147483648 by omega)]
    have e1 := t_lbB q hp t
    rw [e1, Option.bind_some, i_lb (lb_2 _ _)]
    rcases o1 with o1 | o1 <;> rcases lb_2 (bN (t.2.2.1 150 k)) p with o2 | o2 <;> rw [o1, o2] <;> rfl
