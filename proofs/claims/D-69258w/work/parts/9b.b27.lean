/-! the bus: the reference's send -/
theorem t_send {t : TS} {k n p a aim gr c f : Nat} {v4 : Int32} (hk : k < 8) (hn : n < 6) (h146 : t.2.2.1 146 k = Int32.ofNat n) (h143 : t.2.2.1 143 k = Int32.ofNat a) (ha : a < 65536) (hp : p < 4) (haim : aim < 65536) (hc1 : 1 ≤ c) (hc : c ≤ 14) (hf : f < 256) (hgr : (if v4 = 0 then some (0 : Int32) else some 128) = some (Int32.ofNat gr)) (hgr2 : gr ≤ 128) :
    ∃ t', t_825 (Int32.ofNat k) (Int32.ofNat p) (Int32.ofNat aim) v4 (Int32.ofNat c) (Int32.ofNat f) t = some (Int32.ofNat (n + 1), t') ∧ t'.1 = t.1 ∧ t'.2.1 = t.2.1 ∧ t'.2.2.2 = t.2.2.2 ∧ (∀ q j, q ≠ 147 → ¬ (q = 146 ∧ j = k) → t'.2.2.1 q j = t.2.2.1 q j) ∧ t'.2.2.1 146 k = Int32.ofNat (n + 1) ∧ (∀ j, (j < 24 * (6 * k + n) ∨ 24 * (6 * k + n) + 24 ≤ j) → t'.2.2.1 147 j = t.2.2.1 147 j) ∧ (∀ i, i < c + 6 → tl t' k n i = sB p a aim gr c f i) ∧ tl t' k n (c + 6) = xr (sB p a aim gr c f) (c + 6) ∧ tl t' k n 21 = Int32.ofNat (c + 7) ∧ tl t' k n 22 = Int32.ofNat p ∧ tl t' k n 23 = 0 := by
  unfold t_825 tl
  have m8 : 8 < 2147483648 := by omega
  have eB : ∀ x : Int32, x = Int32.ofNat n → 24 * ((6 * Int32.ofNat k) + x) = Int32.ofNat (24 * (6 * k + n)) := fun x e => by rw [e, i_mulL, i_add, i_mulL]
  rw [rdI_n hk m8, Option.bind_some, eB _ h146]
  have hB : 24 * (6 * k + n) + 24 ≤ 1152 := by omega
  generalize 24 * (6 * k + n) = B at hB
  have S0 : ∀ (u : TS) v, stI u 147 1152 (Int32.ofNat B) v = some (wrI u 147 (B + 0) v) := fun u v => stI_n (by omega) (by omega)
  have S : ∀ i (u : TS) v, i < 24 → stI u 147 1152 (Int32.ofNat (B + i)) v = some (wrI u 147 (B + i) v) := fun i u v hi => stI_n (by omega) (by omega)
  have w3 : ∀ (u : TS) j v, (wrI u 147 j v).2.2.1 143 k = u.2.2.1 143 k := fun u j v => wr_ne (by omega) k
  have w6 : ∀ (u : TS) j v, (wrI u 147 j v).2.2.1 146 k = u.2.2.1 146 k := fun u j v => wr_ne (by omega) k
  have vc : Int32.ofNat c - 1 + Int32.ofNat gr = Int32.ofNat (c - 1 + gr) := by
    rw [show Int32.ofNat c - 1 = Int32.ofNat (c - 1) from i_sub (k := 1) hc1, i_add]
  have vp : (176 : Int32) + (4 * Int32.ofNat p) = Int32.ofNat (176 + 4 * p) := by rw [i_mulL, i_Ladd]
  rw [vp, S0, Option.bind_some, rdI_n hk m8, Option.bind_some, w3, h143, i_divL (show a < 2147483648 by omega) (by decide), i_addL 1 B, S 1 _ _ (by omega), Option.bind_some]
  rw [rdI_n hk m8, Option.bind_some, w3, w3, h143, i_modL (show a < 2147483648 by omega) (by decide), i_addL 2 B, S 2 _ _ (by omega), Option.bind_some]
  rw [i_divL (show aim < 2147483648 by omega) (by decide), i_addL 3 B, S 3 _ _ (by omega), Option.bind_some]
  have ma : Int32.ofNat aim - Int32.ofNat (aim / 256) * 256 = Int32.ofNat (aim % 256) := by
    rw [← i_divL (a := aim) (b := 256) (by omega) (by decide)]; exact i_modL (b := 256) (by omega) (by decide)
  rw [show (OfNat.ofNat 256 : Nat) = 256 from rfl, ma, i_addL 4 B, S 4 _ _ (by omega), Option.bind_some, hgr, Option.bind_some, vc, i_addL 5 B, S 5 _ _ (by omega), Option.bind_some, i_addL 6 B]
  have U5 : ∀ j, (wrI (wrI (wrI (wrI (wrI (wrI t 147 (B + 0) (Int32.ofNat (176 + 4 * p))) 147 (B + 1) (Int32.ofNat (a / 256))) 147 (B + 2) (Int32.ofNat (a % 256))) 147 (B + 3) (Int32.ofNat (aim / 256))) 147 (B + 4) (Int32.ofNat (aim % 256))) 147 (B + 5) (Int32.ofNat (c - 1 + gr))).2.2.1 147 j = if B ≤ j ∧ j < B + 6 then sB p a aim gr c f (j - B) else t.2.2.1 147 j := by
    intro j
    simp only [wr_at, true_and]
    by_cases z : B ≤ j ∧ j < B + 6
    · rw [if_pos z]
      obtain ⟨i, rfl⟩ : ∃ i, j = B + i := ⟨j - B, by omega⟩
      rw [show B + i - B = i by omega]
      unfold sB
      have : i = 0 ∨ i = 1 ∨ i = 2 ∨ i = 3 ∨ i = 4 ∨ i = 5 := by omega
      rcases this with rfl | rfl | rfl | rfl | rfl | rfl <;> simp
    · rw [if_neg z]
      simp only [show ¬ j = B + 5 by omega, show ¬ j = B + 4 by omega, show ¬ j = B + 3 by omega, show ¬ j = B + 2 by omega, show ¬ j = B + 1 by omega, show ¬ j = B + 0 by omega, if_false]
  have U6 : ∀ q j, q ≠ 147 → (wrI (wrI (wrI (wrI (wrI (wrI t 147 (B + 0) (Int32.ofNat (176 + 4 * p))) 147 (B + 1) (Int32.ofNat (a / 256))) 147 (B + 2) (Int32.ofNat (a % 256))) 147 (B + 3) (Int32.ofNat (aim / 256))) 147 (B + 4) (Int32.ofNat (aim % 256))) 147 (B + 5) (Int32.ofNat (c - 1 + gr))).2.2.1 q j = t.2.2.1 q j := fun q j hq => by
    rw [wr_ne hq, wr_ne hq, wr_ne hq, wr_ne hq, wr_ne hq, wr_ne hq]
  generalize hV : wrI (wrI (wrI (wrI (wrI (wrI t 147 (B + 0) (Int32.ofNat (176 + 4 * p))) 147 (B + 1) (Int32.ofNat (a / 256))) 147 (B + 2) (Int32.ofNat (a % 256))) 147 (B + 3) (Int32.ofNat (aim / 256))) 147 (B + 4) (Int32.ofNat (aim % 256))) 147 (B + 5) (Int32.ofNat (c - 1 + gr)) = V at U5 U6
  have V1 : V.1 = t.1 ∧ V.2.1 = t.2.1 ∧ V.2.2.2 = t.2.2.2 := by rw [← hV]; exact ⟨rfl, rfl, rfl⟩
  obtain ⟨u, b1, b2, b3, b4, b5, b6⟩ := t_bytes (t := V) hB hc hf
  rw [b1, Option.bind_some, i_addL 21 B, i_addL 7 c, S 21 _ _ (by omega), Option.bind_some, i_addL 22 B, S 22 _ _ (by omega), Option.bind_some, i_addL 23 B, S 23 _ _ (by omega), Option.bind_some]
  have W7 : ∀ j, (wrI (wrI (wrI u 147 (B + 21) (Int32.ofNat (c + 7))) 147 (B + 22) (Int32.ofNat p)) 147 (B + 23) 0).2.2.1 147 j = if j = B + 23 then 0 else if j = B + 22 then Int32.ofNat p else if j = B + 21 then Int32.ofNat (c + 7) else u.2.2.1 147 j := fun j => by simp only [wr_at, true_and]
  have W8 : ∀ q j, q ≠ 147 → (wrI (wrI (wrI u 147 (B + 21) (Int32.ofNat (c + 7))) 147 (B + 22) (Int32.ofNat p)) 147 (B + 23) 0).2.2.1 q j = t.2.2.1 q j := fun q j hq => by rw [wr_ne hq, wr_ne hq, wr_ne hq, b5 q j hq, U6 q j hq]
  have V2 : (wrI (wrI (wrI u 147 (B + 21) (Int32.ofNat (c + 7))) 147 (B + 22) (Int32.ofNat p)) 147 (B + 23) 0).1 = t.1 ∧ (wrI (wrI (wrI u 147 (B + 21) (Int32.ofNat (c + 7))) 147 (B + 22) (Int32.ofNat p)) 147 (B + 23) 0).2.1 = t.2.1 ∧ (wrI (wrI (wrI u 147 (B + 21) (Int32.ofNat (c + 7))) 147 (B + 22) (Int32.ofNat p)) 147 (B + 23) 0).2.2.2 = t.2.2.2 := ⟨b2.trans V1.1, b3.trans V1.2.1, b4.trans V1.2.2⟩
  generalize wrI (wrI (wrI u 147 (B + 21) (Int32.ofNat (c + 7))) 147 (B + 22) (Int32.ofNat p)) 147 (B + 23) 0 = W at W7 W8 V2
  have by6 : ∀ i, i < c + 6 → W.2.2.1 147 (B + i) = sB p a aim gr c f i := fun i hi => by
    rw [W7, if_neg (by omega), if_neg (by omega), if_neg (by omega), b6]
    by_cases z : 6 ≤ i
    · rw [if_pos (by omega)]
      unfold sB
      rw [if_neg (by omega), if_neg (by omega), if_neg (by omega), if_neg (by omega), if_neg (by omega), if_neg (by omega), show B + i - (B + 6) = i - 6 by omega]
    · rw [if_neg (by omega), U5, if_pos (by omega), show B + i - B = i by omega]
  rw [t_check (m := c + 7) hB (by rw [W7, if_neg (by omega), if_neg (by omega), if_pos rfl]) (by omega) (by omega), Option.bind_some, rdI_n hk m8, Option.bind_some, w6, W8 146 k (by omega), h146, i_suc, stI_n hk m8, Option.bind_some, rdI_n hk m8, Option.bind_some, wr_s]
  have x7 : c + 7 - 1 = c + 6 := by omega
  rw [x7, xr_cg by6]
  refine ⟨_, rfl, V2.1, V2.2.1, V2.2.2, fun q j q1 q2 => ?_, by rw [wr_s], fun j hj => ?_, fun i hi => ?_, ?_, ?_, ?_, ?_⟩
  · rw [wr_at, if_neg q2, wr_ne q1, W8 q j q1]
  · rw [wr_ne (by omega), wr_nk (by omega), W7, if_neg (by omega), if_neg (by omega), if_neg (by omega), b6, if_neg (by omega), U5, if_neg (by omega)]
  · rw [wr_ne (by omega), wr_nk (by omega), by6 i hi]
  · rw [wr_ne (by omega), wr_s]
  · rw [wr_ne (by omega), wr_nk (by omega), W7, if_neg (by omega), if_neg (by omega), if_pos rfl]
  · rw [wr_ne (by omega), wr_nk (by omega), W7, if_neg (by omega), if_pos rfl]
  · rw [wr_ne (by omega), wr_nk (by omega), W7, if_pos rfl]
