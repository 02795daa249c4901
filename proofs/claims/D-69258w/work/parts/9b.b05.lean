/-! the bus: steps of a bit time -/
def BS (own own' : Nat → Nat) (n m : Nat) (s : CS) (t : TS) (s' : CS) (t' : TS) : Prop := Frm (fun X => X = 6) own own' s s' ∧ (∀ Z, Z ≠ 6 → rt t' Z = rt t Z) ∧ s'.2.2.1 ≤ s.2.2.1 + n ∧ s'.2.2.2 ≤ s.2.2.2 + m
theorem BS.rf {own : Nat → Nat} {s : CS} {t : TS} (hw : wfS s) : BS own own 0 0 s t s t := ⟨Frm.refl hw, fun _ _ => rfl, Nat.le_refl _, Nat.le_refl _⟩
theorem BS.tr {own own1 own2 : Nat → Nat} {n m n2 m2 : Nat} {s s1 s2 : CS} {t t1 t2 : TS} (h : BS own own1 n m s t s1 t1) (k : BS own1 own2 n2 m2 s1 t1 s2 t2) : BS own own2 (n + n2) (m + m2) s t s2 t2 :=
  ⟨h.1.trans k.1, fun Z hZ => (k.2.1 Z hZ).trans (h.2.1 Z hZ), by have := h.2.2.1; have := k.2.2.1; omega, by have := h.2.2.2; have := k.2.2.2; omega⟩
theorem BS.tr0 {own own1 own2 : Nat → Nat} {n m : Nat} {s s1 s2 : CS} {t t1 t2 : TS} (h : BS own own1 n m s t s1 t1) (k : BS own1 own2 0 0 s1 t1 s2 t2) : BS own own2 n m s t s2 t2 := h.tr k
theorem BS.wf {own own' : Nat → Nat} {n m : Nat} {s s' : CS} {t t' : TS} (h : BS own own' n m s t s' t') : wfS s' := h.1.2.2.2.2
/-- a station's own cell is changed -/
theorem st_bs {own : Nat → Nat} {s : CS} {t t' : TS} {N Ne Nd M k : Nat} (hw : wfS s) (hk : k < 8) (r : R6x (rs s.1 own 6) t N Ne Nd M) (hr : ∀ c j, ¬ (sRow c ∧ j = k) → t'.2.2.1 c j = t.2.2.1 c j) (h1 : t'.1 = t.1) (h2 : t'.2.1 = t.2.1) (h4 : t'.2.2.2 = t.2.2.2) (hv : ∀ n m, t.2.2.1 146 k = Int32.ofNat n → n ≤ 6 → (0 < n → 8 ≤ m ∧ m ≤ 21 ∧ tl t k 0 21 = Int32.ofNat m) → sOk t k n m → sOk t' k n m) :
    R6x (rs (cup s (127 + 3 * k) (sC t' k)).1 own 6) t' N Ne Nd M ∧ BS own own 0 0 s t (cup s (127 + 3 * k) (sC t' k)) t' := by
  have r2 := r
  obtain ⟨_, _, _, n, ti, bi, m, _, _, rr⟩ := r2
  have h3 := rs_in (rr k hk).1
  refine ⟨?_, frm_cup hw (wf_lt hw h3.1) h3.2, ?_, Nat.le_refl _, Nat.le_refl _⟩
  · show R6x (rs (lUpd s.1 _ _) own 6) t' N Ne Nd M
    rw [rs_upd h3.2]
    exact R6_st hk r (fun c j _ q => hr c j q) (fun c _ _ => by rw [h1]) hv
  · intro Z hZ
    unfold rt
    rw [h1, h2, h4]
    refine Prod.ext rfl (Prod.ext rfl (Prod.ext ?_ rfl))
    funext c j
    by_cases hc : mR c = Z
    · simp only [if_pos hc]
      refine hr c j (fun q => hZ ?_)
      rw [← hc]
      unfold sRow at q
      rcases q.1 with q | q | q | q | q | q | q | q | q <;> rw [q] <;> rfl
    · simp only [if_neg hc]
theorem st_neg {h : lHeap} {t : TS} {k n : Nat} {ti bi m : Nat → Nat} (r : R6s h t k n ti bi m) : (t.2.2.1 148 k < 0 ↔ t.2.2.1 148 k = -1) ∧ (t.2.2.1 149 k < 0 ↔ t.2.2.1 149 k = -1) ∧ (t.2.2.1 150 k < 0 ↔ t.2.2.1 150 k = -1) := by
  obtain ⟨s1, s2, s3, s4, s5, s6, s7, s8, s9, s10, s11, _⟩ := r
  refine ⟨?_, ?_, ?_⟩
  · rcases s9 with e | ⟨p, e, q1, q2⟩
    · rw [e]; decide
    · have := (s6 0 q1).2.2.2.2.1
      rw [e, i_m1 (by omega), i_lt0 (by omega)]
  · rcases s10 with e | ⟨_, p, q1, e⟩
    · rw [e]; decide
    · rw [e, i_m1 (by omega), i_lt0 (by omega)]
  · rcases s11 with e | ⟨⟨b, hb, e⟩, _⟩
    · rw [e]; decide
    · rw [e, i_m1 (by omega), i_lt0 (by omega)]
theorem wr_s (s : TS) (c k : Nat) (v : Int32) : (wrI s c k v).2.2.1 c k = v := by rw [wr_at, if_pos ⟨rfl, rfl⟩]
/-- whether a station begins -/
theorem bus_begin {own : Nat → Nat} {s : CS} {t : TS} {N Ne Nd M k : Nat} (hw : wfS s) (hk : k < 8) (r : R6x (rs s.1 own 6) t N Ne Nd M) {x y : Int32} (h50 : x < 50 ↔ y < 50) (h53 : x < 53 ↔ y < 53) :
    ∃ s' t', c_477 (127 + 3 * k) x s = some s' ∧ t_832 (Int32.ofNat k) y t = some t' ∧ R6x (rs s'.1 own 6) t' N Ne Nd M ∧ BS own own 0 0 s t s' t' := by
  have r2 := r
  obtain ⟨_, _, _, n, ti, bi, m, _, _, rr⟩ := r2
  have rk := rr k hk
  have ng := st_neg rk
  obtain ⟨s1, s2, s3, s4, s5, s6, s7, s8, s9, s10, s11⟩ := rk
  have h1 := (rs_in s1).1
  have h2 := (rs_in s2).1
  have a4 : xI s [(46, 4)] (127 + 3 * k) = some (t.2.2.1 148 k) := by simp [xI, xV, h1, sC, lLook, toI]
  have a5 : xI s [(46, 5)] (127 + 3 * k) = some (t.2.2.1 149 k) := by simp [xI, xV, h1, sC, lLook, toI]
  have a3 : xN s [(46, 3)] (127 + 3 * k) = some (129 + 3 * k) := by simp [xN, xV, h1, sC, lLook, toP]
  have k4 : isK s [4] (129 + 3 * k) = true := by simp [isK, kdo, h2]
  unfold c_477 t_832
  simp only [a4, a5, a3, k4, rdI_n hk (show 8 < 2147483648 by omega), Option.bind_some, if_true, ng.1, ng.2.1, adEmpty_r h2, s3]
  by_cases e4 : t.2.2.1 148 k = -1
  · by_cases e5 : t.2.2.1 149 k = -1
    · by_cases e0 : n k = 0
      · refine ⟨s, t, ?_, ?_, r, BS.rf hw⟩
        · simp [e4, e5, e0]
        · simp [e4, e5, e0]
      · have rt := s6 0 (by omega)
        have h3 := (rs_in rt.1).1
        have k93 : isK s [93] (ti k 0) = true := by simp [isK, kdo, h3]
        have b0 : xI s [(93, 0)] (ti k 0) = some (tl t k 0 22) := by simp [xI, xV, h3, lLook, toI]
        have b2 : xI s [(93, 2)] (ti k 0) = some (tl t k 0 23) := by simp [xI, xV, h3, lLook, toI]
        have l1 : ¬ (if n k = 0 then (1 : Int32) else 0) = 0 ↔ False := by simp [e0]
        have t22 : t.2.2.1 147 (144 * k + 22) = tl t k 0 22 := by unfold tl; rw [show 144 * k + 22 = 24 * (6 * k + 0) + 22 by omega]
        have t23 : t.2.2.1 147 (144 * k + 23) = tl t k 0 23 := by unfold tl; rw [show 144 * k + 23 = 24 * (6 * k + 0) + 23 by omega]
        have n0 : (0 : Int32) < Int32.ofNat (n k) := (i_Llt (by omega) (by omega)).mpr (by show 0 < n k; omega)
        have key : ∃ v : Int32, (v = 0 ∨ v = -1) ∧ (∀ f : Int32 → Option CS, Option.bind (if 1 < tl t k 0 22 then (if tl t k 0 23 = 0 then some (53 : Int32) else some 50) else some 50) (fun v29 => Option.bind (if x < v29 then some (-1 : Int32) else some 0) f) = f v) ∧ (∀ f : Int32 → Option TS, Option.bind (if 1 < tl t k 0 22 then (if tl t k 0 23 = 0 then some (1 : Int32) else some 0) else some 0) (fun v37 => Option.bind (if v37 = 0 then some (50 : Int32) else some 53) (fun v47 => Option.bind (if y < v47 then some (-1 : Int32) else some 0) f)) = f v) := by
          by_cases q1 : 1 < tl t k 0 22
          · by_cases q2 : tl t k 0 23 = 0
            · by_cases q3 : y < 53
              · exact ⟨-1, Or.inr rfl, fun f => by simp [q1, q2, h53, q3], fun f => by simp [q1, q2, q3]⟩
              · exact ⟨0, Or.inl rfl, fun f => by simp only [if_pos q1, if_pos q2, Option.bind_some, h53, if_neg q3], fun f => by simp only [if_pos q1, if_pos q2, Option.bind_some, show ¬ (1 : Int32) = 0 by decide, if_false, if_neg q3]⟩
            · by_cases q3 : y < 50
              · exact ⟨-1, Or.inr rfl, fun f => by simp [q1, q2, h50, q3], fun f => by simp [q1, q2, q3]⟩
              · exact ⟨0, Or.inl rfl, fun f => by simp only [if_pos q1, Option.bind_some, if_neg q2, h50, if_neg q3], fun f => by simp only [if_pos q1, Option.bind_some, if_neg q2, if_true, if_neg q3]⟩
          · by_cases q3 : y < 50
            · exact ⟨-1, Or.inr rfl, fun f => by simp only [if_neg q1, Option.bind_some, h50, if_pos q3], fun f => by simp only [if_neg q1, Option.bind_some, if_true, if_pos q3]⟩
            · exact ⟨0, Or.inl rfl, fun f => by simp only [if_neg q1, Option.bind_some, h50, if_neg q3], fun f => by simp only [if_neg q1, Option.bind_some, if_true, if_neg q3]⟩
        obtain ⟨v, hv, c1, c2⟩ := key
        obtain ⟨r', bs⟩ := st_bs (t' := wrI t 148 k v) hw hk r (fun c j q => by rw [wr_at, if_neg (fun z => q ⟨by unfold sRow; omega, z.2⟩)]) rfl rfl rfl (by
          rintro n' m' q1 q2 q3 ⟨z1, z2, z3, z4, z5, z6⟩
          refine ⟨by rw [wr_ne (by omega)]; exact z1, by rw [wr_ne (by omega)]; exact z2, ?_, by rw [wr_ne (by omega)]; exact z4, by rw [wr_ne (by omega), wr_ne (by omega)]; exact z5, ?_⟩
          case refine_2 => exact ⟨fun hn => by rw [wr_ne (by omega)]; exact z6.1 hn, fun j q1 q2 => z6.2.1 j q1 q2, Or.inr (by rw [wr_ne (by omega)]; exact e5)⟩
          rw [wr_s]
          rcases hv with rfl | rfl
          · have hn : n' = n k := (i_inj (by omega) (by omega)).mp (q1.symm.trans s3)
            have := q3 (by omega)
            exact Or.inr ⟨0, rfl, by omega, by omega⟩
          · exact Or.inl rfl)
        refine ⟨_, _, ?_, ?_, r', bs⟩
        · simp only [if_pos e4, if_pos e5, if_neg e0, if_true, adFirst_r h2 (show 0 < n k by omega), Option.bind_some, toN, k93, b0, b2]
          rw [c1]
          simp [xP, h1, sC, lLook, cup, wr_at]
        · simp only [if_pos e4, if_pos e5, if_pos n0, i_mulL, i_addL, rdI_n (show 144 * k + 22 < 1152 by omega) (show 1152 < 2147483648 by omega), rdI_n (show 144 * k + 23 < 1152 by omega) (show 1152 < 2147483648 by omega), t22, t23]
          simp only [Option.bind_some]
          rw [c2, stI_n hk (by omega), Option.bind_some]
    · exact ⟨s, t, by simp [e4, e5], by simp [e4, e5], r, BS.rf hw⟩
  · exact ⟨s, t, by simp [e4], by simp [e4], r, BS.rf hw⟩
