/-! the bus: the line's bit goes to the ear -/
/-- points behind a bit time -/
def pU (t T : TS) (p : Nat → Int32) : Nat → Int32 := fun i => if t.2.2.1 157 1 < T.2.2.1 157 1 ∧ 127 < bN (T.2.2.1 156 5) ∧ 4 ≤ 256 * bN (T.2.2.1 156 3) + bN (T.2.2.1 156 4) ∧ 256 * bN (T.2.2.1 156 3) + bN (T.2.2.1 156 4) < 10 ∧ i = 256 * bN (T.2.2.1 156 3) + bN (T.2.2.1 156 4) then T.2.2.1 156 6 else p i
def BT (own : Nat → Nat) (s : CS) (t : TS) (s' : CS) (t' : TS) : Prop := Frm (fun X => X = 6 ∨ X = 10) own own s s' ∧ (∀ Z, Z ≠ 6 → rt t' Z = rt t Z)
theorem Frm.weak {X Y : Nat → Prop} {own own' : Nat → Nat} {s s' : CS} (h : Frm X own own' s s') (hx : ∀ z, X z → Y z) : Frm Y own own' s s' :=
  ⟨h.1, h.2.1, fun a h1 h2 => h.2.2.1 a h1 (fun z => h2 (hx _ z)), fun a h1 h2 => hx _ (h.2.2.2.1 a h1 h2), h.2.2.2.2⟩
theorem BS.bt {own : Nat → Nat} {n m : Nat} {s s' : CS} {t t' : TS} (h : BS own own n m s t s' t') : BT own s t s' t' := ⟨h.1.weak (fun _ z => Or.inl z), h.2.1⟩
theorem BT.tr {own : Nat → Nat} {s s1 s2 : CS} {t t1 t2 : TS} (h : BT own s t s1 t1) (k : BT own s1 t1 s2 t2) : BT own s t s2 t2 := ⟨h.1.trans k.1, fun Z hZ => (k.2 Z hZ).trans (h.2 Z hZ)⟩
/-- what complete() comes to, both sides -/
theorem bus_cmp {s : CS} {t : TS} {N M d : Nat} {own : Nat → Nat} {mc e1 e2 e3 e5 e6 e7 : Int32} {nb b : Nat} {f : Nat → Value} (g : R6g (rs s.1 own 6) t N M) (hd : rs s.1 own 6 120 = some (bD (t.1 523) (if t.1 524 = 0 then -1 else t.1 524) (t.1 525) (t.1 526) (t.1 500) (Int32.ofNat d) (t.1 1))) (h123 : rs s.1 own 6 123 = some (true, false, 1013, .int mc :: rowC f nb)) (hb : t.1 516 = Int32.ofNat b) (hb2 : 0 < b) (hbN : b ≤ N) (he2 : e2 = Int32.ofNat b) (he1 : e1 = t.1 519) (h01 : v01 e1) (h7 : t.1 517 = Int32.ofNat nb) (hnb : nb < 14000) (hf : ∀ i, i < nb → f i = .int (t.2.2.1 155 i) ∧ byt (t.2.2.1 155 i)) (hn0 : 0 < nb) (he3 : e3 = t.1 520) (h520 : t.1 520 = Int32.ofNat (b + 13 * nb - 3)) (hbn : b + 13 * nb - 3 ≤ N) (hc : ∃ hc, t.2.2.1 157 1 = Int32.ofNat hc ∧ hc ≤ N) (hNM : M = N + 1)
    (hpr : xN s [(100, 4)] 115 = some 118) (hp : s.1 118 = some (true, true, 0, rowC (fun i => .int (t.2.2.1 136 i)) 10)) :
    ∃ S' T, c_1146 120 (cup s 122 (eC e1 e2 e3 0 e5 e6 e7)) = some S' ∧ tCP t = some T ∧ S'.2.1 = s.2.1 ∧ S'.2.2.1 ≤ s.2.2.1 + nb ∧ S'.2.2.2 ≤ s.2.2.2 + 16 * nb ∧ (∀ q, q ≠ 125 → q ≠ 126 → q ≠ 120 → q ≠ 118 → q ≠ 122 → S'.1 q = s.1 q) ∧ S'.1 122 = some (eC e1 e2 e3 0 e5 e6 e7) ∧
      S'.1 120 = some (bD (T.1 523) (if T.1 524 = 0 then -1 else T.1 524) (T.1 525) (T.1 526) (t.1 500) (Int32.ofNat d) (t.1 1)) ∧ (∃ m n, S'.1 125 = some (true, false, 1013, .int m :: rowC (fun k => .int (T.2.2.1 156 k)) n) ∧ T.1 521 = Int32.ofNat n ∧ n ≤ 14000 ∧ (∀ i, i < n → byt (T.2.2.1 156 i)) ∧ (T.1 524 ≠ 0 → 8 ≤ n)) ∧ S'.1 126 = some (true, true, 0, rowC (fun k => .int (T.2.2.1 157 k)) 5) ∧ S'.1 118 = some (true, true, 0, rowC (fun i => .int (pU t T (t.2.2.1 136) i)) 10) ∧
      (∀ c, c ≠ 521 → c ≠ 523 → c ≠ 524 → c ≠ 525 → c ≠ 526 → T.1 c = t.1 c) ∧ T.2.1 = t.2.1 ∧ T.2.2.2 = t.2.2.2 ∧ (∀ c j, c ≠ 156 → c ≠ 157 → T.2.2.1 c j = t.2.2.1 c j) ∧ v01 (T.1 523) ∧ v01 (T.1 525) ∧ (∃ e, e ≤ 180000 ∧ T.1 524 = Int32.ofNat e) ∧ (T.1 526 = -1 ∨ byt (T.1 526)) ∧ (∃ hc, T.2.2.1 157 1 = Int32.ofNat hc ∧ hc ≤ M) ∧ (t.2.2.1 157 1 < T.2.2.1 157 1 → T.1 524 ≠ 0) := by
  obtain ⟨_, _, ⟨mc5, n5, g5, g5a, g5b, g5c, g5d⟩, g6, g500, gM, g523, g525, g1, ⟨en, hen, h524⟩, _, _, g526⟩ := g
  have h0 := (rs_in hd).1
  have h3 := (rs_in h123).1
  have h5 := (rs_in g5).1
  have h6 := (rs_in g6).1
  obtain ⟨hc0, hc1, hc2⟩ := hc
  have S0 : (cup s 122 (eC e1 e2 e3 0 e5 e6 e7)).1 120 = some (bD (t.1 523) (if t.1 524 = 0 then -1 else t.1 524) (t.1 525) (t.1 526) (t.1 500) (Int32.ofNat d) (t.1 1)) := by rw [cup_at, if_neg (by omega), h0]
  have S2 : (cup s 122 (eC e1 e2 e3 0 e5 e6 e7)).1 122 = some (eC e1 e2 e3 0 e5 e6 e7) := by rw [cup_at, if_pos rfl]
  have S3 : (cup s 122 (eC e1 e2 e3 0 e5 e6 e7)).1 123 = some (true, false, 1013, .int mc :: rowC f nb) := by rw [cup_at, if_neg (by omega), h3]
  have S5 : (cup s 122 (eC e1 e2 e3 0 e5 e6 e7)).1 125 = some (true, false, 1013, .int mc5 :: rowC (fun k => .int (t.2.2.1 156 k)) n5) := by rw [cup_at, if_neg (by omega), h5]
  have S6 : (cup s 122 (eC e1 e2 e3 0 e5 e6 e7)).1 126 = some (true, true, 0, rowC (fun k => .int (t.2.2.1 157 k)) 5) := by rw [cup_at, if_neg (by omega), h6]
  have S8 : (cup s 122 (eC e1 e2 e3 0 e5 e6 e7)).1 118 = some (true, true, 0, rowC (fun i => .int (t.2.2.1 136 i)) 10) := by rw [cup_at, if_neg (by omega), hp]
  have Spr : xN (cup s 122 (eC e1 e2 e3 0 e5 e6 e7)) [(100, 4)] 115 = some 118 := by
    unfold xN xV at hpr ⊢
    rw [cup_at, if_neg (by omega)]; exact hpr
  by_cases tel : 8 ≤ nb ∧ e1 = 0
  · obtain ⟨t8, te⟩ := tel
    obtain ⟨T, cT, x1, x2, x3, x4, x5, x6, x7, x8, x9, x10, x11⟩ := t_tel h7 t8 hnb (by rw [← he1]; exact te) (fun i hi => (hf i hi).2)
    have S2' : (cup s 122 (eC e1 e2 e3 0 e5 e6 e7)).1 122 = some (eC 0 e2 e3 0 e5 e6 e7) := S2.trans (by rw [te])
    obtain ⟨m', S', c1, c2, c3, c4, c5, c6, c7⟩ := c_cmp2 (g := t.2.2.1 155) (hd := t.2.2.1 157) (p := t.2.2.1 136) S0 S2' S3 (fun i hi => (hf i hi).1) (fun i hi => (hf i hi).2) S5 S6 Spr S8 t8 (by omega)
    have r01 := rgt01 (t.2.2.1 155) nb
    have T157 := x11 1
    rw [if_pos rfl] at T157
    refine ⟨S', T, c1, cT, by rw [c2]; rfl, ?_, ?_, fun q a1 a2 a3 a4 a5 => by rw [c3 q a1 a2 a3 a4, cup_at, if_neg a5], by rw [c3 _ (by omega) (by omega) (by omega) (by omega)]; exact S2, ?_, ⟨m', nb, ?_, x2, by omega, fun i hi => by rw [x10 i hi]; exact (hf i hi).2, fun _ => t8⟩, ?_, ?_, x1, x7, x8, x9, by rw [x3]; exact r01, by rw [x5]; exact Or.inl rfl, ⟨b + 13 * nb - 3, by omega, by rw [x4, h520]⟩, Or.inl x6, ?_, fun _ z => by rw [x4, h520] at z; have := (i_inj (j := b + 13 * nb - 3) (k := 0) (by omega) (by omega)).mp z; omega⟩
    · rw [c2]; exact Nat.le_refl _
    · rw [c2]; exact Nat.le_refl _
    · rw [c6, x3, x4, x5, x6, he3, h520]
      rw [if_neg (show ¬ Int32.ofNat (b + 13 * nb - 3) = 0 from fun z => absurd ((i_inj (j := b + 13 * nb - 3) (k := 0) (by omega) (by omega)).mp z) (by omega))]
    · rw [c4, rowC_congr (f := fun i => Value.int (t.2.2.1 155 i)) (g := fun k => .int (T.2.2.1 156 k)) (fun i hi => by rw [x10 i hi])]
    · rw [c5]
      rw [rowC_congr (f := fun i => Value.int (if i = 1 then t.2.2.1 157 1 + rgt (t.2.2.1 155) nb else if i = 0 then t.2.2.1 157 0 + 1 else t.2.2.1 157 i)) (g := fun k => .int (T.2.2.1 157 k)) (fun i _ => by rw [x11 i])]
    · rw [c7]
      rw [rowC_congr (f := fun i => Value.int (ptU (t.2.2.1 136) (rgt (t.2.2.1 155) nb) (t.2.2.1 155) i)) (g := fun i => .int (pU t T (t.2.2.1 136) i)) (fun i _ => ?_)]
      unfold ptU pU
      rw [x10 3 (by omega), x10 4 (by omega), x10 5 (by omega), x10 6 (by omega), T157]
      have lt : (t.2.2.1 157 1 < t.2.2.1 157 1 + rgt (t.2.2.1 155) nb) ↔ ¬ rgt (t.2.2.1 155) nb = 0 := by
        rw [hc1]
        rcases r01 with z | z
        · rw [z, Int32.add_zero]
          exact ⟨fun q => absurd ((i_lt (by omega) (by omega)).mp q) (by omega), fun q => absurd rfl q⟩
        · rw [z, i_suc]
          exact ⟨fun _ => by decide, fun _ => (i_lt (by omega) (by omega)).mpr (by omega)⟩
      simp only [lt]
    · rw [T157, hc1]
      rcases r01 with z | z
      · exact ⟨hc0, by rw [z, Int32.add_zero], by omega⟩
      · exact ⟨hc0 + 1, by rw [z, i_suc], by omega⟩
  · have ht : nb < 8 ∨ ¬ e1 = 0 := by
      by_cases z : nb < 8
      · exact Or.inl z
      · exact Or.inr (fun y => tel ⟨by omega, y⟩)
    have ht' : nb < 8 ∨ ¬ t.1 519 = 0 := by rw [← he1]; exact ht
    have noU : ∀ T : TS, T.2.2.1 157 1 = t.2.2.1 157 1 → ∀ i, pU t T (t.2.2.1 136) i = t.2.2.1 136 i := by
      intro T hT i
      unfold pU
      rw [hT, if_neg (fun z => by
        have := z.1
        rw [hc1] at this
        exact absurd ((i_lt (by omega) (by omega)).mp this) (by omega))]
    -- the counter k and the answer
    have key : ∃ (k : Nat) (an : Int32), k < 5 ∧ 2 ≤ k ∧ (if 0 < t.1 524 then (if t.1 516 = t.1 524 + 14 then (if t.1 517 = 1 then (if t.1 519 = 0 then some (1 : Int32) else some 0) else some 0) else some 0) else some 0) = some (if k = 2 then 0 else 1) ∧ (an = if k = 2 then t.1 526 else t.2.2.1 155 0) ∧ (k ≠ 2 → k = if an = 204 then 3 else 4) ∧ (an = -1 ∨ byt an) ∧ c_1146 120 (cup s 122 (eC e1 e2 e3 0 e5 e6 e7)) = some (cup (cup (cup s 122 (eC e1 e2 e3 0 e5 e6 e7)) 126 (true, true, 0, rowC (fun i => if i = k then .int (t.2.2.1 157 k + 1) else .int (t.2.2.1 157 i)) 5)) 120 (bD (t.1 523) (if t.1 524 = 0 then -1 else t.1 524) 1 an (t.1 500) (Int32.ofNat d) (t.1 1))) := by
      by_cases isA : ¬ t.1 524 = 0 ∧ t.1 516 = t.1 524 + 14 ∧ nb = 1 ∧ e1 = 0
      · obtain ⟨a1, a2, a3, a4⟩ := isA
        have en0 : en ≠ 0 := fun z => a1 (by rw [h524, z]; rfl)
        have pos : (0 : Int32) < t.1 524 := by rw [h524]; exact (i_Llt (by omega) (by omega)).mpr (by show 0 < en; omega)
        subst a3
        refine ⟨if t.2.2.1 155 0 = 204 then 3 else 4, t.2.2.1 155 0, by split <;> omega, by split <;> omega, ?_, by rw [if_neg (by split <;> omega)], fun _ => rfl, Or.inr (hf 0 (by omega)).2, ?_⟩
        · rw [if_pos pos, if_pos a2, if_pos (by rw [h7]; rfl), if_pos (by rw [← he1]; exact a4), if_neg (by split <;> omega)]
        · exact c_cmp1 (hd := t.2.2.1 157) S0 S2 S3 (hf 0 (by omega)).1 S6 (by rw [if_neg a1, h524]; exact i_ne1 (by omega)) (by rw [if_neg a1, he2, ← hb, a2]) a4 rfl
      · refine ⟨2, t.1 526, by omega, by omega, ?_, by rw [if_pos rfl], fun z => absurd rfl z, g526, ?_⟩
        · rw [if_pos rfl]
          by_cases q0 : (0 : Int32) < t.1 524
          · by_cases q1 : t.1 516 = t.1 524 + 14
            · by_cases q2 : t.1 517 = 1
              · have q3 : ¬ t.1 519 = 0 := fun z => isA ⟨fun y => by rw [y] at q0; exact absurd q0 (by decide), q1, (i_inj (j := nb) (k := 1) (by omega) (by omega)).mp (by rw [← h7, q2]; rfl), by rw [he1]; exact z⟩
                rw [if_pos q0, if_pos q1, if_pos q2, if_neg q3]
              · rw [if_pos q0, if_pos q1, if_neg q2]
            · rw [if_pos q0, if_neg q1]
          · rw [if_neg q0]
        · refine c_cmp0 (hd := t.2.2.1 157) S0 S2 S3 S6 (by omega) ht (fun z => isA ?_)
          obtain ⟨w1, w2, w3, w4⟩ := z
          have w0 : ¬ t.1 524 = 0 := fun y => w1 (by rw [if_pos y])
          rw [if_neg w0] at w2
          exact ⟨w0, by rw [hb, ← he2, w2], w3, w4⟩
    obtain ⟨k, an, k5, k2, kv, ka, kk, kb, kc⟩ := key
    have cT := t_oth h7 (by omega) ht' k5 kv ka kk
    have T1 : (wrI (ptI (ptI t 525 1) 526 an) 157 k (t.2.2.1 157 k + 1)).2.2.1 157 1 = t.2.2.1 157 1 := by rw [wr_nk (by omega)]; rfl
    refine ⟨_, _, kc, cT, rfl, Nat.le_add_right _ _, Nat.le_add_right _ _, fun q a1 a2 a3 a4 a5 => by rw [cup_at, if_neg a3, cup_at, if_neg a2, cup_at, if_neg a5], by rw [cup_at, if_neg (by omega), cup_at, if_neg (by omega)]; exact S2, by rw [cup_at, if_pos rfl]; rfl, ⟨mc5, n5, by rw [cup_at, if_neg (by omega), cup_at, if_neg (by omega), S5]; rfl, g5a, g5b, g5c, g5d⟩, ?_, ?_, fun c q1 q2 q3 q4 q5 => by rw [wr_1, pt_1, if_neg q5, pt_1, if_neg q4], rfl, rfl, fun c j q1 q2 => by rw [wr_ne q2]; rfl, g523, Or.inr rfl, ⟨en, hen, h524⟩, kb, ⟨hc0, by rw [T1]; exact hc1, by omega⟩, fun z => by rw [T1] at z; exact (Int32.lt_irrefl z).elim⟩
    · rw [cup_at, if_neg (by omega), cup_at, if_pos rfl]
      rw [rowC_congr (f := fun i => if i = k then Value.int (t.2.2.1 157 k + 1) else .int (t.2.2.1 157 i)) (g := fun q => .int ((wrI (ptI (ptI t 525 1) 526 an) 157 k (t.2.2.1 157 k + 1)).2.2.1 157 q)) (fun i _ => by
        rw [wr_at]
        by_cases z : i = k
        · rw [if_pos z, if_pos ⟨rfl, z⟩]
        · rw [if_neg z, if_neg (fun y => z y.2)]; rfl)]
    · rw [cup_at, if_neg (by omega), cup_at, if_neg (by omega), S8]
      rw [rowC_congr (f := fun i => Value.int (t.2.2.1 136 i)) (g := fun i => .int (pU t (wrI (ptI (ptI t 525 1) 526 an) 157 k (t.2.2.1 157 k + 1)) (t.2.2.1 136) i)) (fun i _ => by rw [noU _ T1 i])]
