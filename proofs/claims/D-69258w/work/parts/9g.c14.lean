/-! cells: all leave -/
theorem ctB_lt {p q : Nat → Bool} {n k : Nat} (hk : k < n) (h1 : p k = true) (h2 : q k = false) (h : ∀ j, q j = true → p j = true) : ctB q n < ctB p n := by
  have le : ∀ m, ctB q m ≤ ctB p m := fun m => by
    induction m with
    | zero => exact Nat.le_refl _
    | succ m ih =>
      rw [ctB_s, ctB_s]
      by_cases w : q m = true
      · rw [if_pos w, if_pos (h m w)]; omega
      · rw [if_neg w]; omega
  induction n with
  | zero => omega
  | succ n ih =>
    rw [ctB_s, ctB_s]
    by_cases e : k = n
    · subst e
      have := le k
      rw [if_pos h1, h2, if_neg (by decide)]; omega
    · have := ih (by omega)
      by_cases w : q n = true
      · rw [if_pos w, if_pos (h n w)]; omega
      · rw [if_neg w]; omega
/-- while they leave -/
def LvI (own : Nat → Nat) (s0 s : CS) (T0 T : TS) (nS A B : Nat) (at' : Nat → Int32) (P4 : lHeap → TS → Prop) (P9 : lHeap → TS → (Nat → Int32) → (Nat → Nat) → Prop) : Prop := P4 (rs s.1 own 4) T ∧ (∃ wn sc, P9 (rs s.1 own 9) T wn sc ∧ cntR T wn sc) ∧ s.1 A = some (true, true, 0, rowC (fun k => .int (at' k)) nS) ∧ (∃ gs : List Value, s.1 B = some (true, false, 1003, gs) ∧ ∀ k, k < nS → v01 (T.2.2.1 49 k) ∧ (bit gs k = true ↔ T.2.2.1 49 k = 1)) ∧ (∀ k, k < nS → T.2.2.1 49 k = 0 → atR T (at' k) k) ∧ Frm (fun X => X = 4 ∨ X = 9 ∨ X = 98) own own s0 s ∧ s.2 = s0.2 ∧ T.1 = T0.1 ∧ (∀ Z, Z ≠ 4 → Z ≠ 9 → rt T Z = rt T0 Z)
section
variable {own : Nat → Nat} {s0 : CS} {T0 : TS} {nl nr nd sm : Nat} {W : Nat → Nat} {e q g : Nat → Int32}
theorem lv_step {K zn nr' nS nT nC nR nP nL a A B nw' k : Nat} {rel : Int32} {at' : Nat → Int32} {S C CS' CM CT E RS RM' RT P G D L F : Nat → Nat} {RW : Nat → Nat → Nat} {s : CS} {T : TS} (hK : K9 s0.1) (o61 : own 61 ≠ 4 ∧ own 61 ≠ 9 ∧ own 61 ≠ 98 ∧ own 62 ≠ 4 ∧ own 62 ≠ 9 ∧ own 62 ≠ 98) (hw0 : wfS s0) (hb : T0.1 1 ≠ 0) (h101 : s0.1 101 = some (true, false, 56, [.int (T0.1 2)])) (ho : own 101 ≠ 4 ∧ own 101 ≠ 9 ∧ own 101 ≠ 98) (h2 : T0.1 2 = Int32.ofNat nw') (hnw : nw' ≤ 6000) (oA : own A = 98) (oB : own B = 98) (hAB : A ≠ B) (h : LvI own s0 s T0 T nS A B at' (fun h t => R4x h t K zn nr' nS nT nC nR nP nL a rel S C CS' CM CT E RS RM' RT P G D L F RW) (fun h t wn sc => R9x h t nl nr nd sm W e q g wn sc)) (hk : k < nS) (hgo : goR T at' k) : ∃ s' T' x y, Option.bind (xI s [(81, 0)] (S k)) (fun x16 => (if isK s [3] B = true then Option.bind (bsSet s B x16) (fun s17 => Option.bind (xI s17 [(81, 0)] (S k)) (fun x18 => Option.bind (aI s17 [0, 12] A x18) (fun x19 => (if isK s17 [50] 170 = true then Option.bind (c_553 170 (S k) x19 (T0.1 9) s17) (fun x20 => (if isK x20 [50] 170 = true then Option.bind (c_552 170 111 A B x20) (fun x21 => some (Sum.inl (β := CS) (x20, x21))) else none)) else none)))) else none)) = some (.inl (s', x)) ∧ Option.bind (stI T 49 40 (Int32.ofNat k) ((1 : Int32) &&& 1)) (fun s4 => Option.bind (t_671 (Int32.ofNat k) s4) (fun x5 => Option.bind (t_670 x5) (fun x6 => some (Sum.inl (β := TS) (x5, x6))))) = some (.inl (T', y)) ∧ LvI own s0 s' T0 T' nS A B at' (fun h t => R4x h t K zn nr' nS nT nC nR nP nL a rel S C CS' CM CT E RS RM' RT P G D L F RW) (fun h t wn sc => R9x h t nl nr nd sm W e q g wn sc) ∧ ((x = none ∧ y = -1) ∨ ∃ k, k < nS ∧ x = some (S k) ∧ y = Int32.ofNat k ∧ goR T' at' k) ∧ ctB (fun j => decide (T'.2.2.1 49 j = 0)) nS < ctB (fun j => decide (T.2.2.1 49 j = 0)) nS := by
  obtain ⟨p4, ⟨wn, sc, p9, hcn⟩, hA, ⟨gs, hB, hg⟩, hat, f, e2, t1, trt⟩ := h
  have pr := R4_raw p4
  have nS40 := pr.2.1.2.2.1
  obtain ⟨dS, okS, S179⟩ := pr.2.1.2.2.2.1 k hk
  have oS := (rs_in (p4.2.1.2.2.2.1 k hk).1).2
  have hw := f.2.2.2.2
  obtain ⟨z49, c, hc, hx, hy, hn, ha⟩ := hgo
  have lB := wf_lt hw hB
  have SB : S k ≠ B := fun z => by rw [z, oB] at oS; omega
  have SA : S k ≠ A := fun z => by rw [z, oA] at oS; omega
  have a170 := (R9_raw p9).1.1
  have o170 := (rs_in p9.1.1).2
  rw [xI_o (x := Int32.ofNat k) dS rfl rfl, Option.bind_some, if_pos (isK_t hB rfl), bsSet_r hB (by omega), Option.bind_some]
  have hG : bsG gs k = 0 := by unfold bsG; rw [if_pos (Or.inl (by omega))]
  rw [hG, Nat.zero_mul]
  generalize hS1 : cput s 1003 B 0 0 (setB gs k) = s1
  have k1 : ∀ q, q ≠ B → s1.1 q = s.1 q := fun q hq => by rw [← hS1]; exact cput_ne hq
  have k2 : s1.1 B = some (true, false, 1003, setB gs k) := by rw [← hS1]; exact cput_eq ..
  have k3 : s1.2 = s.2 := by rw [← hS1]; rfl
  have k4 : wfS s1 := by rw [← hS1]; exact wf_cup hw lB
  have f1 : Frm (fun X => X = 4 ∨ X = 9 ∨ X = 98) own own s s1 := by rw [← hS1]; exact frm_cput hw lB (Or.inr (Or.inr oB))
  have dS1 : s1.1 (S k) = _ := (k1 _ SB).trans dS
  have hA1 : s1.1 A = _ := (k1 _ hAB).trans hA
  have c170 : s1.1 170 = _ := (k1 170 (fun z => by rw [z, oB] at o170; omega)).trans a170
  rw [xI_o (x := Int32.ofNat k) dS1 rfl rfl, Option.bind_some, aI_r hA1 (by omega) rfl hk (by omega) (congrArg _ ha), Option.bind_some, if_pos (isK_t c170 rfl)]
  rw [stI_n (show k < 40 by omega) (by omega), Option.bind_some, show (1 : Int32) &&& 1 = 1 from rfl]
  have T3 : ∀ c j, (wrI T 49 k 1).2.2.1 c j = if c = 49 ∧ j = k then 1 else T.2.2.1 c j := fun _ _ => rfl
  have T3' : ∀ c, c ≠ 49 → (wrI T 49 k 1).2.2.1 c = T.2.2.1 c := fun c hc => funext (fun j => by rw [T3, if_neg (fun h => hc h.1)])
  have Trt : ∀ Z, Z ≠ 9 → rt (wrI T 49 k 1) Z = rt T Z := fun Z hZ => rt_wrI (by show (9 : Nat) ≠ Z; omega)
  generalize hT1 : wrI T 49 k 1 = T1 at T3 T3' Trt
  have T1' : T1.1 = T.1 := by rw [← hT1]; rfl
  have e4 : rs s1.1 own 4 = rs s.1 own 4 := frm_rs (X := fun X => X = 98) hw (by rw [← hS1]; exact frm_cput hw lB oB) (by decide)
  have e9 : rs s1.1 own 9 = rs s.1 own 9 := frm_rs (X := fun X => X = 98) hw (by rw [← hS1]; exact frm_cput hw lB oB) (by decide)
  have p4' : R4x (rs s1.1 own 4) T1 K zn nr' nS nT nC nR nP nL a rel S C CS' CM CT E RS RM' RT P G D L F RW := by
    rw [e4]
    exact R4x_cg p4 (fun _ _ h => h) (by rw [T1']) (Trt 4 (by decide)) (fun c hc => T3' c (by simp at hc; omega))
  obtain ⟨nw2, w1, w2, w3⟩ := p9.2.2.2.1
  have p9' : R9x (rs s1.1 own 9) T1 nl nr nd sm W e q g wn sc := by
    rw [e9]
    exact R9_sw p9 (fun _ _ _ _ h => h) T1' (fun c _ _ h => T3' c h) p9.1.2.2.2.2.2.2.1 p9.1.2.2.2.2.2.2.2 w1 w2 w3
  have hK1 : K9 s1.1 := by
    obtain ⟨⟨u1, x1⟩, u2, x2⟩ := hK
    have l61 := wf_lt hw0 x1
    have l62 := wf_lt hw0 x2
    have ff := f.trans f1
    refine ⟨⟨u1, (ff.2.2.1 61 l61 (fun z => ?_)).trans x1⟩, u2, (ff.2.2.1 62 l62 (fun z => ?_)).trans x2⟩ <;> omega
  have h101a : s1.1 101 = some (true, false, 56, [.int (T1.1 2)]) := by
    rw [(f.trans f1).2.2.1 101 (wf_lt hw0 h101) (fun z => by omega), T1', t1]; exact h101
  have g9 : T0.1 9 = T1.1 9 := by rw [T1', t1]
  have hcn1 : cntR T1 wn sc := fun i hi => by rw [T1', T3' 48 (by decide)]; exact hcn i hi
  obtain ⟨s2, T2, wn2, sc2, y1, y2, y3, y4, y5, y6, y7, y8, y9, y10, y11⟩ := ce_step (c := c) k4 hK1 p9' p4' (by rw [T1', t1]; exact hb) h101a ho.1 (by rw [T1', t1]; exact h2) hnw hcn1 hk hc (by rw [T3' 25 (by decide)]; exact hx) (by rw [T3' 26 (by decide)]; exact hy) (by rw [T3' 46 (by decide)]; exact hn)
  rw [show T.2.2.1 46 c = T1.2.2.1 46 c by rw [T3' 46 (by decide)], g9, y1, Option.bind_some, y2, Option.bind_some]
  have b170 := (R9_raw y4).1.1
  rw [if_pos (isK_t b170 rfl)]
  have F2 : Frm (fun X => X = 4 ∨ X = 9 ∨ X = 98) own own s1 s2 := y6.weak (fun z hz => by rcases hz with h | h; exact Or.inl h; exact Or.inr (Or.inl h))
  have FF := (f.trans f1).trans F2
  have A2 : s2.1 A = some (true, true, 0, rowC (fun k => .int (at' k)) nS) := (y6.2.2.1 A (wf_lt k4 hA1) (fun z => by omega)).trans hA1
  have B2 : s2.1 B = some (true, false, 1003, setB gs k) := (y6.2.2.1 B (wf_lt k4 k2) (fun z => by omega)).trans k2
  have r49 : ∀ j, T2.2.2.1 49 j = if j = k then 1 else T.2.2.1 49 j := fun j => by
    rw [y9 49 j (by decide) (by omega), T3]
    by_cases w : j = k
    · rw [if_pos ⟨rfl, w⟩, if_pos w]
    · rw [if_neg (fun h => w h.2), if_neg w]
  have hg2 : ∀ j, j < nS → v01 (T2.2.2.1 49 j) ∧ (bit (setB gs k) j = true ↔ T2.2.2.1 49 j = 1) := fun j hj => by
    rw [r49, bit_setB]
    by_cases w : j = k
    · rw [if_pos w, if_pos w]; exact ⟨Or.inr rfl, fun _ => rfl, fun _ => rfl⟩
    · rw [if_neg w, if_neg w]; exact hg j hj
  have t2 : T2.1 = T0.1 := y8.trans (T1'.trans t1)
  have hat2 : ∀ j, j < nS → T2.2.2.1 49 j = 0 → atR T2 (at' j) j := fun j hj h0 => by
    have hne : j ≠ k := fun z => by rw [r49, if_pos z] at h0; exact absurd h0 (by decide)
    rw [r49, if_neg hne] at h0
    have hh := hat j hj h0
    have q1 : ∀ d, 24 ≤ d → d ≤ 29 → T2.2.2.1 d j = T.2.2.1 d j := fun d h1 h2 => by rw [y9 d j (by omega) (by omega), T3' d (by omega)]
    have q2 : ∀ c, T2.2.2.1 46 c = T.2.2.1 46 c := fun c => by rw [y9 46 c (by decide) (by omega), T3' 46 (by decide)]
    unfold atR nmC at *
    rw [q1 24 (by omega) (by omega), q1 25 (by omega) (by omega), q1 26 (by omega) (by omega), q1 27 (by omega) (by omega), t2, ← t1]
    simp only [q2]
    exact hh
  have h101b : s2.1 101 = some (true, false, 56, [.int (T2.1 2)]) := by
    rw [FF.2.2.1 101 (wf_lt hw0 h101) (fun z => by omega), t2]; exact h101
  obtain ⟨x, y, n1, n2, n3⟩ := ce_next (R9_raw y4) (R4_raw y3) (by rw [t2]; exact hb) h101b A2 B2 hg2 hat2
  rw [n1, n2]
  refine ⟨s2, T2, x, y, rfl, rfl, ⟨y3, ⟨wn2, sc2, y4, y5⟩, A2, ⟨_, B2, hg2⟩, hat2, FF, (y7.trans k3).trans e2, t2, fun Z h4 h9 => (y10 Z h4 h9).trans ((Trt Z h9).trans (trt Z h4 h9))⟩, n3, ctB_lt hk (by rw [z49]; rfl) (by rw [r49, if_pos rfl]; rfl) (fun j hj => ?_)⟩
  have hj := of_decide_eq_true hj
  rw [r49] at hj
  by_cases w : j = k
  · rw [if_pos w] at hj; exact absurd hj (by decide)
  · rw [if_neg w] at hj; exact decide_eq_true hj
end
