/-! the bus: send, call -/
theorem i_gt {a : Nat} (h : a + 1 < 2147483648) (v : Int32) : (Int32.ofNat a < v) ↔ ¬ v < Int32.ofNat (a + 1) := by
  rw [Int32.lt_iff_toInt_lt, Int32.lt_iff_toInt_lt, i_toInt (by omega), i_toInt h]
  omega
def argB (v2 v3 v4 v5 v6 : Int32) : Bool := decide ((¬ v2 < 0 ∧ v2 < 4) ∧ (¬ v3 < 0 ∧ v3 < (if v4 = 0 then 65536 else 256)) ∧ (¬ v5 < 1 ∧ v5 < 15) ∧ ¬ v6 < 0 ∧ v6 < 256)
theorem argC (v2 v3 v4 v5 v6 : Int32) : (if v2 < 0 then some (0 : Int32) else (if 3 < v2 then some 0 else (if v3 < 0 then some 0 else Option.bind (α := Int32) ((if v4 = 0 then some 65536 else some 256)) (fun v17 => (if v3 < v17 then (if v5 < 1 then some 0 else (if 14 < v5 then some 0 else (if v6 < 0 then some 0 else (if 255 < v6 then some 0 else some 1)))) else some 0))))) = some (if argB v2 v3 v4 v5 v6 = true then 1 else 0) := by
  have e1 : ((3 : Int32) < v2) = ¬ (v2 < 4) := propext (i_gt (a := 3) (by omega) v2)
  have e2 : ((14 : Int32) < v5) = ¬ (v5 < 15) := propext (i_gt (a := 14) (by omega) v5)
  have e3 : ((255 : Int32) < v6) = ¬ (v6 < 256) := propext (i_gt (a := 255) (by omega) v6)
  have e4 : (if v4 = 0 then some (65536 : Int32) else some 256) = some (if v4 = 0 then 65536 else 256) := by split <;> rfl
  rw [e4, Option.bind_some]
  unfold argB
  generalize (if v4 = 0 then (65536 : Int32) else 256) = w
  simp only [e1, e2, e3, decide_eq_true_eq]
  by_cases a1 : v2 < 0
  · rw [if_pos a1, if_neg (fun z => z.1.1 a1)]
  · by_cases a2 : v2 < 4
    · rw [if_neg a1, if_neg (fun z => z a2)]
      by_cases a3 : v3 < 0
      · rw [if_pos a3, if_neg (fun z => z.2.1.1 a3)]
      · rw [if_neg a3]
        by_cases a4 : v3 < w
        · rw [if_pos a4]
          by_cases a5 : v5 < 1
          · rw [if_pos a5, if_neg (fun z => z.2.2.1.1 a5)]
          · rw [if_neg a5]
            by_cases a6 : v5 < 15
            · rw [if_neg (fun z => z a6)]
              by_cases a7 : v6 < 0
              · rw [if_pos a7, if_neg (fun z => z.2.2.2.1 a7)]
              · rw [if_neg a7]
                by_cases a8 : v6 < 256
                · rw [if_neg (fun z => z a8), if_pos ⟨⟨a1, a2⟩, ⟨a3, a4⟩, ⟨a5, a6⟩, a7, a8⟩]
                · rw [if_pos a8, if_neg (fun z => a8 z.2.2.2.2)]
            · rw [if_pos a6, if_neg (fun z => a6 z.2.2.1.2)]
        · rw [if_neg a4, if_neg (fun z => a4 z.2.1.2)]
    · rw [if_neg a1, if_pos a2, if_neg (fun z => a2 z.1.2)]
theorem argT (v2 v3 v4 v5 v6 : Int32) (t : TS) : Option.bind (α := Int32) (t_560 v2 4 t) (fun x2 => (if x2 = 0 then some (0 : Int32) else Option.bind (α := Int32) ((if v4 = 0 then some 65536 else some 256)) (fun v14 => Option.bind (α := Int32) (t_560 v3 v14 t) (fun x3 => (if x3 = 0 then some 0 else (if v5 < 1 then some 0 else (if 14 < v5 then some 0 else Option.bind (α := Int32) (t_560 v6 256 t) (fun x4 => (if x4 = 0 then some 0 else some 1))))))))) = some (if argB v2 v3 v4 v5 v6 = true then 1 else 0) := by
  have e2 : ((14 : Int32) < v5) = ¬ (v5 < 15) := propext (i_gt (a := 14) (by omega) v5)
  have e4 : (if v4 = 0 then some (65536 : Int32) else some 256) = some (if v4 = 0 then 65536 else 256) := by split <;> rfl
  rw [e4, isIn_eq, isIn_eq, Option.bind_some]
  simp only [isIn_eq, Option.bind_some]
  unfold argB
  generalize (if v4 = 0 then (65536 : Int32) else 256) = w
  simp only [e2, decide_eq_true_eq]
  by_cases a1 : ¬ v2 < 0 ∧ v2 < 4
  · rw [if_pos a1, if_neg (by decide)]
    by_cases a2 : ¬ v3 < 0 ∧ v3 < w
    · rw [if_pos a2, if_neg (by decide)]
      by_cases a5 : v5 < 1
      · rw [if_pos a5, if_neg (fun z => z.2.2.1.1 a5)]
      · rw [if_neg a5]
        by_cases a6 : v5 < 15
        · rw [if_neg (fun z => z a6)]
          by_cases a7 : ¬ v6 < 0 ∧ v6 < 256
          · rw [if_pos a7, if_neg (by decide), if_pos ⟨a1, a2, ⟨a5, a6⟩, a7⟩]
          · rw [if_neg a7, if_pos rfl, if_neg (fun z => a7 z.2.2.2)]
        · rw [if_pos a6, if_neg (fun z => a6 z.2.2.1.2)]
    · rw [if_neg a2, if_pos rfl, if_neg (fun z => a2 z.2.1)]
  · rw [if_neg a1, if_pos rfl, if_neg (fun z => a1 z.1)]
/-- a telegram is queued, on both sides -/
theorem snd_two {s : CS} {own : Nat → Nat} {t : TS} {N k p aim gr c f : Nat} {v4 : Int32} (hw : wfS s) (hs : 179 ≤ s.2.1) (hk : k < 8) (r : R6 (rs s.1 own 6) t N) (hp : p < 4) (haim : aim < 65536) (hc1 : 1 ≤ c) (hc : c ≤ 14) (hf : f < 256) (hgr : (if v4 = 0 then some (0 : Int32) else some 128) = some (Int32.ofNat gr)) (hgr2 : gr = 0 ∨ gr = 128) (n : Nat) (h146 : t.2.2.1 146 k = Int32.ofNat n) (hn : n < 6) :
    ∃ S S2 t' a, t.2.2.1 143 k = Int32.ofNat a ∧ nw s 93 [.int 0, .null, .int 0] = (s.2.1, S) ∧ S.1 s.2.1 = some (true, false, 93, [.int 0, .null, .int 0]) ∧ (∀ q, q ≠ s.2.1 → S.1 q = s.1 q) ∧ (∃ S1, c_1062 s.2.1 (Int32.ofNat p) (Int32.ofNat a) (Int32.ofNat aim) v4 (Int32.ofNat c) (Int32.ofNat f) S = some S1 ∧ (∃ fs, S1.1 (129 + 3 * k) = some (true, false, 1004, fs)) ∧ adAdd S1 (129 + 3 * k) (.ref s.2.1) = some S2) ∧ t_825 (Int32.ofNat k) (Int32.ofNat p) (Int32.ofNat aim) v4 (Int32.ofNat c) (Int32.ofNat f) t = some (Int32.ofNat (n + 1), t') ∧ R6 (rs S2.1 (givs own s.2.1 2 6) 6) t' N ∧ Frm (fun X => X = 6) own (givs own s.2.1 2 6) s S2 ∧ S2.2.2.1 ≤ s.2.2.1 + 3 ∧ S2.2.2.2 ≤ s.2.2.2 + 24 ∧ t'.1 = t.1 ∧ (∀ Z, Z ≠ 6 → rt t' Z = rt t Z) ∧ (∃ fs, S2.1 (129 + 3 * k) = some (true, false, 1004, fs) ∧ fs.length = n + 1) ∧ S2.1 (127 + 3 * k) = s.1 (127 + 3 * k) := by
  have r0 := r
  obtain ⟨g, e, d, n0, ti0, bi0, m0, i1, i2, rr⟩ := r
  obtain ⟨s1, s2, s3, s4, s5, s6, s7, ⟨a, ha, s8⟩, s9⟩ := rr k hk
  have en : n0 k = n := by
    rw [h146] at s3
    exact ((i_inj (by omega) (by omega)).mp s3).symm
  have hq := rs_in s2
  have h7 := rs_in s1
  have hl := wf_lt hw hq.1
  have hl7 := wf_lt hw h7.1
  rw [en] at hq
  obtain ⟨S, e1, a1, a2, a3, a4, a5, a6⟩ := nw_o (s := s) 93 [.int 0, .null, .int 0] hw
  have hg3 : gr ≤ 128 := by omega
  obtain ⟨S1, c1, c2, c3, c4, c5⟩ := c_tel (s := S) (a := s.2.1) a1 (by omega) ha hp haim hc1 hc hf hgr hg3
  rw [a3] at c2 c3 c5
  obtain ⟨t', d1, d2, d3, d4, d5, d6, d7, d8, d9, d10, d11, d12⟩ := t_send hk hn h146 s8 ha hp haim hc1 hc hf hgr hg3
  have q1 : S1.1 (129 + 3 * k) = some (true, false, 1004, rowC (fun j => .ref (ti0 k j)) n) := by rw [c5 _ (by omega) (by omega), a2 _ (by omega)]; exact hq.1
  have q2 := adAdd_r (v := .ref s.2.1) q1 (by omega) (by simp) (elO_o c2)
  have n1 : S1.2.1 = s.2.1 + 2 := by rw [c4, a3]
  have hw1 : wfS S1 := by
    intro q hq1
    rw [n1] at hq1
    rw [c5 q (by omega) (by omega)]
    exact a4 q (by omega)
  rw [adG_0 (show n < 16 by omega), Nat.zero_mul] at q2
  generalize hS2 : cput S1 1004 (129 + 3 * k) 0 0 _ = S2 at q2
  have m1 : ∀ q, q ≠ 129 + 3 * k → S2.1 q = S1.1 q := fun q hq1 => by rw [← hS2, cput_ne hq1]
  have m2 : S2.1 (129 + 3 * k) = some (true, false, 1004, rowC (fun j => if j = n then .ref s.2.1 else .ref (ti0 k j)) (n + 1)) := by rw [← hS2, cput_eq]
  have m3 : S2.2.1 = s.2.1 + 2 := by rw [← hS2]; exact n1
  have g4 : ∀ q, q < s.2.1 → q ≠ 129 + 3 * k → S2.1 q = s.1 q := fun q h1 h2 => by rw [m1 q h2, c5 q (by omega) (by omega), a2 q (by omega)]
  simp only [List.length_cons, List.length_nil] at a6
  refine ⟨S, S2, t', a, s8, e1, a1, a2, ⟨S1, c1, ⟨_, q1⟩, q2⟩, d1, ?_, ?_, ?_, ?_, d2, ?_, ⟨_, m2, rowC_len _ _⟩, g4 _ hl7 (by omega)⟩
  · exact R6_send hw hs hk r0 hp ha haim hc1 hc hgr2 n (ti0 k) h146 hq.1 hn (by rw [m1 _ (by omega)]; exact c2) (by rw [m1 _ (by omega)]; exact c3) m2 g4 d2 d5 d6 d7 d8 d9 d10 d11 d12 (xr_byt (fun i _ => sB_byt hp ha haim hgr2 hc))
  · refine frm_pt (fun q => q = 129 + 3 * k) (fun q _ z => by rw [z]; exact hq.2) (fun q h1 h2 => g4 q h1 h2) (by omega) (fun q h1 => if_neg (by omega)) (fun q h1 h2 => if_pos (by omega)) ?_
    rw [← hS2]
    exact wf_cup hw1 (by omega)
  · rw [← hS2]
    show S1.2.2.1 + 0 ≤ _
    rw [c4, a5]
    show s.2.2.1 + 1 + 1 + 0 ≤ _
    omega
  · rw [← hS2]
    show S1.2.2.2 + 0 ≤ _
    rw [c4, a6]
    show s.2.2.2 + 3 + (c + 7) + 0 ≤ _
    omega
  · intro Z h6
    unfold rt
    rw [d2, d3, d4]
    refine Prod.ext rfl (Prod.ext rfl (Prod.ext ?_ rfl))
    funext c' j
    dsimp only
    by_cases z : mR c' = Z
    · rw [if_pos z, if_pos z, d5 c' j (fun w => h6 (by rw [← z, w]; rfl)) (fun w => h6 (by rw [← z, w.1]; rfl))]
    · rw [if_neg z, if_neg z]
