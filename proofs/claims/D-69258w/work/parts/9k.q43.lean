/-! permits: parts that are made while one reads -/
section
variable {s S : CS} {t T : TS} {x : List Nat} {rd rl k : Nat} {dp : Int32}
def isNl : Value → Bool
  | .null => true
  | _ => false
/-- the parts that are whole -/
def noN (rd : Nat) (h : lHeap) : lHeap := fun p => Option.bind (noK h p) (fun c => if c.2.2.2.any isNl = true ∨ p ≤ rd then none else some c)
theorem noN_of {h : lHeap} {p : Nat} {c : lCell} (e : noN rd h p = some c) : noK h p = some c ∧ c.2.2.2.any isNl = false ∧ rd < p := by
  unfold noN at e
  cases w : noK h p with
  | none => rw [w] at e; cases e
  | some d =>
    rw [w, Option.bind_some] at e
    by_cases z : d.2.2.2.any isNl = true ∨ p ≤ rd
    · rw [if_pos z] at e; cases e
    · rw [if_neg z] at e
      obtain rfl := Option.some.inj e
      refine ⟨rfl, ?_, ?_⟩
      · cases q : d.2.2.2.any isNl with
        | false => rfl
        | true => exact absurd (Or.inl q) z
      · exact Nat.lt_of_not_le (fun q => z (Or.inr q))
theorem noN_in {h : lHeap} {p : Nat} {c : lCell} (e : noK h p = some c) (z : c.2.2.2.any isNl = false ∧ rd < p) : noN rd h p = some c := by
  unfold noN
  rw [e, Option.bind_some, if_neg (fun w => ?_)]
  rcases w with w | w
  · rw [z.1] at w; exact absurd w (by decide)
  · omega
theorem noN_jx {n : Nat} {fs : List Value} {u v : Bool} (hw : wfS s) (h : s.1 rd = some (u, v, 68, fs)) (J : JX rd s S n) : ∀ p c, noN rd s.1 p = some c → noN rd S.1 p = some c := fun p c e => by
  obtain ⟨e1, e2⟩ := noN_of e
  obtain ⟨e3, e4⟩ := noK_of e1
  exact noN_in (noK_in (JX_ne J hw h (kKp_ne e4 rfl) e3) e4) e2
theorem noN_fill {q : Nat} {c0 c' : lCell} (h : S.1 q = some c0) (z : c0.2.2.2.any isNl = true) : ∀ p c, noN rd S.1 p = some c → noN rd (cup S q c').1 p = some c := fun p c e => by
  obtain ⟨e1, e2⟩ := noN_of e
  obtain ⟨e3, e4⟩ := noK_of e1
  refine noN_in (noK_in ((cup_ne (fun w => ?_)).trans e3) e4) e2
  rw [w, h] at e3
  rw [← Option.some.inj e3, z] at e2
  exact absurd e2.1 (by decide)
theorem RdC_up (R : RdC s rd rl x k dp) (hw : wfS S) (e : ∀ p c, (c.2.2.1 = 68 ∨ c.2.2.1 = 1000 ∨ c.2.2.1 = 1035) → s.1 p = some c → S.1 p = some c) : RdC S rd rl x k dp := by
  obtain ⟨_, K, X, k1, ok, b, fl, n, h1, h2, h3⟩ := R
  exact ⟨hw, fun p hp => e _ _ (Or.inr (Or.inl rfl)) (K p hp), ⟨e _ _ (Or.inr (Or.inr rfl)) X.1, X.2⟩, k1, ok, b, fl, n, e _ _ (Or.inl rfl) h1, e _ _ (Or.inr (Or.inl rfl)) h2, h3⟩
theorem RdC_v {n : Nat} (R : RdC s rd rl x k dp) (v : VOk s S n) : RdC S rd rl x k dp := RdC_up R v.1 (fun p c _ h => VOk_up v R.1 h)
theorem RdC_c {q j : Nat} {w b : Bool} {fs : List Value} {c' : lCell} (R : RdC S rd rl x k dp) (h : S.1 q = some (w, b, j, fs)) (hj : j ≠ 68 ∧ j ≠ 1000 ∧ j ≠ 1035) : RdC (cup S q c') rd rl x k dp := by
  refine RdC_up R (wf_cup R.1 (wf_lt R.1 h)) (fun p c hc e => (cup_ne (fun w => ?_)).trans e)
  rw [w, h] at e
  rw [← Option.some.inj e] at hc
  have hc' : j = 68 ∨ j = 1000 ∨ j = 1035 := hc
  omega
theorem RdC_dp (R : RdC s rd rl x k dp) (d' : Int32) : (∃ s2, (∀ A (g : CS → Option A), Option.bind (xP s [(68, 6)] rd (.int d')) g = g s2) ∧ RdC s2 rd rl x k d' ∧ JX rd s s2 0) ∧ xI s [(68, 6)] rd = some dp := by
  obtain ⟨hw, K, X, k1, ok, b, fl, n, h1, h2, h3⟩ := R
  have lr := wf_lt hw h1
  have J : JX rd s (cup s rd (rdCell rl (.ref b) (Int32.ofNat (tkS x k).1) (Int32.ofNat (tkS x k).2) (Int32.ofNat n) d')) 0 := JX_c (JX_0 hw) lr
  have hb : b ≠ rd := fun z => by
    rw [z, h1] at h2
    unfold rdCell at h2
    simp at h2
  refine ⟨⟨_, fun A g => by rw [rdP6 h1 d', Option.bind_some], ⟨J.1, fun p hp => JX_ne J hw h1 (by show 1000 ≠ 68; decide) (K p hp), ⟨JX_ne J hw h1 (by show 1035 ≠ 68; decide) X.1, X.2⟩, k1, ok, b, fl, n, cup_eq .., (cup_ne hb).trans h2, h3⟩, J⟩, xI_o h1 rfl rfl⟩
theorem RdC_rd (R : RdC s rd rl x k dp) : ∃ fs, s.1 rd = some (true, false, 68, fs) := by
  obtain ⟨_, _, _, _, _, b, fl, n, h1, _⟩ := R
  exact ⟨_, h1⟩
/-- a wrong word at the place of the word at hand -/
theorem rd_bad (R : RdC s rd rl x k dp) (v : Int32) : c_935 rd v s = if v = 0 then some (.inr (s.2.1, exWr s (Int32.ofNat (tkS x k).1))) else some (.inl s) := by
  obtain ⟨hw, _, _, _, _, b, fl, n, h1, _⟩ := R
  exact c_chk hw h1 v
theorem rd_badR (R : RdC s rd rl x k dp) (e : T.1 226 = Int32.ofNat (tkS x k).1) (w : T.1 231 = 1) : BadR (exWr s (Int32.ofNat (tkS x k).1)) s.2.1 T ∧ JX rd s (exWr s (Int32.ofNat (tkS x k).1)) 1 := ⟨⟨w, by rw [e]; exact exWr_o s _⟩, JX_of R.1 (exWr_v R.1 _)⟩
/-- a number -/
theorem c_numb (R : RdC s rd rl x k dp) : c_944 rd s = if tkK (tkW x k) = 1 then Option.bind (c_931 rd s) (Sum.elim (fun x8 => some (.inl (Int32.ofNat (vN (tkW x k)), x8))) (fun q9 => some (.inr (q9.1, q9.2)))) else some (.inr (s.2.1, exWr s (Int32.ofNat (tkS x k).1))) := by
  unfold c_944
  rw [if_pos (RdC_68 R), c_isNu R, Option.bind_some, if_pos (RdC_68 R), rd_bad R]
  by_cases z : tkK (tkW x k) = 1
  · rw [if_pos z, if_pos z, if_neg (by decide), Option.bind_some, Sum.elim_inl]
    obtain ⟨y, ey⟩ := tkW_y R
    have R0 := R
    obtain ⟨_, _, _, _, ok, b, fl, n, h1, h2, _⟩ := R
    rw [ey] at ok z h2 ⊢
    have all : (∀ d ∈ tkC y, dgB d = true) ∧ (tkC y).length ≤ 9 := by
      rcases wd_cases ok with e | ⟨d, r, e, hd, hl, h3, h4⟩ | ⟨d, r, e, hd, hl, _⟩ | ⟨d, e, hd, hl, hs⟩ | ⟨d, e, hd, hl, h6⟩
      · rw [e] at z; exact absurd z (by show ¬ 0 = 1; decide)
      · exact ⟨h3, h4⟩
      · rw [e, tkK_c, if_neg hd, if_pos hl] at z; exact absurd z (by decide)
      · have := sgns_lt hs
        rw [e, tkK_c, if_neg hd, if_neg hl, if_pos rfl] at z; omega
      · rw [e, tkK_c, if_neg hd, if_neg hl, if_neg (by simp)] at z; omega
    rw [num_lp h1 h2 all.1 all.2, Option.bind_some, if_pos (RdC_68 R0)]
  · rw [if_neg z, if_neg z, if_pos rfl, Option.bind_some, Sum.elim_inr]
theorem tkV_1 (R : RdC s rd rl x k dp) (z : tkK (tkW x k) = 1) : tkV (tkW x k) = (Int32.ofNat (vN (tkW x k))).toInt64 := by
  obtain ⟨y, ey⟩ := tkW_y R
  obtain ⟨_, _, _, _, ok, _⟩ := R
  rw [ey] at ok z ⊢
  rcases wd_cases ok with e | ⟨d, r, e, hd, hl, h3, h4⟩ | ⟨d, r, e, hd, hl, _⟩ | ⟨d, e, hd, hl, hs⟩ | ⟨d, e, hd, hl, h6⟩
  · rw [e] at z; exact absurd z (by show ¬ 0 = 1; decide)
  · have vl := vN_lt (l := tkC y) rfl h3
    have p9 := pow9 h4
    rw [l_32 (by omega), e, tkV_c, if_pos hd, ← e]
    exact tkV_n rfl h4 h3
  · rw [e, tkK_c, if_neg hd, if_pos hl] at z; exact absurd z (by decide)
  · have := sgns_lt hs
    rw [e, tkK_c, if_neg hd, if_neg hl, if_pos rfl] at z; omega
  · rw [e, tkK_c, if_neg hd, if_neg hl, if_neg (by simp)] at z; omega
theorem tkV_2 (R : RdC s rd rl x k dp) (z : tkK (tkW x k) = 2) : tkV (tkW x k) = nmL (tkW x k) ∧ (tkW x k).length ≤ 8 := by
  obtain ⟨y, ey⟩ := tkW_y R
  obtain ⟨_, _, _, _, ok, _⟩ := R
  rw [ey] at ok z ⊢
  rcases wd_cases ok with e | ⟨d, r, e, hd, hl, h3, h4⟩ | ⟨d, r, e, hd, hl, h3, h4⟩ | ⟨d, e, hd, hl, hs⟩ | ⟨d, e, hd, hl, h6⟩
  · rw [e] at z; exact absurd z (by show ¬ 0 = 2; decide)
  · rw [e, tkK_c, if_pos hd] at z; exact absurd z (by decide)
  · refine ⟨?_, h4⟩
    rw [e, tkV_c, if_neg hd, if_pos hl]
  · have := sgns_lt hs
    rw [e, tkK_c, if_neg hd, if_neg hl, if_pos rfl] at z; omega
  · rw [e, tkK_c, if_neg hd, if_neg hl, if_neg (by simp)] at z; omega
end
