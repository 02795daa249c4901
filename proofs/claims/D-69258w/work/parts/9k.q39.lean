/-! permits: both readers -/
section
variable {s S : CS} {t T : TS} {x : List Nat} {rd rl k : Nat} {dp : Int32}
/-- what a word may be -/
theorem wd_cases {y : List Nat} (h : tkO (tkC y) = true) : tkC y = [] ∨ (∃ c r, tkC y = c :: r ∧ dgB c = true ∧ ¬ ltB c = true ∧ (∀ d ∈ tkC y, dgB d = true) ∧ (tkC y).length ≤ 9) ∨ (∃ c r, tkC y = c :: r ∧ ¬ dgB c = true ∧ ltB c = true ∧ (∀ d ∈ tkC y, ltB d = true) ∧ (tkC y).length ≤ 8) ∨ (∃ c, tkC y = [c] ∧ ¬ dgB c = true ∧ ¬ ltB c = true ∧ c ∈ sgns) ∨ ∃ c, tkC y = [c, 61] ∧ ¬ dgB c = true ∧ ¬ ltB c = true ∧ (c = 60 ∨ c = 62) := by
  cases y with
  | nil => exact Or.inl rfl
  | cons c r =>
    right
    obtain ⟨w, e⟩ := tkC_ne (c := c) (r := r)
    have all : ∀ {B : Nat → Bool} {d : Nat} {l : List Nat}, d ∈ l.takeWhile B → B d = true := fun {B d l} hd => by
      obtain ⟨j, hj, e⟩ := List.getElem_of_mem hd
      obtain ⟨h1, h2, h3⟩ := tw_in hj
      rw [List.getElem?_eq_getElem hj, Option.some.injEq] at h3
      rw [← e, h3]; exact h2
    by_cases d : dgB c = true
    · left
      have e2 : tkC (c :: r) = (c :: r).takeWhile dgB := by rw [tkC_c, if_pos d]
      have nl : ¬ ltB c = true := fun l => by unfold dgB at d; unfold ltB at l; have := of_decide_eq_true d; have := of_decide_eq_true l; omega
      have h2 := h
      rw [e, tkO_c, if_pos d] at h2
      have h3 := of_decide_eq_true h2
      exact ⟨c, w, e, d, nl, fun q hq => by rw [e2] at hq; exact all hq, by rw [e, List.length_cons]; omega⟩
    · by_cases l : ltB c = true
      · right; left
        have e2 : tkC (c :: r) = (c :: r).takeWhile ltB := by rw [tkC_c, if_neg d, if_pos l]
        have h2 := h
        rw [e, tkO_c, if_neg d, if_pos l] at h2
        have h3 := of_decide_eq_true h2
        exact ⟨c, w, e, d, l, fun q hq => by rw [e2] at hq; exact all hq, by rw [e, List.length_cons]; omega⟩
      · right; right
        by_cases z : (c = 60 ∨ c = 62) ∧ r.head? = some 61
        · right
          exact ⟨c, by rw [tkC_c, if_neg d, if_neg l, if_pos z], d, l, z.1⟩
        · left
          have e2 : tkC (c :: r) = [c] := by rw [tkC_c, if_neg d, if_neg l, if_neg z]
          have h2 := h
          rw [e2, tkO_c, if_neg d, if_neg l, if_pos rfl] at h2
          exact ⟨c, e2, d, l, by simpa using h2⟩
theorem sgns_lt {c : Nat} (h : c ∈ sgns) : 3 ≤ c ∧ c < 127 ∧ ¬ dgB c = true ∧ ¬ ltB c = true := by
  have : ∀ c ∈ sgns, 3 ≤ c ∧ c < 127 ∧ ¬ dgB c = true ∧ ¬ ltB c = true := by decide
  exact this c h
/-- kinds tell words -/
theorem kd_1 {y : List Nat} (h : tkO (tkC y) = true) {c : Nat} (hc : c ∈ sgns) : tkK (tkC y) = c ↔ tkC y = [c] := by
  obtain ⟨c3, c127, cd, cl⟩ := sgns_lt hc
  rcases wd_cases h with e | ⟨d, r, e, hd, hl, _⟩ | ⟨d, r, e, hd, hl, _⟩ | ⟨d, e, hd, hl, _⟩ | ⟨d, e, hd, hl, _⟩
  · rw [e]; exact ⟨fun w => by have : (0 : Nat) = c := w; omega, fun w => by simp at w⟩
  · rw [e, tkK_c, if_pos hd]
    exact ⟨fun w => by omega, fun w => by rw [List.cons.inj w |>.1] at hd; exact absurd hd cd⟩
  · rw [e, tkK_c, if_neg hd, if_pos hl]
    exact ⟨fun w => by omega, fun w => by rw [List.cons.inj w |>.1] at hl; exact absurd hl cl⟩
  · rw [e, tkK_c, if_neg hd, if_neg hl, if_pos rfl]
    exact ⟨fun w => by rw [w], fun w => (List.cons.inj w).1⟩
  · rw [e, tkK_c, if_neg hd, if_neg hl, if_neg (by simp)]
    exact ⟨fun w => by omega, fun w => by simp at w⟩
theorem kd_2 {y : List Nat} (h : tkO (tkC y) = true) {c : Nat} (hc : c = 60 ∨ c = 62) : tkK (tkC y) = c + 256 ↔ tkC y = [c, 61] := by
  rcases wd_cases h with e | ⟨d, r, e, hd, hl, _⟩ | ⟨d, r, e, hd, hl, _⟩ | ⟨d, e, hd, hl, hs⟩ | ⟨d, e, hd, hl, _⟩
  · rw [e]; exact ⟨fun w => by have : (0 : Nat) = c + 256 := w; omega, fun w => by simp at w⟩
  · rw [e, tkK_c, if_pos hd]
    refine ⟨fun w => by omega, fun w => ?_⟩
    rw [List.cons.inj w |>.1] at hd
    rcases hc with rfl | rfl <;> exact absurd hd (by decide)
  · rw [e, tkK_c, if_neg hd, if_pos hl]
    refine ⟨fun w => by omega, fun w => ?_⟩
    rw [List.cons.inj w |>.1] at hl
    rcases hc with rfl | rfl <;> exact absurd hl (by decide)
  · rw [e, tkK_c, if_neg hd, if_neg hl, if_pos rfl]
    have := sgns_lt hs
    exact ⟨fun w => by omega, fun w => by simp at w⟩
  · rw [e, tkK_c, if_neg hd, if_neg hl, if_neg (by simp)]
    exact ⟨fun w => by rw [show d = c by omega], fun w => by rw [(List.cons.inj w).1]⟩
theorem kd_lt {y : List Nat} (h : tkO (tkC y) = true) : tkK (tkC y) < 400 ∧ (tkK (tkC y) = 0 ↔ tkC y = []) ∧ (tkK (tkC y) = 1 ↔ ∃ c r, tkC y = c :: r ∧ dgB c = true) ∧ (tkK (tkC y) = 2 ↔ ∃ c r, tkC y = c :: r ∧ ltB c = true) := by
  rcases wd_cases h with e | ⟨d, r, e, hd, hl, _⟩ | ⟨d, r, e, hd, hl, _⟩ | ⟨d, e, hd, hl, hs⟩ | ⟨d, e, hd, hl, h6⟩
  · rw [e]
    refine ⟨by show 0 < 400; decide, by simp [tkK], ⟨fun w => absurd w (by show ¬ 0 = 1; decide), fun ⟨c, r, w, _⟩ => by simp at w⟩, ⟨fun w => absurd w (by show ¬ 0 = 2; decide), fun ⟨c, r, w, _⟩ => by simp at w⟩⟩
  · rw [e, tkK_c, if_pos hd]
    exact ⟨by decide, by simp, ⟨fun _ => ⟨d, r, rfl, hd⟩, fun _ => rfl⟩, ⟨fun w => absurd w (by decide), fun ⟨c, r', w, z⟩ => by rw [← (List.cons.inj w).1] at z; exact absurd z hl⟩⟩
  · rw [e, tkK_c, if_neg hd, if_pos hl]
    exact ⟨by decide, by simp, ⟨fun w => absurd w (by decide), fun ⟨c, r', w, z⟩ => by rw [← (List.cons.inj w).1] at z; exact absurd z hd⟩, ⟨fun _ => ⟨d, r, rfl, hl⟩, fun _ => rfl⟩⟩
  · have := sgns_lt hs
    rw [e, tkK_c, if_neg hd, if_neg hl, if_pos rfl]
    exact ⟨by omega, ⟨fun w => by omega, fun w => by simp at w⟩, ⟨fun w => by omega, fun ⟨c, r', w, z⟩ => by rw [← (List.cons.inj w).1] at z; exact absurd z hd⟩, ⟨fun w => by omega, fun ⟨c, r', w, z⟩ => by rw [← (List.cons.inj w).1] at z; exact absurd z hl⟩⟩
  · rw [e, tkK_c, if_neg hd, if_neg hl, if_neg (by simp)]
    exact ⟨by omega, ⟨fun w => by omega, fun w => by simp at w⟩, ⟨fun w => by omega, fun ⟨c, r', w, z⟩ => by rw [← (List.cons.inj w).1] at z; exact absurd z hd⟩, ⟨fun w => by omega, fun ⟨c, r', w, z⟩ => by rw [← (List.cons.inj w).1] at z; exact absurd z hl⟩⟩
theorem txV_inj : ∀ {a b : List Nat}, (∀ c ∈ a, c < 1000) → (∀ c ∈ b, c < 1000) → txV a = txV b → a = b := by
  intro a
  induction a with
  | nil => intro b _ _ h; exact (txV_nil h.symm).symm
  | cons c r ih =>
    intro b h1 h2 h
    cases b with
    | nil => exact absurd (txV_nil h) (by simp)
    | cons d q =>
      obtain ⟨e1, e2⟩ := List.cons.inj (show Value.int (Int32.ofNat c) :: txV r = .int (Int32.ofNat d) :: txV q from h)
      have e3 := (i_inj (by have := h1 c List.mem_cons_self; omega) (by have := h2 d List.mem_cons_self; omega)).mp (Value.int.inj e1)
      rw [e3, ih (fun c hc => h1 c (List.mem_cons_of_mem _ hc)) (fun c hc => h2 c (List.mem_cons_of_mem _ hc)) e2]
/-- the constants -/
def KS (s : CS) : Prop := ∀ p ∈ sTab3, s.1 p.1 = some (false, false, 1000, txV p.2)
def wdN (x : List Nat) (k n : Nat) : Prop := n ≤ 120 ∧ (tkW x k ≠ [] → n = k) ∧ (tkW x k = [] → n + 1 = k)
/-- the component's reader at its k-th word -/
def RdC (S : CS) (rd rl : Nat) (x : List Nat) (k : Nat) (dp : Int32) : Prop := wfS S ∧ KS S ∧ TxC x S ∧ 1 ≤ k ∧ tkO (tkW x k) = true ∧ ∃ (b : Nat) (fl : Bool) (n : Nat), S.1 rd = some (rdCell rl (.ref b) (Int32.ofNat (tkS x k).1) (Int32.ofNat (tkS x k).2) (Int32.ofNat n) dp) ∧ S.1 b = some (fl, false, 1000, txV (tkW x k)) ∧ wdN x k n ∧ (tkW x k ≠ [] → rd < b ∧ fl = true)
/-- the reference's -/
def RdT (T : TS) (x : List Nat) (k : Nat) : Prop := TxR x T ∧ T.1 226 = Int32.ofNat (tkS x k).1 ∧ T.1 227 = Int32.ofNat (tkS x k).2 ∧ T.1 228 = Int32.ofNat (tkK (tkW x k)) ∧ T.2.1 229 = tkV (tkW x k) ∧ (∃ n, T.1 230 = Int32.ofNat n ∧ wdN x k n) ∧ T.1 231 = 0
def BadR (S : CS) (e : Nat) (T : TS) : Prop := T.1 231 = 1 ∧ WrO S e (T.1 226)
theorem JX_ne {a n : Nat} {w b : Bool} {fs : List Value} {j : Nat} (h : JX a s S n) (hw : wfS s) (ha : s.1 a = some (w, b, j, fs)) {p : Nat} {c : lCell} (z : c.2.2.1 ≠ j) (e : s.1 p = some c) : S.1 p = some c := by
  rw [h.2.2.1 p (wf_lt hw e) (fun q => ?_)]
  · exact e
  · rw [q, ha] at e
    rw [← Option.some.inj e] at z
    exact z rfl
theorem JX_le {a n m : Nat} (h : JX a s S n) (hn : n ≤ m) : JX a s S m := by
  obtain ⟨a1, a2, a3, a4, a5⟩ := h
  exact ⟨a1, a2, a3, by omega, by omega⟩
/-- one word on, both -/
theorem rd_step0 {p n : Nat} {wd : Value} {a' : Int32} (hw : wfS s) (K : KS s) (X : TxC x s) (Y : TxR x t) (h : s.1 rd = some (rdCell rl wd a' (Int32.ofNat p) (Int32.ofNat n) dp)) (hp : p = (tkS x k).2) (hn : n = k) (hk : k ≤ 120) (h227 : t.1 227 = Int32.ofNat p) (h230 : t.1 230 = Int32.ofNat n) (h231 : t.1 231 = 0) : (∃ S' T', c_931 rd s = some (.inl S') ∧ t_734 t = some T' ∧ RdC S' rd rl x (k + 1) dp ∧ RdT T' x (k + 1) ∧ JX rd s S' 2 ∧ StF t T') ∨ ∃ S' e T', c_931 rd s = some (.inr (e, S')) ∧ t_734 t = some T' ∧ BadR S' e T' ∧ JX rd s S' 4 ∧ StF t T' := by
  have pl : p ≤ x.length := by rw [hp]; exact (tkS_le x k).2
  have s1 : (tkS x (k + 1)).1 = skp x p := by rw [hp]; rfl
  have s2 : (tkS x (k + 1)).2 = skp x p + (tkC (x.drop (skp x p))).length := by rw [hp]; rfl
  have ww : tkW x (k + 1) = tkC (x.drop (skp x p)) := by rw [tkW_s, s1]
  have lr := wf_lt hw h
  obtain ⟨T', eT, F, u226, r⟩ := t_step Y pl h227 h230 (by omega) h231
  have YT : TxR x T' := by
    obtain ⟨y1, y2, y3, y4⟩ := Y
    exact ⟨(F.1 201 (by decide) (by decide) (by decide) (by decide) (by decide)).trans y1, y2, fun j hj => by rw [F.2.2]; exact y3 j hj, y4⟩
  have dis : ∀ {P Q R : Prop}, P → ¬ Q → (P ∧ R) ∨ Q → R := fun p q h => (h.resolve_right q).2
  rcases c_step hw X ⟨_, K (65, sgns) (by decide)⟩ h pl (by omega) with ⟨aE, eC⟩ | ⟨al, ok, n120, eC⟩ | ⟨al, bad, S', e, eC, W, J⟩
  · left
    rcases r with ⟨_, u227, u228, u229, u230, u231⟩ | ⟨al, _⟩
    rotate_left
    · omega
    have w0 : tkW x (k + 1) = [] := by rw [tkW_nil, s1]; exact aE
    have n2 : (tkS x (k + 1)).2 = skp x p := by rw [s2, ← ww, w0]; rfl
    have wn : wdN x (k + 1) n := ⟨by omega, fun z => absurd w0 z, fun _ => by omega⟩
    refine ⟨_, T', eC, eT, ⟨wf_cup hw lr, fun q hq => ?_, ⟨?_, X.2⟩, by omega, by rw [w0]; rfl, 63, false, n, ?_, ?_, wn, fun z => absurd w0 z⟩, ⟨YT, by rw [s1]; exact u226, by rw [n2]; exact u227, by rw [w0]; exact u228, by rw [w0]; exact u229, ⟨n, u230, wn⟩, u231⟩, JX_le (JX_c (JX_0 hw) lr) (by omega), F⟩
    · refine (cup_ne (fun z => ?_)).trans (K q hq)
      have := K q hq
      rw [z, h] at this
      unfold rdCell at this
      simp at this
    · refine (cup_ne (fun z => ?_)).trans X.1
      have := X.1
      rw [z, h] at this
      unfold rdCell at this
      simp at this
    · rw [s1, n2]; exact cup_eq ..
    · rw [w0]
      refine (cup_ne (fun z => ?_)).trans (K (63, []) (by decide))
      have := K (63, []) (by decide)
      dsimp only at this
      rw [z, h] at this
      unfold rdCell at this
      simp at this
  · left
    rcases r with ⟨z, _⟩ | ⟨_, u230, ⟨_, _, u231, u227, u228, u229⟩ | ⟨bad, _⟩⟩
    · omega
    rotate_left
    · exact absurd ⟨ok, n120⟩ bad
    have w0 : tkW x (k + 1) ≠ [] := fun z => by rw [tkW_nil, s1] at z; omega
    have wn : wdN x (k + 1) (n + 1) := ⟨by omega, fun _ => by omega, fun z => absurd z w0⟩
    have jN : JX rd s (nwS s (txV (tkC (x.drop (skp x p))))).2 2 := JX_v (JX_0 hw) (VOk_nw (j := 2) (k := (txV (tkC (x.drop (skp x p)))).length + 4) (n := 2) hw _ (by omega) (by rw [txV_len]; have := tkO_len ok; omega)) (by omega)
    have hN : (nwS s (txV (tkC (x.drop (skp x p))))).2.1 rd = some (rdCell rl wd a' (Int32.ofNat p) (Int32.ofNat n) dp) := (nwc_ne (by omega)).trans h
    have jF := JX_c (c := rdCell rl (.ref s.2.1) (Int32.ofNat (skp x p)) (Int32.ofNat (skp x p + (tkC (x.drop (skp x p))).length)) (Int32.ofNat (n + 1)) dp) jN (wf_lt jN.1 hN)
    refine ⟨_, T', eC, eT, ⟨jF.1, fun q hq => ?_, ⟨?_, X.2⟩, by omega, by rw [ww]; exact ok, s.2.1, true, n + 1, ?_, ?_, wn, fun _ => ⟨lr, rfl⟩⟩, ⟨YT, by rw [s1]; exact u226, by rw [s2]; exact u227, by rw [ww]; exact u228, by rw [ww]; exact u229, ⟨n + 1, u230, wn⟩, u231⟩, jF, F⟩
    · exact JX_ne jF hw h (by show 1000 ≠ 68; decide) (K q hq)
    · exact JX_ne jF hw h (by show 1035 ≠ 68; decide) X.1
    · rw [s1, s2]; exact cup_eq ..
    · rw [ww]
      exact (cup_ne (by omega)).trans (nwc_eq ..)
  · right
    rcases r with ⟨z, _⟩ | ⟨_, u230, ⟨ok, n120, _⟩ | ⟨_, u231⟩⟩
    · omega
    · exact absurd ⟨ok, n120⟩ bad
    · exact ⟨S', e, T', eC, eT, ⟨u231, by rw [u226]; exact W⟩, J, F⟩
end
