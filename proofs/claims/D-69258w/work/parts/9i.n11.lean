/-! the plan in the reference: cells get their numbers -/
def smP (f : Nat → Nat) : Nat → Nat
  | 0 => 0
  | n + 1 => smP f n + f n
theorem smP_le {f g : Nat → Nat} {n : Nat} (h : ∀ k, k < n → f k ≤ g k) : smP f n ≤ smP g n := by
  induction n with
  | zero => exact Nat.le_refl _
  | succ n ih =>
    have := ih (fun k hk => h k (by omega))
    have := h n (by omega)
    show smP f n + f n ≤ smP g n + g n
    omega
theorem smP_lt {f g : Nat → Nat} {n j : Nat} (h : ∀ k, k < n → f k ≤ g k) (hj : j < n) (hl : f j < g j) : smP f n < smP g n := by
  induction n with
  | zero => omega
  | succ n ih =>
    have h1 := h n (by omega)
    show smP f n + f n < smP g n + g n
    by_cases e : j = n
    · subst e
      have := smP_le (fun k (hk : k < j) => h k (by omega))
      omega
    · have := ih (fun k hk => h k (by omega)) (by omega)
      omega
def sm60 (T : TS) : Nat := smP (fun k => bN (T.2.2.1 60 k)) 1764
section
variable {L : PLn} {nl : Nat} {t : TS}
def IV (L : PLn) (nl : Nat) (t T : TS) : Prop := agr [] [60] t T ∧ ∀ k, grC L nl k → ∃ k', T.2.2.1 60 k = Int32.ofNat k' ∧ grC L nl k' ∧ cnG L nl k k'
theorem grC_lt (hg : gdL L nl) {k : Nat} (h : grC L nl k) : k < 1764 := by
  have n1 := edX_len hg (Nat.le_refl nl)
  have n2 := edY_len hg (Nat.le_refl nl)
  unfold grC at h
  omega
theorem t_joi (hg : gdL L nl) {T : TS} (h : IV L nl t T) {a b : Nat} (ha : grC L nl a) (hb : grC L nl b) (hc : cnG L nl a b) : ∃ T' v, t_690 (Int32.ofNat a) (Int32.ofNat b) T = some (v, T') ∧ IV L nl t T' ∧ ((v = 0 ∧ T' = T ∧ T.2.2.1 60 a = T.2.2.1 60 b) ∨ (v = 1 ∧ sm60 T' < sm60 T)) := by
  obtain ⟨a', e1, g1, c1⟩ := h.2 a ha
  obtain ⟨b', e2, g2, c2⟩ := h.2 b hb
  have la := grC_lt hg ha
  have lb := grC_lt hg hb
  have la' := grC_lt hg g1
  have lb' := grC_lt hg g2
  unfold t_690
  rw [rdI_n la (by omega), e1]; repeat (first | rw [Option.bind_some] | rw [Sum.elim_inl] | rw [Sum.elim_inr])
  rw [rdI_n lb (by omega), e2]; repeat (first | rw [Option.bind_some] | rw [Sum.elim_inl] | rw [Sum.elim_inr])
  by_cases e : a' = b'
  · subst e
    rw [if_neg (fun z => by have := (i_lt (by omega) (by omega)).mp z; omega)]; repeat (first | rw [Option.bind_some] | rw [Sum.elim_inl] | rw [Sum.elim_inr])
    rw [if_pos rfl]; repeat (first | rw [Option.bind_some] | rw [Sum.elim_inl] | rw [Sum.elim_inr])
    rw [stI_n la (by omega)]; repeat (first | rw [Option.bind_some] | rw [Sum.elim_inl] | rw [Sum.elim_inr])
    have w1 : wrI T 60 a (Int32.ofNat a') = T := by rw [← e1]; exact wr_id
    rw [w1, stI_n lb (by omega)]; repeat (first | rw [Option.bind_some] | rw [Sum.elim_inl] | rw [Sum.elim_inr])
    have w2 : wrI T 60 b (Int32.ofNat a') = T := by rw [← e2]; exact wr_id
    rw [w2, if_pos (Or.inl rfl)]
    exact ⟨T, 0, rfl, h, Or.inl ⟨rfl, rfl, rfl⟩⟩
  · have hn : ¬ Int32.ofNat a' = Int32.ofNat b' := fun z => e ((i_inj (by omega) (by omega)).mp z)
    have key : ∀ m : Nat, m ≤ a' → m ≤ b' → (m = a' ∨ m = b') → IV L nl t (wrI (wrI T 60 a (Int32.ofNat m)) 60 b (Int32.ofNat m)) ∧ sm60 (wrI (wrI T 60 a (Int32.ofNat m)) 60 b (Int32.ofNat m)) < sm60 T := by
      intro m h1 h2 h3
      have at' : ∀ k, (wrI (wrI T 60 a (Int32.ofNat m)) 60 b (Int32.ofNat m)).2.2.1 60 k = if k = b then Int32.ofNat m else if k = a then Int32.ofNat m else T.2.2.1 60 k := by
        intro k
        rw [wr_at, wr_at]
        simp only [true_and]
      refine ⟨⟨agr_w (agr_w h.1 (by simp)) (by simp), fun k hk => ?_⟩, ?_⟩
      · rw [at']
        by_cases kb : k = b
        · rw [if_pos kb, kb]
          rcases h3 with rfl | rfl
          · exact ⟨_, rfl, g1, cnG_trans (cnG_symm hc) c1⟩
          · exact ⟨_, rfl, g2, c2⟩
        · rw [if_neg kb]
          by_cases ka : k = a
          · rw [if_pos ka, ka]
            rcases h3 with rfl | rfl
            · exact ⟨_, rfl, g1, c1⟩
            · exact ⟨_, rfl, g2, cnG_trans hc c2⟩
          · rw [if_neg ka]; exact h.2 k hk
      · have le : ∀ k, k < 1764 → bN ((wrI (wrI T 60 a (Int32.ofNat m)) 60 b (Int32.ofNat m)).2.2.1 60 k) ≤ bN (T.2.2.1 60 k) := by
          intro k _
          rw [at']
          by_cases kb : k = b
          · rw [if_pos kb, kb, e2, bN_of (by omega), bN_of (by omega)]; exact h2
          · rw [if_neg kb]
            by_cases ka : k = a
            · rw [if_pos ka, ka, e1, bN_of (by omega), bN_of (by omega)]; exact h1
            · rw [if_neg ka]; exact Nat.le_refl _
        by_cases w : m < a'
        · refine smP_lt le la ?_
          show bN _ < bN _
          rw [at', e1, bN_of (by omega)]
          by_cases kb : a = b
          · rw [if_pos kb, bN_of (by omega)]; exact w
          · rw [if_neg kb, if_pos rfl, bN_of (by omega)]; exact w
        · refine smP_lt le lb ?_
          show bN _ < bN _
          rw [at', e2, if_pos rfl, bN_of (by omega), bN_of (by omega)]
          omega
    by_cases w : a' < b'
    · rw [if_pos ((i_lt (by omega) (by omega)).mpr w)]; repeat (first | rw [Option.bind_some] | rw [Sum.elim_inl] | rw [Sum.elim_inr])
      rw [if_neg hn]; repeat (first | rw [Option.bind_some] | rw [Sum.elim_inl] | rw [Sum.elim_inr])
      rw [stI_n la (by omega)]; repeat (first | rw [Option.bind_some] | rw [Sum.elim_inl] | rw [Sum.elim_inr])
      rw [stI_n lb (by omega)]; repeat (first | rw [Option.bind_some] | rw [Sum.elim_inl] | rw [Sum.elim_inr])
      rw [if_pos (Or.inr rfl)]
      obtain ⟨k1, k2⟩ := key a' (Nat.le_refl _) (Nat.le_of_lt w) (Or.inl rfl)
      exact ⟨_, 1, rfl, k1, Or.inr ⟨rfl, k2⟩⟩
    · rw [if_neg (fun z => w ((i_lt (by omega) (by omega)).mp z))]; repeat (first | rw [Option.bind_some] | rw [Sum.elim_inl] | rw [Sum.elim_inr])
      rw [if_neg hn]; repeat (first | rw [Option.bind_some] | rw [Sum.elim_inl] | rw [Sum.elim_inr])
      rw [stI_n la (by omega)]; repeat (first | rw [Option.bind_some] | rw [Sum.elim_inl] | rw [Sum.elim_inr])
      rw [stI_n lb (by omega)]; repeat (first | rw [Option.bind_some] | rw [Sum.elim_inl] | rw [Sum.elim_inr])
      rw [if_pos (Or.inr rfl)]
      obtain ⟨k1, k2⟩ := key b' (by omega) (Nat.le_refl _) (Or.inr rfl)
      exact ⟨_, 1, rfl, k1, Or.inr ⟨rfl, k2⟩⟩
theorem IV_ln (h : lnR t L nl) {T : TS} (i : IV L nl t T) : lnR T L nl := lnR_cg h i.1 (by simp) (by simp)
theorem IV_ed (h : edR t L nl) {T : TS} (i : IV L nl t T) : edR T L nl := edR_cg h i.1 (by simp) (by simp)
/-- alike where nothing is between: to the right, above -/
def eqP (L : PLn) (nl : Nat) (T : TS) (c r : Nat) : Prop := (c < (edX L nl).length → ¬ gwV (gS L nl) (2 * nP L nl) ((edX L nl).getD c 0 : Nat) (rep (edY L nl) r) → T.2.2.1 60 (42 * r + c) = T.2.2.1 60 (42 * r + c + 1)) ∧ (r < (edY L nl).length → ¬ gwH (gS L nl) (2 * nP L nl) (rep (edX L nl) c) ((edY L nl).getD r 0 : Nat) → T.2.2.1 60 (42 * r + c) = T.2.2.1 60 (42 * r + c + 42))
theorem t_edR (h : lnR t L nl) (he : edR t L nl) (hg : gdL L nl) {T : TS} (i : IV L nl t T) {c r : Nat} (hc : c ≤ (edX L nl).length) (hr : r ≤ (edY L nl).length) : ∃ T' v, (if Int32.ofNat c < (T.1 112) then Option.bind (t_689 (Int32.ofNat c) (Int32.ofNat r) 1 T) (fun x2 => (if x2 = 0 then Option.bind (t_690 ((42 * Int32.ofNat r) + Int32.ofNat c) (((42 * Int32.ofNat r) + Int32.ofNat c) + 1) T) (fun x3 => (if x3.1 = 0 then some (x3.2, (0 : Int32)) else some (x3.2, 1))) else some (T, 0))) else some (T, 0)) = some (T', v) ∧ IV L nl t T' ∧ ((v = 0 ∧ T' = T ∧ (c < (edX L nl).length → ¬ gwV (gS L nl) (2 * nP L nl) ((edX L nl).getD c 0 : Nat) (rep (edY L nl) r) → T.2.2.1 60 (42 * r + c) = T.2.2.1 60 (42 * r + c + 1))) ∨ (v = 1 ∧ sm60 T' < sm60 T)) := by
  have n1 := edX_len hg (Nat.le_refl nl)
  have n2 := edY_len hg (Nat.le_refl nl)
  rw [(IV_ed he i).1]
  by_cases z : c < (edX L nl).length
  · rw [if_pos ((i_lt (by omega) (by omega)).mpr z), t_shR (IV_ln h i) (IV_ed he i) hg z hr]; repeat (first | rw [Option.bind_some] | rw [Sum.elim_inl] | rw [Sum.elim_inr])
    by_cases w : gwV (gS L nl) (2 * nP L nl) ((edX L nl).getD c 0 : Nat) (rep (edY L nl) r)
    · rw [if_pos w, if_neg (by decide)]
      exact ⟨T, 0, rfl, i, Or.inl ⟨rfl, rfl, fun _ q => absurd w q⟩⟩
    · rw [if_neg w, if_pos rfl, i_mulL, i_add, i_suc]
      obtain ⟨T', v, e, g1, g2⟩ := t_joi hg i (a := 42 * r + c) (b := 42 * r + c + 1) ⟨by omega, by omega⟩ ⟨by omega, by omega⟩ (cnG_R z (by omega) w)
      rw [e]; repeat (first | rw [Option.bind_some] | rw [Sum.elim_inl] | rw [Sum.elim_inr])
      dsimp only
      rcases g2 with ⟨rfl, g3, g4⟩ | ⟨rfl, g3⟩
      · rw [if_pos rfl]
        exact ⟨_, _, rfl, g1, Or.inl ⟨rfl, g3, fun _ _ => g4⟩⟩
      · rw [if_neg (by decide)]
        exact ⟨_, _, rfl, g1, Or.inr ⟨rfl, g3⟩⟩
  · rw [if_neg (fun q => z ((i_lt (by omega) (by omega)).mp q))]
    exact ⟨T, 0, rfl, i, Or.inl ⟨rfl, rfl, fun q => absurd q z⟩⟩
theorem t_edU (h : lnR t L nl) (he : edR t L nl) (hg : gdL L nl) {T : TS} (i : IV L nl t T) {c r : Nat} (hc : c ≤ (edX L nl).length) (hr : r ≤ (edY L nl).length) : ∃ T' v, (if Int32.ofNat r < (T.1 113) then Option.bind (t_689 (Int32.ofNat c) (Int32.ofNat r) 0 T) (fun x4 => (if x4 = 0 then Option.bind (t_690 ((42 * Int32.ofNat r) + Int32.ofNat c) (((42 * Int32.ofNat r) + Int32.ofNat c) + 42) T) (fun x5 => (if x5.1 = 0 then some (x5.2, (0 : Int32)) else some (x5.2, 1))) else some (T, 0))) else some (T, 0)) = some (T', v) ∧ IV L nl t T' ∧ ((v = 0 ∧ T' = T ∧ (r < (edY L nl).length → ¬ gwH (gS L nl) (2 * nP L nl) (rep (edX L nl) c) ((edY L nl).getD r 0 : Nat) → T.2.2.1 60 (42 * r + c) = T.2.2.1 60 (42 * r + c + 42))) ∨ (v = 1 ∧ sm60 T' < sm60 T)) := by
  have n1 := edX_len hg (Nat.le_refl nl)
  have n2 := edY_len hg (Nat.le_refl nl)
  rw [(IV_ed he i).2.1]
  by_cases z : r < (edY L nl).length
  · rw [if_pos ((i_lt (by omega) (by omega)).mpr z), t_shU (IV_ln h i) (IV_ed he i) hg hc z]; repeat (first | rw [Option.bind_some] | rw [Sum.elim_inl] | rw [Sum.elim_inr])
    by_cases w : gwH (gS L nl) (2 * nP L nl) (rep (edX L nl) c) ((edY L nl).getD r 0 : Nat)
    · rw [if_pos w, if_neg (by decide)]
      exact ⟨T, 0, rfl, i, Or.inl ⟨rfl, rfl, fun _ q => absurd w q⟩⟩
    · rw [if_neg w, if_pos rfl, i_mulL, i_add, i_addL]
      obtain ⟨T', v, e, g1, g2⟩ := t_joi hg i (a := 42 * r + c) (b := 42 * r + c + 42) ⟨by omega, by omega⟩ ⟨by omega, by omega⟩ (cnG_U (by omega) z w)
      rw [e]; repeat (first | rw [Option.bind_some] | rw [Sum.elim_inl] | rw [Sum.elim_inr])
      dsimp only
      rcases g2 with ⟨rfl, g3, g4⟩ | ⟨rfl, g3⟩
      · rw [if_pos rfl]
        exact ⟨_, _, rfl, g1, Or.inl ⟨rfl, g3, fun _ _ => g4⟩⟩
      · rw [if_neg (by decide)]
        exact ⟨_, _, rfl, g1, Or.inr ⟨rfl, g3⟩⟩
  · rw [if_neg (fun q => z ((i_lt (by omega) (by omega)).mp q))]
    exact ⟨T, 0, rfl, i, Or.inl ⟨rfl, rfl, fun q => absurd q z⟩⟩
end
