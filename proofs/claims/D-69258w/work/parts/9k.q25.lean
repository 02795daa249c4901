/-! permits: a rule is asked, the component -/
section
variable {t : TS} {nf : Nat} {hq : lHeap}
def sid (k : Nat) : Nat := if k = 3 then 83 else if k = 4 then 82 else 84 + k
/-- what a rule is: its state, what is open, the name that lacks -/
def askR (on day : Int32) (r : Sum (Int32 × Int64) Nat) : Nat × Int32 × Int64 := if on < day then (4, 0, 0) else Sum.elim (fun e => (3, e.1, e.2)) (fun k => (k, 0, 0)) r
/-- a rule as it was asked -/
def RuA (hq : lHeap) (b0 : Nat) (S : CS) (sr : Value) (lf rf : Value) (wy : Int32) (ms : Value) (q : Nat × Int32 × Int64) (kl kr : Int64 × Int64) : Prop := sr = .ref (sid q.1) ∧ q.1 ≤ 4 ∧ FrK b0 S lf kl ∧ FrK b0 S rf kr ∧ wy = q.2.1 ∧ ∃ (b : Nat) (w : Bool) (xs : List Nat), ms = .ref b ∧ S.1 b = some (w, false, 1000, txV xs) ∧ xs.length < 1000 ∧ nmL xs = q.2.2 ∧ (b = 81 ∨ b = 91 ∨ hq b ≠ none)
theorem JX_tr {a : Nat} {s S V : CS} {n m k : Nat} (h1 : JX a s S n) (h2 : JX a S V m) (hk : n + m ≤ k) : JX a s V k := by
  obtain ⟨a1, a2, a3, a4, a5⟩ := h1
  obtain ⟨b1, b2, b3, b4, b5⟩ := h2
  exact ⟨b1, by omega, fun p hp hq => (b3 p (by omega) hq).trans (a3 p hp hq), by omega, by omega⟩
theorem c_ask {s : CS} {a nm cc ex : Nat} {day on : Int32} {st lf0 rf0 wy0 ms0 : Value} {mc : Int32} {m c0 : Nat} {CE : Nat → Nat} {D : Nat → ClD} (E : EnvA t nf s) (h81 : ∃ w, s.1 81 = some (w, false, 1000, txV [])) (ha : s.1 a = some (true, false, 70, [.ref nm, .ref cc, .ref ex, .int day, st, lf0, rf0, wy0, ms0])) (hx : s.1 ex = some (true, false, 1013, .int mc :: rowC (fun j => .ref (CE j)) m)) (hm : m < 1000) (hs : Sub hq s) (h0 : ClP hq cc (D c0).1 (D c0).2.1 (D c0).2.2) (hj : ∀ j, j < m → ClP hq (CE j) (D (c0 + 1 + j)).1 (D (c0 + 1 + j)).2.1 (D (c0 + 1 + j)).2.2) : ∃ S sr lf rf wy ms, c_947 a on 107 s = some S ∧ JX a s S (cstD D c0 (m + 1) + 1) ∧ S.1 a = some (true, false, 70, [.ref nm, .ref cc, .ref ex, .int day, sr, lf, rf, .int wy, ms]) ∧ RuA hq s.2.1 S sr lf rf wy ms (askR on day (ruA (fun c => clA t nf (D c)) c0 m)) (if on < day then (0, 0) else kpL (evS t nf (D c0).1 [])) (if on < day then (0, 0) else kpQ (evS t nf (D c0).1 []) (evS t nf (D c0).2.1 [])) := by
  obtain ⟨w81, h81⟩ := h81
  unfold c_947
  rw [xP_c ha rfl (by show 5 < 9; decide) (show List.set _ 5 _ = [.ref nm, .ref cc, .ref ex, .int day, st, .null, rf0, wy0, ms0] from rfl), Option.bind_some, xP_c (cup_eq ..) rfl (by show 6 < 9; decide) (show List.set _ 6 _ = [.ref nm, .ref cc, .ref ex, .int day, st, .null, .null, wy0, ms0] from rfl), Option.bind_some, cupU, xP_c (cup_eq ..) rfl (by show 7 < 9; decide) (show List.set _ 7 _ = [.ref nm, .ref cc, .ref ex, .int day, st, .null, .null, .int 0, ms0] from rfl), Option.bind_some, cupU, xP_c (cup_eq ..) rfl (by show 8 < 9; decide) (show List.set _ 8 _ = [.ref nm, .ref cc, .ref ex, .int day, st, .null, .null, .int 0, .ref 81] from rfl), Option.bind_some, cupU]
  obtain ⟨S2, hS2⟩ : ∃ S2, S2 = cup s a (true, false, 70, [.ref nm, .ref cc, .ref ex, .int day, st, .null, .null, .int 0, .ref 81]) := ⟨_, rfl⟩
  have g2 : S2.1 a = some (true, false, 70, [.ref nm, .ref cc, .ref ex, .int day, st, .null, .null, .int 0, .ref 81]) := by rw [hS2]; exact cup_eq ..
  have s2 : Sub hq S2 := by rw [hS2]; exact Sub_c hs ha
  have E2 : EnvA t nf S2 := by rw [hS2]; exact EnvA_c E ha
  have la := wf_lt E.1 ha
  have J2 : JX a s S2 0 := by rw [hS2]; exact JX_c (JX_0 E.1) la
  have la2 : a < S2.2.1 := wf_lt E2.1 g2
  have h81' : S2.1 81 = some (w81, false, 1000, txV []) := JX_up J2 E.1 ha (by show 1000 ≠ 70; decide) h81
  rw [← hS2]
  rw [xI_o g2 rfl rfl, Option.bind_some]
  by_cases od : on < day
  · rw [if_pos od, Option.bind_some, Sum.elim_inl, xP_c g2 rfl (by show 4 < 9; decide) rfl, Option.bind_some, if_pos od, if_pos od]
    unfold askR
    rw [if_pos od]
    have up : (cup S2 a (true, false, 70, [.ref nm, .ref cc, .ref ex, .int day, .ref 82, .null, .null, .int 0, .ref 81])).1 81 = some (w81, false, 1000, txV []) := cup70 g2 (by show 1000 ≠ 70; decide) h81'
    exact ⟨_, .ref 82, .null, .null, 0, .ref 81, rfl, JX_c (JX_tr J2 (JX_0 E2.1) (by omega)) la2, cup_eq .., rfl, (by show 4 ≤ 4; decide), Or.inl ⟨rfl, rfl⟩, Or.inl ⟨rfl, rfl⟩, rfl, 81, w81, [], rfl, up, by decide, rfl, Or.inl rfl⟩
  rw [if_neg od, if_pos (isK_t g2 rfl), if_neg od, if_neg od]
  obtain ⟨X, S3, lf, rf, e3, J3, g3, FL, FR, o3⟩ := c_jud (t := t) (nf := nf) (c0 := c0) (D := D) (CE := CE) E2 g2 (by rw [hS2]; exact cup70 ha (by show 1013 ≠ 70; decide) hx) hm s2 h0 hj
  rw [e3, Option.bind_some]
  have b21 : S2.2.1 = s.2.1 := by rw [hS2]; rfl
  have FL' : FrK s.2.1 S3 lf (kpL (evS t nf (D c0).1 [])) := by rw [← b21]; exact FL
  have FR' : FrK s.2.1 S3 rf (kpQ (evS t nf (D c0).1 []) (evS t nf (D c0).2.1 [])) := by rw [← b21]; exact FR
  have J23 := JX_tr J2 J3 (k := cstD D c0 (m + 1) + 1) (by omega)
  have la3 := wf_lt J3.1 g3
  have h83 : S3.1 81 = some (w81, false, 1000, txV []) := JX_up J23 E.1 ha (by show 1000 ≠ 70; decide) h81
  unfold askR
  rw [if_neg od]
  rcases o3 with ⟨k, q1, kl, rfl⟩ | ⟨e, o, n', q1, o0, rfl, x1⟩
  · rw [Sum.elim_inl, Option.bind_some, Sum.elim_inl, q1, Sum.elim_inr, xP_c g3 rfl (by show 4 < 9; decide) rfl, Option.bind_some]
    have up : ∀ (v : lCell) p c, c.2.2.1 ≠ 70 → S3.1 p = some c → (cup S3 a v).1 p = some c := fun v p c z h => cup70 g3 z h
    have sk : sid k = 84 + k := by unfold sid; rw [if_neg (by omega), if_neg (by omega)]
    exact ⟨_, .ref (84 + k), lf, rf, 0, .ref 81, rfl, JX_c J23 la3, cup_eq .., by rw [sk], by show k ≤ 4; omega, FrK_up (up _) FL', FrK_up (up _) FR', rfl, 81, w81, [], rfl, up _ _ _ (by show 1000 ≠ 70; decide) h83, by decide, rfl, Or.inl rfl⟩
  · rw [Sum.elim_inr, q1, Sum.elim_inl]
    dsimp only
    rcases x1 with ⟨rfl, rfl, fs, x1⟩ | ⟨o2, b, w, xs, x1, x2, x3, x4, x5⟩
    · rw [if_pos (isK_t x1 rfl), xP_c g3 rfl (by show 4 < 9; decide) rfl, Option.bind_some, xP_c (cup_eq ..) rfl (by show 7 < 9; decide) rfl, Option.bind_some, Option.bind_some, Sum.elim_inr, cupU]
      have up : ∀ (v : lCell) p c, c.2.2.1 ≠ 70 → S3.1 p = some c → (cup S3 a v).1 p = some c := fun v p c z h => cup70 g3 z h
      exact ⟨_, .ref 83, lf, rf, 2, .ref 81, rfl, JX_c J23 la3, cup_eq .., rfl, by decide, FrK_up (up _) FL', FrK_up (up _) FR', rfl, 81, w81, [], rfl, up _ _ _ (by show 1000 ≠ 70; decide) h83, by decide, rfl, Or.inl rfl⟩
    · rw [if_neg (isK_f x1 rfl), if_pos (isK_t x1 rfl), xP_c g3 rfl (by show 4 < 9; decide) rfl, Option.bind_some]
      have up : ∀ (v : lCell) p c, c.2.2.1 ≠ 70 → S3.1 p = some c → (cup S3 a v).1 p = some c := fun v p c z h => cup70 g3 z h
      rw [xI_o (up _ _ _ (by show 75 ≠ 70; decide) x1) rfl rfl, Option.bind_some, xP_c (cup_eq ..) rfl (by show 7 < 9; decide) rfl, Option.bind_some, cupU, xR_o (up _ _ _ (by show 75 ≠ 70; decide) x1) rfl rfl, Option.bind_some, xP_c (cup_eq ..) rfl (by show 8 < 9; decide) rfl, Option.bind_some, cupU, Option.bind_some, Sum.elim_inr]
      exact ⟨_, .ref 83, lf, rf, o, .ref b, rfl, JX_c J23 la3, cup_eq .., rfl, (by show 3 ≤ 4; decide), FrK_up (up _) FL', FrK_up (up _) FR', rfl, b, w, xs, rfl, up _ _ _ (by show 1000 ≠ 70; decide) x2, x3, x4, Or.inr x5⟩
end
