/-! permits: a rule is asked, the reference: whole -/
section
variable {t T : TS} {nf : Nat}
theorem kpR_r {r : Nat} (hr : r < 12) (x : Int64) (f : Nat → Int64) : kpR (Int32.ofNat r) x f = fun j => if j = r then x else f j := by
  funext j
  unfold kpR
  rw [i_toInt (by omega)]
  by_cases z : j = r
  · rw [if_pos (by rw [z]), if_pos z]
  · rw [if_neg (fun w => z (by omega)), if_neg z]
theorem upd_same {r : Nat} (f : Nat → Int64) : f = fun j => if j = r then f r else f j := by
  funext j
  by_cases z : j = r
  · rw [if_pos z, z]
  · rw [if_neg z]
theorem KpA_of {r : Nat} {on day : Int32} {S S' : TS} {r1 r2 : StR} (hr : r < 12) (od : ¬ on < day) (e : S.2.2.2 = t.2.2.2) (h : KpR (Int32.ofNat r) S S' r1 r2) (k : Kp0 S' T) : KpA r on day t T r1 r2 := by
  obtain ⟨h1, h2, h3, h4⟩ := h
  obtain ⟨k1, k2, k3, k4⟩ := k
  unfold KpA
  simp only [if_neg od]
  rw [e] at h1 h2 h3 h4
  refine ⟨k1.trans (h1.trans ?_), k2.trans (h2.trans ?_), k3.trans (h3.trans ?_), k4.trans (h4.trans ?_)⟩
  · cases r1 with
    | inl _ => exact upd_same _
    | inr s => exact kpR_r hr _ _
  · cases r1 with
    | inl _ => exact upd_same _
    | inr s => exact kpR_r hr _ _
  · cases r1 with
    | inl _ => exact upd_same _
    | inr s =>
      cases r2 with
      | inl _ => exact upd_same _
      | inr s2 => exact kpR_r hr _ _
  · cases r1 with
    | inl _ => exact upd_same _
    | inr s =>
      cases r2 with
      | inl _ => exact upd_same _
      | inr s2 => exact kpR_r hr _ _
theorem t_askR {r c0 m : Nat} {on day : Int32} {D : Nat → ClD} (hr : r < 12) (e82 : t.2.2.1 82 r = day) (e80 : t.2.2.1 80 r = Int32.ofNat c0) (e81 : t.2.2.1 81 r = Int32.ofNat m) (hm : c0 + m < 60) (h0 : RcR t nf c0 (D c0)) (hj : ∀ j, j < m → RcR t nf (c0 + 1 + j) (D (c0 + 1 + j))) (h2 : t.1 202 = Int32.ofNat nf) (h40 : nf ≤ 40) : ∃ T, t_753 (Int32.ofNat r) on 1 t = some (Int32.ofNat (askR on day (ruA (fun c => clA t nf (D c)) c0 m)).1, T) ∧ HlF t T ∧ T.1 240 = (askR on day (ruA (fun c => clA t nf (D c)) c0 m)).2.1 ∧ T.2.1 241 = (askR on day (ruA (fun c => clA t nf (D c)) c0 m)).2.2 ∧ KpA r on day t T (evS t nf (D c0).1 []) (evS t nf (D c0).2.1 []) := by
  unfold t_753
  rw [Option.bind_some, Option.bind_some, rdI_n (by omega) (by decide), show (ptL (ptI t 240 0) 241 0).2.2.1 82 r = day from e82, Option.bind_some]
  obtain ⟨S, hS⟩ : ∃ S, S = ptL (ptI t 240 0) 241 0 := ⟨_, rfl⟩
  have fS : HlF t S := by
    rw [hS]
    exact ⟨fun c _ u => if_neg u, fun c u _ _ => if_neg u, rfl, fun _ _ _ _ _ _ _ => rfl⟩
  have S240 : S.1 240 = 0 := by rw [hS]; rfl
  have S241 : S.2.1 241 = 0 := by rw [hS]; rfl
  have S4 : S.2.2.2 = t.2.2.2 := by rw [hS]; rfl
  rw [← hS]
  clear hS
  by_cases od : on < day
  · rw [if_pos od]
    unfold askR
    rw [if_pos od]
    refine ⟨S, rfl, fS, S240, S241, ?_⟩
    unfold KpA
    simp only [if_pos od, S4]
    exact ⟨upd_same _, upd_same _, upd_same _, upd_same _⟩
  rw [if_neg od, rdI_n (by omega) (by decide), show S.2.2.1 80 r = Int32.ofNat c0 by rw [fS.2.2.1]; exact e80, Option.bind_some, if_neg (by decide), Option.bind_some]
  obtain ⟨T1, b, f1, F1, K1, o1⟩ := t_holR (t := S) (nf := nf) (c := c0) (d := D c0) (v2 := Int32.ofNat r) (by omega) (RcR_hl fS h0) S240 ((fS.1 202 (by decide) (by decide)).trans h2) h40 (Or.inr ⟨r, hr, rfl⟩)
  rw [f1, Option.bind_some]
  have fg := HlF_fg fS
  rw [evS_fg fg.1 fg.2, evS_fg fg.1 fg.2] at K1
  rw [clA_hl fS] at o1
  unfold askR
  rw [if_neg od]
  have ru : ∀ {z : OpE}, clA t nf (D c0) = z → ruA (fun c => clA t nf (D c)) c0 m = Sum.elim .inl (fun q => if q = true then .inr 0 else Sum.elim .inl (fun z => if m = 0 then .inr 1 else if z = true then .inr 2 else .inr 1) (exQ (fun c => clA t nf (D c)) (c0 + 1) m)) z := fun h => by rw [← h]; rfl
  have G1 := HlF_tr fS F1
  dsimp only
  rcases o1 with ⟨o, nm, q1, q2, q3, q4, q5⟩ | ⟨q, q1, q2, q3, q4⟩
  · rw [if_pos (by rw [q3]; exact q2), ru q1, Sum.elim_inl, Sum.elim_inl]
    exact ⟨T1, rfl, G1, q3, q4, KpA_of hr od S4 K1 ⟨rfl, rfl, rfl, rfl⟩⟩
  rw [if_neg (by rw [q2]; decide), ru q1, Sum.elim_inr]
  cases q with
  | true =>
    rw [if_neg (by rw [q4, if_pos rfl]; decide), if_pos rfl, Sum.elim_inr]
    exact ⟨T1, rfl, G1, q2, q3.trans S241, KpA_of hr od S4 K1 ⟨rfl, rfl, rfl, rfl⟩⟩
  | false =>
    rw [if_pos (by rw [q4]; exact if_neg (by decide)), if_neg (show ¬ false = true by decide), rdI_n (by omega) (by decide), show T1.2.2.1 81 r = Int32.ofNat m by rw [G1.2.2.1]; exact e81, Option.bind_some]
    have m0 : (if 0 < Int32.ofNat m then some (1 : Int32) else some 0) = some (if m = 0 then 0 else 1) := by
      by_cases z : m = 0
      · rw [z]; rfl
      · rw [if_pos (show (0 : Int32) < Int32.ofNat m from (i_lt (j := 0) (k := m) (by decide) (by omega)).mpr (by omega)), if_neg z]
    rw [m0, Option.bind_some]
    obtain ⟨x, e, F2, K2, o2⟩ := t_exl (t := T1) (nf := nf) (x4 := c0) (r := r) (m := m) (D := D) (by omega) (by omega) (by rw [G1.2.2.1]; exact e81) (fun j h => RcR_hl G1 (hj j h)) q2 (q3.trans S241) ((G1.1 202 (by decide) (by decide)).trans h2) h40
    rw [e, Option.bind_some]
    have ce : (fun c => clA T1 nf (D c)) = fun c => clA t nf (D c) := by funext c; exact clA_hl G1 _
    rw [ce] at o2
    have G2 := HlF_tr G1 F2
    have KK := KpA_of (on := on) (day := day) hr od S4 K1 K2
    rcases o2 with ⟨w1, w2, w3, w4⟩ | ⟨w1, w2, w3, w4⟩ | ⟨o, nm, w1, w2, w3, w4⟩
    · rw [if_neg (by rw [w2]; decide), w1, Sum.elim_inr]
      by_cases z : m = 0
      · rw [if_pos (by rw [w4, if_pos z]), if_pos z, Sum.elim_inr]
        exact ⟨_, rfl, G2, w2, w3, KK⟩
      · rw [if_neg (by rw [w4, if_neg z]; decide), if_neg z, if_pos rfl, Sum.elim_inr]
        exact ⟨_, rfl, G2, w2, w3, KK⟩
    · rw [if_neg (by rw [w2]; decide), w1, Sum.elim_inr, if_pos w4, if_neg (show ¬ false = true by decide)]
      have : (if m = 0 then (.inr 1 : Sum (Int32 × Int64) Nat) else .inr 1) = .inr 1 := by by_cases z : m = 0 <;> simp [z]
      rw [this, Sum.elim_inr]
      exact ⟨_, rfl, G2, w2, w3, KK⟩
    · rw [if_pos (by rw [w3]; exact w2), w1, Sum.elim_inl, Sum.elim_inl]
      exact ⟨_, rfl, G2, w3, w4, KK⟩
end
