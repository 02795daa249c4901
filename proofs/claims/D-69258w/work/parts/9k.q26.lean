/-! permits: a rule is asked, the reference -/
section
variable {t T : TS} {nf : Nat}
/-- a clause, in the reference -/
def RcR (t : TS) (nf c : Nat) (d : ClD) : Prop := ∃ i, t.2.2.1 83 c = Int32.ofNat i ∧ t.2.2.1 84 c = Int32.ofNat (i + d.1.length) ∧ t.2.2.1 85 c = Int32.ofNat (i + d.1.length + d.2.1.length) ∧ t.2.2.1 86 c = Int32.ofNat d.2.2 ∧ d.2.2 < 5 ∧ SdR t i d.1 ∧ SdR t (i + d.1.length) d.2.1 ∧ EvT t nf d.1 ∧ EvT t nf d.2.1
theorem HlF_fg (f : HlF t T) : T.2.2.2 77 = t.2.2.2 77 ∧ T.2.2.1 78 = t.2.2.1 78 := ⟨f.2.2.2 77 (by decide) (by decide) (by decide) (by decide) (by decide) (by decide), by rw [f.2.2.1]⟩
theorem EvT_hl {l : List (Int32 × Int64)} (f : HlF t T) (h : EvT t nf l) : EvT T nf l := by
  obtain ⟨e1, e2⟩ := HlF_fg f
  unfold EvT
  simp only [evS_fg e1 e2]
  exact h
theorem clA_hl (f : HlF t T) (d : ClD) : clA T nf d = clA t nf d := by
  obtain ⟨e1, e2⟩ := HlF_fg f
  unfold clA
  rw [evS_fg e1 e2, evS_fg e1 e2]
theorem RcR_hl {c : Nat} {d : ClD} (f : HlF t T) (h : RcR t nf c d) : RcR T nf c d := by
  obtain ⟨i, h1, h2, h3, h4, h5, h6, h7, h8, h9⟩ := h
  exact ⟨i, by rw [f.2.2.1]; exact h1, by rw [f.2.2.1]; exact h2, by rw [f.2.2.1]; exact h3, by rw [f.2.2.1]; exact h4, h5, SdR_hl h6 f, SdR_hl h7 f, EvT_hl f h8, EvT_hl f h9⟩
theorem HlF_tr {S : TS} (f : HlF t S) (g : HlF S T) : HlF t T := ⟨fun c a b => (g.1 c a b).trans (f.1 c a b), fun c a b d => (g.2.1 c a b d).trans (f.2.1 c a b d), g.2.2.1.trans f.2.2.1, fun c a b c1 c2 c3 c4 => (g.2.2.2 c a b c1 c2 c3 c4).trans (f.2.2.2 c a b c1 c2 c3 c4)⟩
theorem t_holR {c : Nat} {d : ClD} {v2 : Int32} (hc : c < 120) (h : RcR t nf c d) (h0 : t.1 240 = 0) (h2 : t.1 202 = Int32.ofNat nf) (h40 : nf ≤ 40) (hv : v2 < 0 ∨ ∃ r, r < 12 ∧ v2 = Int32.ofNat r) : ∃ T b, t_754 (Int32.ofNat c) v2 t = some (b, T) ∧ HlF t T ∧ KpR v2 t T (evS t nf d.1 []) (evS t nf d.2.1 []) ∧ ((∃ o nm, clA t nf d = .inl (o, nm) ∧ 0 < o ∧ T.1 240 = o ∧ T.2.1 241 = nm ∧ b = 0) ∨ ∃ q, clA t nf d = .inr q ∧ T.1 240 = 0 ∧ T.2.1 241 = t.2.1 241 ∧ b = if q = true then 1 else 0) := by
  obtain ⟨i, h1, h2', h3, h4, h5, h6, h7, h8, h9⟩ := h
  exact t_clH hc h1 h2' h3 h4 h5 h6 h7 h8 h9 h0 h2 h40 hv
/-- the kept rows are as they were -/
def Kp0 (t T : TS) : Prop := T.2.2.2 90 = t.2.2.2 90 ∧ T.2.2.2 91 = t.2.2.2 91 ∧ T.2.2.2 92 = t.2.2.2 92 ∧ T.2.2.2 93 = t.2.2.2 93
theorem KpR_0 {r1 r2 : StR} (h : KpR (-1) t T r1 r2) : Kp0 t T := by
  obtain ⟨h1, h2, h3, h4⟩ := h
  have k : ∀ x f, kpR (-1) x f = f := fun x f => kpR_neg (by decide) x f
  simp only [k] at h1 h2 h3 h4
  refine ⟨h1.trans ?_, h2.trans ?_, h3.trans ?_, h4.trans ?_⟩
  · cases r1 <;> rfl
  · cases r1 <;> rfl
  · cases r1 <;> cases r2 <;> rfl
  · cases r1 <;> cases r2 <;> rfl
theorem t_exl {x4 : Nat} {r m : Nat} {D : Nat → ClD} (hr : r < 24) (hm : x4 + m < 120) (e81 : t.2.2.1 81 r = Int32.ofNat m) (hD : ∀ j, j < m → RcR t nf (x4 + 1 + j) (D (x4 + 1 + j))) (h0 : t.1 240 = 0) (h1 : t.2.1 241 = 0) (h2 : t.1 202 = Int32.ofNat nf) (h40 : nf ≤ 40) : ∃ x, wh (S := TS × Int32 × Int32) (X := TS × Int32) (fun p48 => Option.bind (rdI p48.1 81 24 (Int32.ofNat r)) (fun x7 => (if x7 < p48.2.2 then some (.inr (p48.1, p48.2.1)) else (if p48.2.1 = 0 then some (.inr (p48.1, p48.2.1)) else Option.bind (t_754 (Int32.ofNat x4 + p48.2.2) (-1) p48.1) (fun x8 => some (.inl (x8.2, x8.1, p48.2.2 + 1))))))) (t, (if m = 0 then 0 else 1), 1) = some x ∧ HlF t x.1 ∧ Kp0 t x.1 ∧ ((exQ (fun c => clA t nf (D c)) (x4 + 1) m = .inr true ∧ x.1.1 240 = 0 ∧ x.1.2.1 241 = 0 ∧ x.2 = if m = 0 then 0 else 1) ∨ (exQ (fun c => clA t nf (D c)) (x4 + 1) m = .inr false ∧ x.1.1 240 = 0 ∧ x.1.2.1 241 = 0 ∧ x.2 = 0) ∨ ∃ o nm, exQ (fun c => clA t nf (D c)) (x4 + 1) m = .inl (o, nm) ∧ 0 < o ∧ x.1.1 240 = o ∧ x.1.2.1 241 = nm) := by
  have f0 : HlF t t := ⟨fun _ _ _ => rfl, fun _ _ _ _ => rfl, rfl, fun _ _ _ _ _ _ _ => rfl⟩
  refine wh_cnt m (fun k (a : TS × Int32 × Int32) => a.2.2 = Int32.ofNat (k + 1) ∧ HlF t a.1 ∧ Kp0 t a.1 ∧ ((a.1.1 240 = 0 ∧ a.1.2.1 241 = 0 ∧ a.2.1 = (if m = 0 then 0 else 1) ∧ exQ (fun c => clA t nf (D c)) (x4 + 1) m = exQ (fun c => clA t nf (D c)) (x4 + 1 + k) (m - k)) ∨ (a.2.1 = 0 ∧ ((exQ (fun c => clA t nf (D c)) (x4 + 1) m = .inr false ∧ a.1.1 240 = 0 ∧ a.1.2.1 241 = 0) ∨ ∃ o nm, exQ (fun c => clA t nf (D c)) (x4 + 1) m = .inl (o, nm) ∧ 0 < o ∧ a.1.1 240 = o ∧ a.1.2.1 241 = nm)))) ?_ ?_ ⟨rfl, f0, ⟨rfl, rfl, rfl, rfl⟩, Or.inl ⟨h0, h1, rfl, rfl⟩⟩
  · rintro k ⟨S, b, _⟩ hk ⟨rfl, f, kp, h⟩
    dsimp only at f kp h ⊢
    rw [rdI_n hr (by decide), show S.2.2.1 81 r = Int32.ofNat m by rw [f.2.2.1]; exact e81, Option.bind_some, if_neg (fun w => by have := (i_lt (by omega) (by omega)).mp w; omega)]
    rcases h with ⟨g0, g1, rfl, g2⟩ | ⟨rfl, h⟩
    · right
      rw [if_neg (by rw [if_neg (by omega)]; decide), i_add]
      obtain ⟨T, bb, e, F, KP, o⟩ := t_holR (t := S) (c := x4 + (k + 1)) (nf := nf) (d := D (x4 + (k + 1))) (v2 := -1) (by omega) (RcR_hl f (by have := hD k hk; rw [show x4 + 1 + k = x4 + (k + 1) by omega] at this; exact this)) g0 ((f.1 202 (by decide) (by decide)).trans h2) h40 (Or.inl (by decide))
      rw [e, Option.bind_some]
      dsimp only
      rw [i_suc]
      have kp' := KpR_0 KP
      refine ⟨_, rfl, rfl, HlF_tr f F, ⟨kp'.1.trans kp.1, kp'.2.1.trans kp.2.1, kp'.2.2.1.trans kp.2.2.1, kp'.2.2.2.trans kp.2.2.2⟩, ?_⟩
      rw [show m - k = (m - (k + 1)) + 1 by omega] at g2
      have g2' : exQ (fun c => clA t nf (D c)) (x4 + 1) m = Sum.elim .inl (fun q => if q = true then exQ (fun c => clA t nf (D c)) (x4 + 1 + k + 1) (m - (k + 1)) else .inr false) (clA t nf (D (x4 + 1 + k))) := g2
      rw [clA_hl f, show x4 + (k + 1) = x4 + 1 + k by omega] at o
      rcases o with ⟨o, nm, q1, q2, q3, q4, q5⟩ | ⟨q, q1, q2, q3, q4⟩
      · rw [q1, Sum.elim_inl] at g2'
        exact Or.inr ⟨q5, Or.inr ⟨o, nm, g2', q2, q3, q4⟩⟩
      · rw [q1, Sum.elim_inr] at g2'
        cases q with
        | true => exact Or.inl ⟨q2, q3.trans g1, by show bb = _; rw [q4, if_neg (show ¬ m = 0 by omega)]; rfl, g2'⟩
        | false => exact Or.inr ⟨q4, Or.inl ⟨g2', q2, q3.trans g1⟩⟩
    · left
      rw [if_pos rfl]
      exact ⟨_, rfl, f, kp, h.elim (fun w => Or.inr (Or.inl ⟨w.1, w.2.1, w.2.2, rfl⟩)) (fun w => Or.inr (Or.inr w))⟩
  · rintro ⟨S, b, _⟩ ⟨rfl, f, kp, h⟩
    dsimp only at f kp h ⊢
    rw [rdI_n hr (by decide), show S.2.2.1 81 r = Int32.ofNat m by rw [f.2.2.1]; exact e81, Option.bind_some, if_pos ((i_lt (by omega) (by omega)).mpr (by omega))]
    refine ⟨_, rfl, f, kp, ?_⟩
    rcases h with ⟨g0, g1, g3, g2⟩ | ⟨g3, h⟩
    · rw [Nat.sub_self] at g2
      exact Or.inl ⟨g2, g0, g1, g3⟩
    · exact h.elim (fun w => Or.inr (Or.inl ⟨w.1, w.2.1, w.2.2, g3⟩)) (fun w => Or.inr (Or.inr w))
/-- what is kept after a rule was asked -/
def KpA (r : Nat) (on day : Int32) (t T : TS) (r1 r2 : StR) : Prop :=
  T.2.2.2 90 = (fun j => if j = r then (if on < day then t.2.2.2 90 r else Sum.elim (fun _ => t.2.2.2 90 r) (fun s1 => (hdS s1).1) r1) else t.2.2.2 90 j) ∧
  T.2.2.2 91 = (fun j => if j = r then (if on < day then t.2.2.2 91 r else Sum.elim (fun _ => t.2.2.2 91 r) (fun s1 => (hdS s1).2) r1) else t.2.2.2 91 j) ∧
  T.2.2.2 92 = (fun j => if j = r then (if on < day then t.2.2.2 92 r else Sum.elim (fun _ => t.2.2.2 92 r) (fun _ => Sum.elim (fun _ => t.2.2.2 92 r) (fun s2 => (hdS s2).1) r2) r1) else t.2.2.2 92 j) ∧
  T.2.2.2 93 = (fun j => if j = r then (if on < day then t.2.2.2 93 r else Sum.elim (fun _ => t.2.2.2 93 r) (fun _ => Sum.elim (fun _ => t.2.2.2 93 r) (fun s2 => (hdS s2).2) r2) r1) else t.2.2.2 93 j)
end
