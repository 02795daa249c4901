/-! permits: what is open has a kind; a clause, plain -/
section
variable {t T : TS} {nf : Nat}
theorem frP_k {o : Bool} {r : Int32 × Int64 × Int64} (h : r.1 = 0 ∨ r.1 = 2 ∨ r.1 = 3) : (frP o r).1 = 0 ∨ (frP o r).1 = 2 ∨ (frP o r).1 = 3 := by
  cases o with
  | false => exact h
  | true => exact Or.inr (Or.inl rfl)
theorem frR_k (u l : Int64) : (frR u l).1 = 0 ∨ (frR u l).1 = 2 ∨ (frR u l).1 = 3 := by
  unfold frR
  by_cases z : frO u l = true
  · rw [if_pos z]; exact Or.inr (Or.inl rfl)
  · rw [if_neg z]; exact Or.inl rfl
theorem frop_k (k : Int32) (a b c d : Int64) : (frop k a b c d).1 = 0 ∨ (frop k a b c d).1 = 2 ∨ (frop k a b c d).1 = 3 := by
  unfold frop
  by_cases k5 : k = 5
  · rw [if_pos k5]
    by_cases c0 : c = 0
    · rw [if_pos c0]; exact Or.inr (Or.inr rfl)
    · rw [if_neg c0]; exact frP_k (frP_k (frR_k ..))
  · rw [if_neg k5]
    by_cases k4 : k = 4
    · rw [if_pos k4]; exact frP_k (frP_k (frR_k ..))
    · rw [if_neg k4]
      by_cases k3 : k = 3
      · rw [if_pos k3]; exact frP_k (frP_k (frP_k (frP_k (frR_k ..))))
      · rw [if_neg k3]; exact frP_k (frP_k (frP_k (frP_k (frR_k ..))))
theorem pshR_k {r : Int32 × Int64 × Int64} {st : StP} {e : Int32 × Int64} (h : r.1 = 0 ∨ r.1 = 2 ∨ r.1 = 3) (w : pshR r st = .inl e) : e.1 = 1 ∨ e.1 = 2 ∨ e.1 = 3 := by
  unfold pshR at w
  by_cases z : r.1 = 0
  · rw [if_pos z] at w; cases w
  · rw [if_neg z] at w
    rw [← Sum.inl.inj w]
    exact Or.inr (h.resolve_left z)
theorem stp1_k {k : Int32} {v : Int64} {st : StP} {e : Int32 × Int64} (w : stp1 t nf k v st = .inl e) : e.1 = 1 ∨ e.1 = 2 ∨ e.1 = 3 := by
  unfold stp1 at w
  by_cases k0 : k = 0
  · rw [if_pos k0] at w; exact pshR_k (frR_k ..) w
  · rw [if_neg k0] at w
    by_cases k1 : k = 1
    · rw [if_pos k1] at w
      cases f : fcI t v nf with
      | none => rw [f] at w; rw [← Sum.inl.inj w]; exact Or.inl rfl
      | some j => rw [f] at w; exact pshR_k (frR_k ..) (show pshR _ _ = _ from w)
    · rw [if_neg k1] at w
      match st, w with
      | (c, d) :: (a, b) :: r, w => exact pshR_k (frop_k ..) (show pshR _ _ = _ from w)
      | [_], w => cases w
      | [], w => cases w
theorem evS_s (e : Int32 × Int64) (l : List (Int32 × Int64)) (st : StP) : evS t nf (e :: l) st = Sum.elim .inl (evS t nf l) (stp1 t nf e.1 e.2 st) := rfl
theorem evS_k {l : List (Int32 × Int64)} {st : StP} {e : Int32 × Int64} (w : evS t nf l st = .inl e) : e.1 = 1 ∨ e.1 = 2 ∨ e.1 = 3 := by
  induction l generalizing st with
  | nil => cases w
  | cons a l ih =>
    rw [evS_s] at w
    cases f : stp1 t nf a.1 a.2 st with
    | inl x => rw [f] at w; rw [← Sum.inl.inj w]; exact stp1_k f
    | inr x => rw [f] at w; exact ih w
theorem k_pos {k : Int32} (h : k = 1 ∨ k = 2 ∨ k = 3) : 0 < k := by
  rcases h with rfl | rfl | rfl <;> decide
/-- what a row makes asks the facts alone -/
theorem stp1_fg (e1 : T.2.2.2 77 = t.2.2.2 77) (e2 : T.2.2.1 78 = t.2.2.1 78) (k : Int32) (v : Int64) (st : StP) : stp1 T nf k v st = stp1 t nf k v st := by
  unfold stp1
  rw [fcI_cg e1, e2]
theorem evS_0 (st : StP) : evS t nf [] st = .inr st := rfl
theorem evS_fg (e1 : T.2.2.2 77 = t.2.2.2 77) (e2 : T.2.2.1 78 = t.2.2.1 78) (l : List (Int32 × Int64)) (st : StP) : evS T nf l st = evS t nf l st := by
  induction l generalizing st with
  | nil => rw [evS_0, evS_0]
  | cons a l ih =>
    rw [evS_s, evS_s, stp1_fg e1 e2]
    cases stp1 t nf a.1 a.2 st with
    | inl x => rw [Sum.elim_inl, Sum.elim_inl]
    | inr x => rw [Sum.elim_inr, Sum.elim_inr]; exact ih x
abbrev StR := Sum (Int32 × Int64) StP
def hdS (st : StP) : Int64 × Int64 := st.headD (0, 1)
/-- what a clause answers: what is open, or whether it holds -/
def clRes (g : Nat) (r1 r2 : StR) : Sum (Int32 × Int64) Bool := Sum.elim .inl (fun s1 => Sum.elim .inl (fun s2 => if (ovM (hdS s1).1 (hdS s2).2 || ovM (hdS s2).1 (hdS s1).2) = true then .inl (2, 0) else .inr (sgH g ((hdS s1).1 * (hdS s2).2) ((hdS s2).1 * (hdS s1).2))) r2) r1
/-- what the reference keeps of its sides -/
def kpR (v2 : Int32) (x : Int64) (f : Nat → Int64) : Nat → Int64 := fun j => if (j : Int) = v2.toInt then x else f j
def KpR (v2 : Int32) (t T : TS) (r1 r2 : StR) : Prop :=
  T.2.2.2 90 = Sum.elim (fun _ => t.2.2.2 90) (fun s1 => kpR v2 (hdS s1).1 (t.2.2.2 90)) r1 ∧
  T.2.2.2 91 = Sum.elim (fun _ => t.2.2.2 91) (fun s1 => kpR v2 (hdS s1).2 (t.2.2.2 91)) r1 ∧
  T.2.2.2 92 = Sum.elim (fun _ => t.2.2.2 92) (fun _ => Sum.elim (fun _ => t.2.2.2 92) (fun s2 => kpR v2 (hdS s2).1 (t.2.2.2 92)) r2) r1 ∧
  T.2.2.2 93 = Sum.elim (fun _ => t.2.2.2 93) (fun _ => Sum.elim (fun _ => t.2.2.2 93) (fun s2 => kpR v2 (hdS s2).2 (t.2.2.2 93)) r2) r1
/-- what else stays -/
def HlF (t T : TS) : Prop := (∀ c, c ≠ 239 → c ≠ 240 → T.1 c = t.1 c) ∧ (∀ c, c ≠ 241 → c ≠ 242 → c ≠ 243 → T.2.1 c = t.2.1 c) ∧ T.2.2.1 = t.2.2.1 ∧ ∀ c, c ≠ 97 → c ≠ 98 → c ≠ 90 → c ≠ 91 → c ≠ 92 → c ≠ 93 → T.2.2.2 c = t.2.2.2 c
theorem HlF_rk {S : TS} (f : HlF t S) (g : RkF S T) : HlF t T := ⟨fun c a b => (g.1 c a b).trans (f.1 c a b), fun c a b d => (g.2.1 c a).trans (f.2.1 c a b d), g.2.2.1.trans f.2.2.1, fun c a b c1 c2 c3 c4 => (g.2.2.2 c a b).trans (f.2.2.2 c a b c1 c2 c3 c4)⟩
/-- a side's row, in the reference -/
def SdR (t : TS) (i : Nat) (l : List (Int32 × Int64)) : Prop := (∀ m (hm : m < l.length), t.2.2.1 87 (i + m) = l[m].1 ∧ t.2.2.2 88 (i + m) = l[m].2) ∧ i + l.length ≤ 800 ∧ okS l 0 ∧ l.length ≤ 250
theorem SdR_hl {i : Nat} {l : List (Int32 × Int64)} (h : SdR t i l) (f : HlF t T) : SdR T i l := by
  obtain ⟨h1, h2⟩ := h
  obtain ⟨_, _, f3, f4⟩ := f
  exact ⟨fun m hm => by rw [f3, f4 88 (by decide) (by decide) (by decide) (by decide) (by decide) (by decide)]; exact h1 m hm, h2⟩
theorem kpR_neg {v2 : Int32} (h : v2 < 0) (x : Int64) (f : Nat → Int64) : kpR v2 x f = f := by
  funext j
  refine if_neg (fun w => ?_)
  have := Int32.lt_iff_toInt_lt.mp h
  rw [← w] at this
  have z : (0 : Int32).toInt = 0 := rfl
  rw [z] at this; omega
theorem kpR_nat {r : Nat} (hr : r < 12) (x : Int64) (c : Nat) (S : TS) : (wrL S c r x).2.2.2 c = kpR (Int32.ofNat r) x (S.2.2.2 c) := by
  funext j
  show (if c = c ∧ j = r then x else S.2.2.2 c j) = if (j : Int) = (Int32.ofNat r).toInt then x else S.2.2.2 c j
  rw [i_toInt (by omega)]
  by_cases z : j = r
  · rw [if_pos ⟨rfl, z⟩, if_pos (by rw [z])]
  · rw [if_neg (fun w => z w.2), if_neg (fun w => z (by omega))]
end
