/-! loops of pure programs -/
section WH
variable {S X : Type} {step : S → Option (S ⊕ X)} {st st' : S} {x y : X}
def whn (step : S → Option (S ⊕ X)) : Nat → S → Option X
  | 0, _ => none
  | n + 1, st => match step st with
    | none => none
    | some (.inl st') => whn step n st'
    | some (.inr x) => some x
theorem whn_mono : ∀ {n m : Nat} {st : S}, whn step n st = some x → n ≤ m → whn step m st = some x := by
  intro n
  induction n with
  | zero => intro m st h; cases h
  | succ n ih =>
    intro m st h hm
    obtain ⟨m', rfl⟩ : ∃ m', m = m' + 1 := ⟨m - 1, by omega⟩
    unfold whn at h ⊢
    cases e : step st with
    | none => rw [e] at h; cases h
    | some r =>
      rw [e] at h
      cases r with
      | inl s => exact ih h (by omega)
      | inr z => exact h
noncomputable def wh (step : S → Option (S ⊕ X)) (st : S) : Option X := @dite _ (∃ x n, whn step n st = some x) (Classical.propDecidable _) (fun h => some h.choose) (fun _ => none)
theorem wh_of {n : Nat} (h : whn step n st = some x) : wh step st = some x := by
  have e : ∃ x n, whn step n st = some x := ⟨x, n, h⟩
  unfold wh
  rw [dif_pos e]
  obtain ⟨m, hm⟩ := e.choose_spec
  have h1 := whn_mono h (Nat.le_max_left n m)
  have h2 := whn_mono hm (Nat.le_max_right n m)
  rw [h1] at h2
  exact h2.symm
theorem wh_to (h : wh step st = some x) : ∃ n, whn step n st = some x := by
  unfold wh at h
  split at h
  · rename_i e
    cases h
    exact e.choose_spec
  · cases h
theorem wh_inr (h : step st = some (.inr x)) : wh step st = some x := wh_of (n := 1) (by unfold whn; rw [h])
theorem wh_inl (h : step st = some (.inl st')) : wh step st = wh step st' := by
  cases e : wh step st' with
  | some z =>
    obtain ⟨n, hn⟩ := wh_to e
    exact wh_of (n := n + 1) (by unfold whn; rw [h]; exact hn)
  | none =>
    cases e2 : wh step st with
    | none => rfl
    | some z =>
      obtain ⟨n, hn⟩ := wh_to e2
      cases n with
      | zero => cases hn
      | succ n =>
        unfold whn at hn
        rw [h] at hn
        rw [wh_of hn] at e
        cases e
theorem wh_run {P : S → Prop} (h : wh step st = some y) (k : ∀ st r, step st = some r → (∀ st', r = .inl st' → P st') → (∀ y', r = .inr y' → y' = y) → P st) : P st := by
  obtain ⟨n, hn⟩ := wh_to h
  clear h
  induction n generalizing st with
  | zero => cases hn
  | succ n ih =>
    unfold whn at hn
    cases e : step st with
    | none => rw [e] at hn; cases hn
    | some r =>
      rw [e] at hn
      cases r with
      | inl s => exact k st _ e (fun s' es => by cases es; exact ih hn) (fun y' es => by cases es)
      | inr z => exact k st _ e (fun s' es => by cases es) (fun y' es => by cases es; cases hn; rfl)
/-- total: an invariant and a measure -/
theorem wh_ind {P : S → Prop} {Q : X → Prop} (m : S → Nat) (h : ∀ s, P s → (∃ x, step s = some (.inr x) ∧ Q x) ∨ ∃ s', step s = some (.inl s') ∧ P s' ∧ m s' < m s) (hs : P st) : ∃ x, wh step st = some x ∧ Q x := by
  generalize hn : m st = n
  induction n using Nat.strongRecOn generalizing st with
  | ind n ih =>
    rcases h st hs with ⟨x, e, q⟩ | ⟨s', e, p, hm⟩
    · exact ⟨x, wh_inr e, q⟩
    · obtain ⟨x, e2, q⟩ := ih (m s') (by omega) p rfl
      exact ⟨x, (wh_inl e).trans e2, q⟩
end WH
theorem iteC {α : Type} {c : Prop} {d : Decidable c} {a b x : α} (h : (@ite α c d a b) = x) : (c ∧ a = x) ∨ (¬ c ∧ b = x) := by
  by_cases hc : c
  · rw [if_pos hc] at h; exact Or.inl ⟨hc, h⟩
  · rw [if_neg hc] at h; exact Or.inr ⟨hc, h⟩
theorem bindC {α β : Type} {o : Option α} {f : α → Option β} {y : β} (h : Option.bind o f = some y) : ∃ x, o = some x ∧ f x = some y := by
  cases o with
  | none => cases h
  | some x => exact ⟨x, rfl, h⟩
theorem elimC {α β γ : Type} {f : α → Option γ} {g : β → Option γ} {v : α} {y : γ} (h : Sum.elim f g (.inl v) = some y) : f v = some y := h
theorem elimD {α β : Type} {f : α → Option β} {z y : β} (h : Sum.elim f (fun z => some z) (.inr z) = some y) : z = y := Option.some.inj h
/-! the state of the reference: numbers, long numbers, rows of numbers, rows of long numbers -/
abbrev TS : Type := (Nat → Int32) × (Nat → Int64) × (Nat → Nat → Int32) × (Nat → Nat → Int64)
def rdI (s : TS) (c len : Nat) (i : Int32) : Option Int32 := if ¬ i < 0 ∧ i.toNatClampNeg < len then some (s.2.2.1 c i.toNatClampNeg) else none
def rdL (s : TS) (c len : Nat) (i : Int32) : Option Int64 := if ¬ i < 0 ∧ i.toNatClampNeg < len then some (s.2.2.2 c i.toNatClampNeg) else none
def wrI (s : TS) (c k : Nat) (v : Int32) : TS := (s.1, s.2.1, fun q j => if q = c ∧ j = k then v else s.2.2.1 q j, s.2.2.2)
def wrL (s : TS) (c k : Nat) (v : Int64) : TS := (s.1, s.2.1, s.2.2.1, fun q j => if q = c ∧ j = k then v else s.2.2.2 q j)
def stI (s : TS) (c len : Nat) (i v : Int32) : Option TS := if ¬ i < 0 ∧ i.toNatClampNeg < len then some (wrI s c i.toNatClampNeg v) else none
def stL (s : TS) (c len : Nat) (i : Int32) (v : Int64) : Option TS := if ¬ i < 0 ∧ i.toNatClampNeg < len then some (wrL s c i.toNatClampNeg v) else none
def ptI (s : TS) (c : Nat) (v : Int32) : TS := (fun q => if q = c then v else s.1 q, s.2)
def ptL (s : TS) (c : Nat) (v : Int64) : TS := (s.1, fun q => if q = c then v else s.2.1 q, s.2.2)
def tTab : List ((Nat × List (Nat × Nat)) ⊕ (Nat × Nat)) := [
  .inl (51, [(0, 0), (0, 1), (0, 2), (2, 1), (2, 2), (2, 3), (2, 4), (2, 5), (2, 6), (0, 9), (0, 10), (2, 7), (2, 8), (2, 9), (2, 10), (2, 11), (2, 12), (2, 13), (2, 14), (2, 15), (2, 16), (2, 17), (2, 18), (2, 19), (0, 24), (2, 20), (2, 21), (0, 27), (2, 22), (2, 23), (2, 24), (2, 25), (2, 26), (2, 27), (2, 28), (2, 29), (0, 36), (2, 30), (2, 31), (0, 39), (2, 32), (2, 33), (2, 34), (2, 35), (2, 36), (0, 45), (2, 37), (2, 38), (2, 39), (0, 49), (2, 40), (2, 41), (2, 42), (2, 43), (2, 44), (2, 45), (2, 46), (2, 47), (2, 48), (2, 49)]),
  .inl (52, [(0, 100), (2, 50), (2, 51), (2, 52), (2, 53), (2, 54), (2, 55), (2, 56), (2, 57), (0, 109), (0, 110), (0, 111), (0, 112), (0, 113), (2, 58), (2, 59), (2, 60), (0, 117), (0, 118), (0, 119), (0, 120), (2, 61), (2, 62), (2, 63), (0, 124), (2, 64), (2, 65), (0, 127), (2, 66), (2, 67), (0, 130), (2, 68), (2, 69), (2, 70), (2, 71), (0, 135), (2, 72), (2, 73), (2, 74), (2, 75)]),
  .inl (53, [(2, 76), (0, 201), (0, 202), (2, 77), (2, 78), (0, 205), (2, 79), (2, 80), (2, 81), (2, 82), (0, 210), (2, 83), (2, 84), (2, 85), (2, 86), (0, 215), (2, 87), (2, 88), (0, 218), (2, 89), (2, 90), (2, 91), (2, 92), (2, 93), (2, 94), (2, 95), (0, 226), (0, 227), (0, 228), (1, 229), (0, 230), (0, 231), (0, 232), (0, 233), (0, 234), (2, 96), (0, 236), (2, 97), (2, 98), (0, 239), (0, 240), (1, 241), (1, 242), (1, 243)]),
  .inl (54, [(0, 300), (0, 301), (2, 99), (2, 100), (2, 101), (2, 102), (0, 306), (0, 307), (2, 103), (2, 104), (0, 310), (0, 311), (2, 105), (2, 106), (2, 107), (2, 108), (2, 109), (2, 110), (2, 111), (2, 112), (2, 113), (0, 321), (0, 322), (2, 114), (2, 115), (2, 116), (2, 117), (2, 118), (2, 119), (2, 120), (0, 330), (2, 121), (2, 122), (2, 123), (2, 124), (0, 335)]),
  .inl (55, [(0, 400), (2, 125), (2, 126), (2, 127), (2, 128), (2, 129), (2, 130), (2, 131), (2, 132), (2, 133), (2, 134), (2, 135), (2, 136), (2, 137), (0, 414), (2, 138), (2, 139), (2, 140), (0, 418)]),
  .inl (57, [(0, 500), (2, 141), (2, 142), (0, 503), (2, 143), (2, 144), (2, 145), (2, 146), (2, 147), (2, 148), (2, 149), (2, 150), (2, 151), (2, 152), (2, 153), (2, 154), (0, 516), (0, 517), (2, 155), (0, 519), (0, 520), (0, 521), (2, 156), (0, 523), (0, 524), (0, 525), (0, 526), (2, 157), (0, 528)]),
  .inl (58, [(0, 600), (2, 158), (2, 159), (2, 160), (2, 161), (2, 162), (0, 606), (2, 163), (2, 164), (2, 165), (2, 166), (2, 167), (0, 612), (0, 613), (0, 614), (2, 168), (0, 616), (2, 169), (2, 170), (2, 171), (2, 172), (2, 173), (2, 174), (2, 175)]),
  .inr (0, 1400),
  .inr (0, 1400),
  .inr (0, 1400),
  .inr (0, 1400),
  .inr (0, 1400),
  .inr (3, 1400),
  .inr (3, 1400),
  .inr (0, 1400),
  .inr (0, 1400),
  .inr (0, 1400),
  .inr (0, 28000),
  .inr (0, 28000),
  .inr (0, 28000),
  .inr (0, 4100),
  .inr (0, 4100),
  .inr (0, 40),
  .inr (0, 40),
  .inr (0, 40),
  .inr (0, 40),
  .inr (0, 40),
  .inr (0, 40),
  .inr (0, 40),
  .inr (0, 40),
  .inr (0, 60),
  .inr (0, 60),
  .inr (0, 16),
  .inr (0, 16),
  .inr (0, 16),
  .inr (0, 16),
  .inr (0, 16),
  .inr (0, 4100),
  .inr (0, 4100),
  .inr (0, 4100),
  .inr (0, 100),
  .inr (0, 100),
  .inr (0, 100),
  .inr (0, 100),
  .inr (3, 576),
  .inr (3, 576),
  .inr (0, 576),
  .inr (0, 576),
  .inr (0, 120),
  .inr (3, 40),
  .inr (0, 20),
  .inr (0, 20),
  .inr (3, 20),
  .inr (0, 20),
  .inr (0, 20),
  .inr (0, 120),
  .inr (0, 120),
  .inr (0, 120),
  .inr (0, 40),
  .inr (0, 40),
  .inr (0, 1764),
  .inr (0, 40),
  .inr (0, 40),
  .inr (0, 1764),
  .inr (0, 400),
  .inr (0, 400),
  .inr (0, 460),
  .inr (0, 460),
  .inr (0, 460),
  .inr (0, 460),
  .inr (0, 460),
  .inr (3, 920),
  .inr (0, 460),
  .inr (0, 460),
  .inr (0, 1764),
  .inr (0, 401),
  .inr (0, 800),
  .inr (1, 40),
  .inr (0, 40),
  .inr (1, 24),
  .inr (0, 24),
  .inr (0, 24),
  .inr (0, 24),
  .inr (0, 120),
  .inr (0, 120),
  .inr (0, 120),
  .inr (0, 120),
  .inr (0, 800),
  .inr (1, 800),
  .inr (0, 12),
  .inr (1, 12),
  .inr (1, 12),
  .inr (1, 12),
  .inr (1, 12),
  .inr (0, 12),
  .inr (1, 12),
  .inr (0, 200),
  .inr (1, 130),
  .inr (1, 130),
  .inr (0, 50),
  .inr (3, 50),
  .inr (0, 50),
  .inr (0, 2000),
  .inr (0, 2000),
  .inr (0, 2000),
  .inr (3, 40),
  .inr (0, 40),
  .inr (0, 40),
  .inr (0, 480),
  .inr (3, 40),
  .inr (0, 40),
  .inr (0, 40),
  .inr (0, 40),
  .inr (3, 40),
  .inr (0, 100),
  .inr (0, 100),
  .inr (0, 100),
  .inr (0, 20),
  .inr (0, 20),
  .inr (3, 20),
  .inr (3, 20),
  .inr (0, 60),
  .inr (0, 60),
  .inr (0, 60),
  .inr (0, 200),
  .inr (0, 40),
  .inr (0, 40),
  .inr (0, 40),
  .inr (0, 40),
  .inr (0, 120),
  .inr (0, 320),
  .inr (0, 40),
  .inr (0, 40),
  .inr (0, 40),
  .inr (3, 40),
  .inr (0, 40),
  .inr (0, 10),
  .inr (0, 40),
  .inr (0, 40),
  .inr (3, 40),
  .inr (0, 4),
  .inr (3, 180001),
  .inr (3, 182001),
  .inr (0, 8),
  .inr (3, 2048),
  .inr (3, 8),
  .inr (0, 8),
  .inr (0, 1152),
  .inr (0, 8),
  .inr (0, 8),
  .inr (0, 8),
  .inr (0, 8),
  .inr (0, 8),
  .inr (0, 8),
  .inr (0, 8),
  .inr (0, 14000),
  .inr (0, 14000),
  .inr (0, 5),
  .inr (0, 4),
  .inr (0, 4),
  .inr (0, 4),
  .inr (0, 4),
  .inr (0, 4),
  .inr (0, 400),
  .inr (0, 400),
  .inr (0, 400),
  .inr (3, 400),
  .inr (0, 400),
  .inr (0, 6),
  .inr (0, 6),
  .inr (1, 256),
  .inr (0, 1536),
  .inr (0, 400),
  .inr (0, 400),
  .inr (0, 400),
  .inr (0, 400)]
/-! the reference's cells in a memory -/
def adr (ad : List Nat) (c : Nat) : Nat := ad.getD c 0
def fx : List Nat → Nat → Option Nat
  | [], _ => none
  | a :: r, q => if q = a then some 0 else (fx r q).map (· + 1)
theorem fx_some : ∀ {ad : List Nat} {q c : Nat}, fx ad q = some c → ad[c]? = some q := by
  intro ad
  induction ad with
  | nil => intro q c h; cases h
  | cons a r ih =>
    intro q c h
    unfold fx at h
    split at h
    · rename_i e
      cases h
      rw [e]
      rfl
    · cases e : fx r q with
      | none => rw [e] at h; cases h
      | some k =>
        rw [e] at h
        cases h
        exact ih e
theorem fx_of : ∀ {ad : List Nat} (_ : ad.Nodup) {q c : Nat}, ad[c]? = some q → fx ad q = some c := by
  intro ad
  induction ad with
  | nil => intro _ q c h; cases h
  | cons a r ih =>
    intro hn q c h
    rw [List.nodup_cons] at hn
    unfold fx
    cases c with
    | zero =>
      cases h
      rw [if_pos rfl]
    | succ c =>
      rw [List.getElem?_cons_succ] at h
      have e : ¬ q = a := fun z => hn.1 (by rw [← z]; exact List.mem_of_getElem? h)
      rw [if_neg e, ih hn.2 h]
      rfl
def fval (ad : List Nat) (s : TS) (f : Nat × Nat) : Value := match f.1 with
  | 0 => .int (s.1 f.2)
  | 1 => .long (s.2.1 f.2)
  | _ => .ref (adr ad f.2)
def tcell (ad : List Nat) (s : TS) (c : Nat) : lCell := match tTab[c]? with
  | some (.inl (ci, fs)) => (true, false, ci, fs.map (fval ad s))
  | some (.inr (t, len)) => (true, true, t, (List.range len).map (fun k => if t = 1 then .long (s.2.2.2 c k) else .int (s.2.2.1 c k)))
  | none => (true, true, 0, [])
def tp (ad : List Nat) (s : TS) (A : lMem) : lMem := (fun q => match fx ad q with
  | some c => some (tcell ad s c)
  | none => A.1 q, A.2)
def tOk (ad : List Nat) : Prop := ad.length = tTab.length ∧ ad.Nodup
section TP
variable {ad : List Nat} {s s' : TS} {A0 : lMem} {c : Nat}
theorem adr_get (hn : tOk ad) (hc : c < tTab.length) : ad[c]? = some (adr ad c) := by
  have h : c < ad.length := by rw [hn.1]; exact hc
  unfold adr
  rw [List.getD_eq_getElem?_getD, List.getElem?_eq_getElem h]
  rfl
theorem tp_at (hn : tOk ad) (hc : c < tTab.length) : (tp ad s A0).1 (adr ad c) = some (tcell ad s c) := by
  unfold tp
  dsimp only
  rw [fx_of hn.2 (adr_get hn hc)]
theorem tp_upd (hn : tOk ad) (hc : c < tTab.length) (h : ∀ k, k ≠ c → tcell ad s' k = tcell ad s k) : (lUpd (tp ad s A0).1 (adr ad c) (tcell ad s' c), (tp ad s A0).2.1, (tp ad s A0).2.2) = tp ad s' A0 := by
  unfold tp
  dsimp only
  refine Prod.ext ?_ rfl
  funext q
  dsimp only
  by_cases e : q = adr ad c
  · rw [e, lUpd_eq, fx_of hn.2 (adr_get hn hc)]
  · rw [lUpd_ne _ _ e]
    cases hf : fx ad q with
    | none => rfl
    | some k =>
      dsimp only
      rw [h k]
      intro z
      have h1 := fx_some hf
      rw [z, adr_get hn hc] at h1
      cases h1
      exact e rfl
theorem map_set {α : Type} {f : Nat → α} {v : α} {len i : Nat} (hi : i < len) : ((List.range len).map f).set i v = (List.range len).map (fun k => if k = i then v else f k) := by
  apply List.ext_getElem?
  intro k
  rw [List.getElem?_set]
  simp only [List.getElem?_map, List.length_map, List.length_range]
  by_cases e : i = k
  · subst e
    rw [if_pos rfl, if_pos hi, List.getElem?_range hi]
    simp
  · rw [if_neg e]
    by_cases hk : k < len
    · rw [List.getElem?_range hk]
      have e2 : ¬ k = i := fun z => e z.symm
      simp [e2]
    · rw [List.getElem?_eq_none (by rw [List.length_range]; omega)]
      rfl
theorem tcell_arr {t len : Nat} (ht : tTab[c]? = some (.inr (t, len))) : tcell ad s c = (true, true, t, (List.range len).map (fun k => if t = 1 then .long (s.2.2.2 c k) else .int (s.2.2.1 c k))) := by
  unfold tcell
  rw [ht]
theorem tcell_obj {ci : Nat} {fs : List (Nat × Nat)} (ht : tTab[c]? = some (.inl (ci, fs))) : tcell ad s c = (true, false, ci, fs.map (fval ad s)) := by
  unfold tcell
  rw [ht]
theorem tlen {α : Type} {l : List α} {k : Nat} {v : α} (h : l[k]? = some v) : k < l.length := (List.getElem?_eq_some_iff.mp h).1
theorem t_gA {t len : Nat} {ts : List Nat} {i x : Int32} (hn : tOk ad) (ht : tTab[c]? = some (.inr (t, len))) (h1 : (t == 1) = false) (h2 : ts.contains t = true) (h3 : t < 1000) (h : rdI s c len i = some x) : gA (tp ad s A0) ts (adr ad c) i (.int x) := by
  unfold rdI at h
  split at h
  · rename_i hi
    cases h
    refine ⟨true, t, _, (tp_at hn (tlen ht)).trans (congrArg some (tcell_arr ht)), h3, h2, hi.1, ?_⟩
    have h4 : ¬ t = 1 := fun z => by rw [z] at h1; cases h1
    rw [List.getElem?_map, List.getElem?_range hi.2]
    simp [h4]
  · cases h
theorem t_gAL {len : Nat} {ts : List Nat} {i : Int32} {x : Int64} (hn : tOk ad) (ht : tTab[c]? = some (.inr (1, len))) (h2 : ts.contains 1 = true) (h : rdL s c len i = some x) : gA (tp ad s A0) ts (adr ad c) i (.long x) := by
  unfold rdL at h
  split at h
  · rename_i hi
    cases h
    refine ⟨true, 1, _, (tp_at hn (tlen ht)).trans (congrArg some (tcell_arr ht)), by decide, h2, hi.1, ?_⟩
    rw [List.getElem?_map, List.getElem?_range hi.2]
    simp
  · cases h
theorem wrI_ne {k i : Nat} {v : Int32} (h : k ≠ c) : tcell ad (wrI s c i v) k = tcell ad s k := by
  unfold tcell
  split
  · rename_i ci fs _
    congr 3
  · rename_i t len _
    congr 3
    apply List.map_congr_left
    intro j _
    simp [wrI, h]
  · rfl
theorem wrL_ne {k i : Nat} {v : Int64} (h : k ≠ c) : tcell ad (wrL s c i v) k = tcell ad s k := by
  unfold tcell
  split
  · rename_i ci fs _
    congr 3
  · rename_i t len _
    congr 3
    apply List.map_congr_left
    intro j _
    simp [wrL, h]
  · rfl
theorem t_pA {t len : Nat} {i v : Int32} (hn : tOk ad) (ht : tTab[c]? = some (.inr (t, len))) (h1 : (t == 1) = false) (h3 : t < 1000) (h : stI s c len i v = some s') : pA (tp ad s A0) t (adr ad c) i (.int v) (fun A' => A' = tp ad s' A0) := by
  unfold stI at h
  split at h
  · rename_i hi
    cases h
    have h4 : ¬ t = 1 := fun z => by rw [z] at h1; cases h1
    refine ⟨_, (tp_at hn (tlen ht)).trans (congrArg some (tcell_arr ht)), h3, hi.1, by rw [List.length_map, List.length_range]; exact hi.2, ?_⟩
    rw [map_set hi.2, ← tp_upd hn (tlen ht) (fun k hk => wrI_ne hk), tcell_arr ht]
    congr 5
    apply List.map_congr_left
    intro k _
    by_cases e : k = i.toNatClampNeg
    · simp [wrI, e, h4]
    · simp [wrI, e, h4]
  · cases h
theorem t_pB {len : Nat} {i v : Int32} (hn : tOk ad) (ht : tTab[c]? = some (.inr (3, len))) (h : stI s c len i (v &&& 1) = some s') : pB (tp ad s A0) (adr ad c) i v (fun A' => A' = tp ad s' A0) := by
  obtain ⟨xs, q1, q2, q3, q4, q5⟩ := t_pA (A0 := A0) hn ht rfl (by decide) h
  exact ⟨3, xs, q1, Or.inr rfl, q3, q4, q5⟩
theorem t_pL {len : Nat} {i : Int32} {v : Int64} (hn : tOk ad) (ht : tTab[c]? = some (.inr (1, len))) (h : stL s c len i v = some s') : pA (tp ad s A0) 1 (adr ad c) i (.long v) (fun A' => A' = tp ad s' A0) := by
  unfold stL at h
  split at h
  · rename_i hi
    cases h
    refine ⟨_, (tp_at hn (tlen ht)).trans (congrArg some (tcell_arr ht)), by decide, hi.1, by rw [List.length_map, List.length_range]; exact hi.2, ?_⟩
    rw [map_set hi.2, ← tp_upd hn (tlen ht) (fun k hk => wrL_ne hk), tcell_arr ht]
    congr 5
    apply List.map_congr_left
    intro k _
    by_cases e : k = i.toNatClampNeg
    · simp [wrL, e]
    · simp [wrL, e]
  · cases h
theorem t_gF {ci k : Nat} {fs : List (Nat × Nat)} {f : Nat × Nat} {tab : List (Nat × Nat)} (hn : tOk ad) (ht : tTab[c]? = some (.inl (ci, fs))) (hci : ci < 1000) (hk : lLook tab ci = some k) (hf : fs[k]? = some f) : gF (tp ad s A0) tab (adr ad c) (fval ad s f) :=
  ⟨true, ci, k, _, (tp_at hn (tlen ht)).trans (congrArg some (tcell_obj ht)), hci, hk, by rw [List.getElem?_map, hf]; rfl⟩
theorem t_kV {ci mi : Nat} {fs : List (Nat × Nat)} {tab : List (Nat × Nat)} (hn : tOk ad) (ht : tTab[c]? = some (.inl (ci, fs))) (hci : ci < 1000) (hk : lLook tab ci = some mi) : kV (tp ad s A0) tab (adr ad c) mi :=
  ⟨true, ci, _, (tp_at hn (tlen ht)).trans (congrArg some (tcell_obj ht)), by rw [Nat.mod_eq_of_lt hci]; exact hk⟩
/-- a number's code names one field of one object -/
def codeIn (o : Nat) (fs : List (Nat × Nat)) : Bool := fs.all (fun f => (f.1 == 2) || (f.2 / 100 == o))
theorem t_pF {ci k : Nat} {fs : List (Nat × Nat)} {tab : List (Nat × Nat)} {p : Nat × Nat} {v : Value} (hn : tOk ad) (ht : tTab[c]? = some (.inl (ci, fs))) (hci : ci < 1000) (hk : lLook tab ci = some k) (hf : fs[k]? = some p) (hs : ∀ q, q ≠ c → tcell ad s' q = tcell ad s q) (h1 : (fs.map (fval ad s)).set k v = fs.map (fval ad s')) : pF (tp ad s A0) tab (adr ad c) v (fun A' => A' = tp ad s' A0) := by
  refine ⟨ci, k, _, (tp_at hn (tlen ht)).trans (congrArg some (tcell_obj ht)), hci, hk, by rw [List.length_map]; exact tlen hf, ?_⟩
  rw [h1, ← tp_upd hn (tlen ht) hs, tcell_obj ht]
theorem tTab_codes : tTab.zipIdx.all (fun p => match p.1 with
  | .inl (_, fs) => codeIn p.2 fs
  | .inr _ => true) = true := by decide +kernel
theorem tTab_code {o ci : Nat} {fs : List (Nat × Nat)} (ht : tTab[o]? = some (.inl (ci, fs))) {f : Nat × Nat} (hf : f ∈ fs) : f.1 = 2 ∨ f.2 / 100 = o := by
  have h := List.all_eq_true.mp tTab_codes (.inl (ci, fs), o) (by rw [List.mem_zipIdx_iff_getElem?]; exact ht)
  dsimp only [codeIn] at h
  have h := List.all_eq_true.mp h f hf
  simp only [Bool.or_eq_true, beq_iff_eq] at h
  exact h
theorem ptI_ne {o code : Nat} {v : Int32} (ho : code / 100 = o) : ∀ q, q ≠ o → tcell ad (ptI s code v) q = tcell ad s q := by
  intro q hq
  unfold tcell
  split
  · rename_i ci fs ht
    congr 3
    apply List.map_congr_left
    intro f hf
    rcases tTab_code ht hf with h | h
    · unfold fval
      rw [h]
      rfl
    · have : ¬ f.2 = code := fun z => hq (by rw [← h, z, ho])
      unfold fval ptI
      dsimp only
      rw [if_neg this]
  · rfl
  · rfl
theorem ptL_ne {o code : Nat} {v : Int64} (ho : code / 100 = o) : ∀ q, q ≠ o → tcell ad (ptL s code v) q = tcell ad s q := by
  intro q hq
  unfold tcell
  split
  · rename_i ci fs ht
    congr 3
    apply List.map_congr_left
    intro f hf
    rcases tTab_code ht hf with h | h
    · unfold fval
      rw [h]
      rfl
    · have : ¬ f.2 = code := fun z => hq (by rw [← h, z, ho])
      unfold fval ptL
      dsimp only
      rw [if_neg this]
  · rfl
  · rfl
theorem ptI_set {code k : Nat} {v : Int32} {fs : List (Nat × Nat)} (hf : fs[k]? = some (0, code)) (hd : fs.zipIdx.all (fun p => p.2 == k || !(p.1.1 == 0 && p.1.2 == code)) = true) : (fs.map (fval ad s)).set k (.int v) = fs.map (fval ad (ptI s code v)) := by
  apply List.ext_getElem?
  intro j
  rw [List.getElem?_set]
  simp only [List.getElem?_map, List.length_map]
  by_cases e : k = j
  · subst e
    rw [if_pos rfl, if_pos (tlen hf), hf]
    simp [fval, ptI]
  · rw [if_neg e]
    cases hj : fs[j]? with
    | none => rfl
    | some f =>
      have h := List.all_eq_true.mp hd (f, j) (by rw [List.mem_zipIdx_iff_getElem?]; exact hj)
      have e2 : (j == k) = false := by simpa using fun z => e z.symm
      dsimp only at h
      rw [e2, Bool.false_or] at h
      simp only [Option.map_some, Option.some.injEq]
      unfold fval
      split
      · rename_i h0
        have : ¬ f.2 = code := fun z => by rw [h0, z] at h; simp at h
        simp [ptI, this]
      · rfl
      · rfl
theorem ptL_set {code k : Nat} {v : Int64} {fs : List (Nat × Nat)} (hf : fs[k]? = some (1, code)) (hd : fs.zipIdx.all (fun p => p.2 == k || !(p.1.1 == 1 && p.1.2 == code)) = true) : (fs.map (fval ad s)).set k (.long v) = fs.map (fval ad (ptL s code v)) := by
  apply List.ext_getElem?
  intro j
  rw [List.getElem?_set]
  simp only [List.getElem?_map, List.length_map]
  by_cases e : k = j
  · subst e
    rw [if_pos rfl, if_pos (tlen hf), hf]
    simp [fval, ptL]
  · rw [if_neg e]
    cases hj : fs[j]? with
    | none => rfl
    | some f =>
      have h := List.all_eq_true.mp hd (f, j) (by rw [List.mem_zipIdx_iff_getElem?]; exact hj)
      have e2 : (j == k) = false := by simpa using fun z => e z.symm
      dsimp only at h
      rw [e2, Bool.false_or] at h
      simp only [Option.map_some, Option.some.injEq]
      unfold fval
      split
      · rfl
      · rename_i h0
        have : ¬ f.2 = code := fun z => by rw [h0, z] at h; simp at h
        simp [ptL, this]
      · rfl
theorem t_pI {ci k code : Nat} {fs : List (Nat × Nat)} {tab : List (Nat × Nat)} {v : Int32} (hn : tOk ad) (ht : tTab[c]? = some (.inl (ci, fs))) (hci : ci < 1000) (hk : lLook tab ci = some k) (hf : fs[k]? = some (0, code)) (hc : code / 100 = c) (hd : fs.zipIdx.all (fun p => p.2 == k || !(p.1.1 == 0 && p.1.2 == code)) = true) : pF (tp ad s A0) tab (adr ad c) (.int v) (fun A' => A' = tp ad (ptI s code v) A0) :=
  t_pF hn ht hci hk hf (ptI_ne hc) (ptI_set hf hd)
theorem t_pJ {ci k code : Nat} {fs : List (Nat × Nat)} {tab : List (Nat × Nat)} {v : Int64} (hn : tOk ad) (ht : tTab[c]? = some (.inl (ci, fs))) (hci : ci < 1000) (hk : lLook tab ci = some k) (hf : fs[k]? = some (1, code)) (hc : code / 100 = c) (hd : fs.zipIdx.all (fun p => p.2 == k || !(p.1.1 == 1 && p.1.2 == code)) = true) : pF (tp ad s A0) tab (adr ad c) (.long v) (fun A' => A' = tp ad (ptL s code v) A0) :=
  t_pF hn ht hci hk hf (ptL_ne hc) (ptL_set hf hd)
end TP
set_option maxRecDepth 100000
theorem tk_0 {ad : List Nat} {s : TS} {A0 : lMem} (hn : tOk ad) {tab : List (Nat × Nat)} {mi : Nat} (h : lLook tab 51 = some mi) : kV (tp ad s A0) tab (adr ad 0) mi := t_kV hn (c := 0) rfl (by decide) h
theorem tf_0_0 {ad : List Nat} {s : TS} {A0 : lMem} (hn : tOk ad) : gF (tp ad s A0) [(51, 0)] (adr ad 0) (.int (s.1 0)) := t_gF hn (c := 0) rfl (by decide) (k := 0) rfl rfl
theorem tq_0_0 {ad : List Nat} {s : TS} {A0 : lMem} (hn : tOk ad) {v : Int32} {s' : TS} (h : some (ptI s 0 v) = some s') : pF (tp ad s A0) [(51, 0)] (adr ad 0) (.int v) (fun A => A = tp ad s' A0) := by
  cases h
  exact t_pI hn (c := 0) rfl (by decide) (k := 0) rfl rfl rfl (by decide)
theorem tf_0_1 {ad : List Nat} {s : TS} {A0 : lMem} (hn : tOk ad) : gF (tp ad s A0) [(51, 1)] (adr ad 0) (.int (s.1 1)) := t_gF hn (c := 0) rfl (by decide) (k := 1) rfl rfl
theorem tq_0_1 {ad : List Nat} {s : TS} {A0 : lMem} (hn : tOk ad) {v : Int32} {s' : TS} (h : some (ptI s 1 v) = some s') : pF (tp ad s A0) [(51, 1)] (adr ad 0) (.int v) (fun A => A = tp ad s' A0) := by
  cases h
  exact t_pI hn (c := 0) rfl (by decide) (k := 1) rfl rfl rfl (by decide)
theorem tf_0_2 {ad : List Nat} {s : TS} {A0 : lMem} (hn : tOk ad) : gF (tp ad s A0) [(51, 2)] (adr ad 0) (.int (s.1 2)) := t_gF hn (c := 0) rfl (by decide) (k := 2) rfl rfl
theorem tq_0_2 {ad : List Nat} {s : TS} {A0 : lMem} (hn : tOk ad) {v : Int32} {s' : TS} (h : some (ptI s 2 v) = some s') : pF (tp ad s A0) [(51, 2)] (adr ad 0) (.int v) (fun A => A = tp ad s' A0) := by
  cases h
  exact t_pI hn (c := 0) rfl (by decide) (k := 2) rfl rfl rfl (by decide)
theorem tf_0_3 {ad : List Nat} {s : TS} {A0 : lMem} (hn : tOk ad) : gF (tp ad s A0) [(51, 3)] (adr ad 0) (.ref (adr ad 1)) := t_gF hn (c := 0) rfl (by decide) (k := 3) rfl rfl
theorem tf_0_4 {ad : List Nat} {s : TS} {A0 : lMem} (hn : tOk ad) : gF (tp ad s A0) [(51, 4)] (adr ad 0) (.ref (adr ad 2)) := t_gF hn (c := 0) rfl (by decide) (k := 4) rfl rfl
theorem tf_0_5 {ad : List Nat} {s : TS} {A0 : lMem} (hn : tOk ad) : gF (tp ad s A0) [(51, 5)] (adr ad 0) (.ref (adr ad 3)) := t_gF hn (c := 0) rfl (by decide) (k := 5) rfl rfl
theorem tf_0_6 {ad : List Nat} {s : TS} {A0 : lMem} (hn : tOk ad) : gF (tp ad s A0) [(51, 6)] (adr ad 0) (.ref (adr ad 4)) := t_gF hn (c := 0) rfl (by decide) (k := 6) rfl rfl
theorem tf_0_7 {ad : List Nat} {s : TS} {A0 : lMem} (hn : tOk ad) : gF (tp ad s A0) [(51, 7)] (adr ad 0) (.ref (adr ad 5)) := t_gF hn (c := 0) rfl (by decide) (k := 7) rfl rfl
theorem tf_0_8 {ad : List Nat} {s : TS} {A0 : lMem} (hn : tOk ad) : gF (tp ad s A0) [(51, 8)] (adr ad 0) (.ref (adr ad 6)) := t_gF hn (c := 0) rfl (by decide) (k := 8) rfl rfl
theorem tf_0_9 {ad : List Nat} {s : TS} {A0 : lMem} (hn : tOk ad) : gF (tp ad s A0) [(51, 9)] (adr ad 0) (.int (s.1 9)) := t_gF hn (c := 0) rfl (by decide) (k := 9) rfl rfl
theorem tq_0_9 {ad : List Nat} {s : TS} {A0 : lMem} (hn : tOk ad) {v : Int32} {s' : TS} (h : some (ptI s 9 v) = some s') : pF (tp ad s A0) [(51, 9)] (adr ad 0) (.int v) (fun A => A = tp ad s' A0) := by
  cases h
  exact t_pI hn (c := 0) rfl (by decide) (k := 9) rfl rfl rfl (by decide)
theorem tf_0_10 {ad : List Nat} {s : TS} {A0 : lMem} (hn : tOk ad) : gF (tp ad s A0) [(51, 10)] (adr ad 0) (.int (s.1 10)) := t_gF hn (c := 0) rfl (by decide) (k := 10) rfl rfl
theorem tq_0_10 {ad : List Nat} {s : TS} {A0 : lMem} (hn : tOk ad) {v : Int32} {s' : TS} (h : some (ptI s 10 v) = some s') : pF (tp ad s A0) [(51, 10)] (adr ad 0) (.int v) (fun A => A = tp ad s' A0) := by
  cases h
  exact t_pI hn (c := 0) rfl (by decide) (k := 10) rfl rfl rfl (by decide)
theorem tf_0_11 {ad : List Nat} {s : TS} {A0 : lMem} (hn : tOk ad) : gF (tp ad s A0) [(51, 11)] (adr ad 0) (.ref (adr ad 7)) := t_gF hn (c := 0) rfl (by decide) (k := 11) rfl rfl
theorem tf_0_12 {ad : List Nat} {s : TS} {A0 : lMem} (hn : tOk ad) : gF (tp ad s A0) [(51, 12)] (adr ad 0) (.ref (adr ad 8)) := t_gF hn (c := 0) rfl (by decide) (k := 12) rfl rfl
theorem tf_0_13 {ad : List Nat} {s : TS} {A0 : lMem} (hn : tOk ad) : gF (tp ad s A0) [(51, 13)] (adr ad 0) (.ref (adr ad 9)) := t_gF hn (c := 0) rfl (by decide) (k := 13) rfl rfl
theorem tf_0_14 {ad : List Nat} {s : TS} {A0 : lMem} (hn : tOk ad) : gF (tp ad s A0) [(51, 14)] (adr ad 0) (.ref (adr ad 10)) := t_gF hn (c := 0) rfl (by decide) (k := 14) rfl rfl
theorem tf_0_15 {ad : List Nat} {s : TS} {A0 : lMem} (hn : tOk ad) : gF (tp ad s A0) [(51, 15)] (adr ad 0) (.ref (adr ad 11)) := t_gF hn (c := 0) rfl (by decide) (k := 15) rfl rfl
theorem tf_0_16 {ad : List Nat} {s : TS} {A0 : lMem} (hn : tOk ad) : gF (tp ad s A0) [(51, 16)] (adr ad 0) (.ref (adr ad 12)) := t_gF hn (c := 0) rfl (by decide) (k := 16) rfl rfl
theorem tf_0_17 {ad : List Nat} {s : TS} {A0 : lMem} (hn : tOk ad) : gF (tp ad s A0) [(51, 17)] (adr ad 0) (.ref (adr ad 13)) := t_gF hn (c := 0) rfl (by decide) (k := 17) rfl rfl
theorem tf_0_18 {ad : List Nat} {s : TS} {A0 : lMem} (hn : tOk ad) : gF (tp ad s A0) [(51, 18)] (adr ad 0) (.ref (adr ad 14)) := t_gF hn (c := 0) rfl (by decide) (k := 18) rfl rfl
theorem tf_0_19 {ad : List Nat} {s : TS} {A0 : lMem} (hn : tOk ad) : gF (tp ad s A0) [(51, 19)] (adr ad 0) (.ref (adr ad 15)) := t_gF hn (c := 0) rfl (by decide) (k := 19) rfl rfl
theorem tf_0_20 {ad : List Nat} {s : TS} {A0 : lMem} (hn : tOk ad) : gF (tp ad s A0) [(51, 20)] (adr ad 0) (.ref (adr ad 16)) := t_gF hn (c := 0) rfl (by decide) (k := 20) rfl rfl
theorem tf_0_21 {ad : List Nat} {s : TS} {A0 : lMem} (hn : tOk ad) : gF (tp ad s A0) [(51, 21)] (adr ad 0) (.ref (adr ad 17)) := t_gF hn (c := 0) rfl (by decide) (k := 21) rfl rfl
theorem tf_0_22 {ad : List Nat} {s : TS} {A0 : lMem} (hn : tOk ad) : gF (tp ad s A0) [(51, 22)] (adr ad 0) (.ref (adr ad 18)) := t_gF hn (c := 0) rfl (by decide) (k := 22) rfl rfl
theorem tf_0_23 {ad : List Nat} {s : TS} {A0 : lMem} (hn : tOk ad) : gF (tp ad s A0) [(51, 23)] (adr ad 0) (.ref (adr ad 19)) := t_gF hn (c := 0) rfl (by decide) (k := 23) rfl rfl
theorem tf_0_24 {ad : List Nat} {s : TS} {A0 : lMem} (hn : tOk ad) : gF (tp ad s A0) [(51, 24)] (adr ad 0) (.int (s.1 24)) := t_gF hn (c := 0) rfl (by decide) (k := 24) rfl rfl
theorem tq_0_24 {ad : List Nat} {s : TS} {A0 : lMem} (hn : tOk ad) {v : Int32} {s' : TS} (h : some (ptI s 24 v) = some s') : pF (tp ad s A0) [(51, 24)] (adr ad 0) (.int v) (fun A => A = tp ad s' A0) := by
  cases h
  exact t_pI hn (c := 0) rfl (by decide) (k := 24) rfl rfl rfl (by decide)
theorem tf_0_25 {ad : List Nat} {s : TS} {A0 : lMem} (hn : tOk ad) : gF (tp ad s A0) [(51, 25)] (adr ad 0) (.ref (adr ad 20)) := t_gF hn (c := 0) rfl (by decide) (k := 25) rfl rfl
theorem tf_0_26 {ad : List Nat} {s : TS} {A0 : lMem} (hn : tOk ad) : gF (tp ad s A0) [(51, 26)] (adr ad 0) (.ref (adr ad 21)) := t_gF hn (c := 0) rfl (by decide) (k := 26) rfl rfl
theorem tf_0_27 {ad : List Nat} {s : TS} {A0 : lMem} (hn : tOk ad) : gF (tp ad s A0) [(51, 27)] (adr ad 0) (.int (s.1 27)) := t_gF hn (c := 0) rfl (by decide) (k := 27) rfl rfl
theorem tq_0_27 {ad : List Nat} {s : TS} {A0 : lMem} (hn : tOk ad) {v : Int32} {s' : TS} (h : some (ptI s 27 v) = some s') : pF (tp ad s A0) [(51, 27)] (adr ad 0) (.int v) (fun A => A = tp ad s' A0) := by
  cases h
  exact t_pI hn (c := 0) rfl (by decide) (k := 27) rfl rfl rfl (by decide)
theorem tf_0_28 {ad : List Nat} {s : TS} {A0 : lMem} (hn : tOk ad) : gF (tp ad s A0) [(51, 28)] (adr ad 0) (.ref (adr ad 22)) := t_gF hn (c := 0) rfl (by decide) (k := 28) rfl rfl
theorem tf_0_29 {ad : List Nat} {s : TS} {A0 : lMem} (hn : tOk ad) : gF (tp ad s A0) [(51, 29)] (adr ad 0) (.ref (adr ad 23)) := t_gF hn (c := 0) rfl (by decide) (k := 29) rfl rfl
theorem tf_0_30 {ad : List Nat} {s : TS} {A0 : lMem} (hn : tOk ad) : gF (tp ad s A0) [(51, 30)] (adr ad 0) (.ref (adr ad 24)) := t_gF hn (c := 0) rfl (by decide) (k := 30) rfl rfl
theorem tf_0_31 {ad : List Nat} {s : TS} {A0 : lMem} (hn : tOk ad) : gF (tp ad s A0) [(51, 31)] (adr ad 0) (.ref (adr ad 25)) := t_gF hn (c := 0) rfl (by decide) (k := 31) rfl rfl
theorem tf_0_32 {ad : List Nat} {s : TS} {A0 : lMem} (hn : tOk ad) : gF (tp ad s A0) [(51, 32)] (adr ad 0) (.ref (adr ad 26)) := t_gF hn (c := 0) rfl (by decide) (k := 32) rfl rfl
theorem tf_0_33 {ad : List Nat} {s : TS} {A0 : lMem} (hn : tOk ad) : gF (tp ad s A0) [(51, 33)] (adr ad 0) (.ref (adr ad 27)) := t_gF hn (c := 0) rfl (by decide) (k := 33) rfl rfl
theorem tf_0_34 {ad : List Nat} {s : TS} {A0 : lMem} (hn : tOk ad) : gF (tp ad s A0) [(51, 34)] (adr ad 0) (.ref (adr ad 28)) := t_gF hn (c := 0) rfl (by decide) (k := 34) rfl rfl
theorem tf_0_35 {ad : List Nat} {s : TS} {A0 : lMem} (hn : tOk ad) : gF (tp ad s A0) [(51, 35)] (adr ad 0) (.ref (adr ad 29)) := t_gF hn (c := 0) rfl (by decide) (k := 35) rfl rfl
theorem tf_0_36 {ad : List Nat} {s : TS} {A0 : lMem} (hn : tOk ad) : gF (tp ad s A0) [(51, 36)] (adr ad 0) (.int (s.1 36)) := t_gF hn (c := 0) rfl (by decide) (k := 36) rfl rfl
theorem tq_0_36 {ad : List Nat} {s : TS} {A0 : lMem} (hn : tOk ad) {v : Int32} {s' : TS} (h : some (ptI s 36 v) = some s') : pF (tp ad s A0) [(51, 36)] (adr ad 0) (.int v) (fun A => A = tp ad s' A0) := by
  cases h
  exact t_pI hn (c := 0) rfl (by decide) (k := 36) rfl rfl rfl (by decide)
theorem tf_0_37 {ad : List Nat} {s : TS} {A0 : lMem} (hn : tOk ad) : gF (tp ad s A0) [(51, 37)] (adr ad 0) (.ref (adr ad 30)) := t_gF hn (c := 0) rfl (by decide) (k := 37) rfl rfl
theorem tf_0_38 {ad : List Nat} {s : TS} {A0 : lMem} (hn : tOk ad) : gF (tp ad s A0) [(51, 38)] (adr ad 0) (.ref (adr ad 31)) := t_gF hn (c := 0) rfl (by decide) (k := 38) rfl rfl
theorem tf_0_39 {ad : List Nat} {s : TS} {A0 : lMem} (hn : tOk ad) : gF (tp ad s A0) [(51, 39)] (adr ad 0) (.int (s.1 39)) := t_gF hn (c := 0) rfl (by decide) (k := 39) rfl rfl
theorem tq_0_39 {ad : List Nat} {s : TS} {A0 : lMem} (hn : tOk ad) {v : Int32} {s' : TS} (h : some (ptI s 39 v) = some s') : pF (tp ad s A0) [(51, 39)] (adr ad 0) (.int v) (fun A => A = tp ad s' A0) := by
  cases h
  exact t_pI hn (c := 0) rfl (by decide) (k := 39) rfl rfl rfl (by decide)
theorem tf_0_40 {ad : List Nat} {s : TS} {A0 : lMem} (hn : tOk ad) : gF (tp ad s A0) [(51, 40)] (adr ad 0) (.ref (adr ad 32)) := t_gF hn (c := 0) rfl (by decide) (k := 40) rfl rfl
theorem tf_0_41 {ad : List Nat} {s : TS} {A0 : lMem} (hn : tOk ad) : gF (tp ad s A0) [(51, 41)] (adr ad 0) (.ref (adr ad 33)) := t_gF hn (c := 0) rfl (by decide) (k := 41) rfl rfl
theorem tf_0_42 {ad : List Nat} {s : TS} {A0 : lMem} (hn : tOk ad) : gF (tp ad s A0) [(51, 42)] (adr ad 0) (.ref (adr ad 34)) := t_gF hn (c := 0) rfl (by decide) (k := 42) rfl rfl
theorem tf_0_43 {ad : List Nat} {s : TS} {A0 : lMem} (hn : tOk ad) : gF (tp ad s A0) [(51, 43)] (adr ad 0) (.ref (adr ad 35)) := t_gF hn (c := 0) rfl (by decide) (k := 43) rfl rfl
theorem tf_0_44 {ad : List Nat} {s : TS} {A0 : lMem} (hn : tOk ad) : gF (tp ad s A0) [(51, 44)] (adr ad 0) (.ref (adr ad 36)) := t_gF hn (c := 0) rfl (by decide) (k := 44) rfl rfl
theorem tf_0_45 {ad : List Nat} {s : TS} {A0 : lMem} (hn : tOk ad) : gF (tp ad s A0) [(51, 45)] (adr ad 0) (.int (s.1 45)) := t_gF hn (c := 0) rfl (by decide) (k := 45) rfl rfl
theorem tq_0_45 {ad : List Nat} {s : TS} {A0 : lMem} (hn : tOk ad) {v : Int32} {s' : TS} (h : some (ptI s 45 v) = some s') : pF (tp ad s A0) [(51, 45)] (adr ad 0) (.int v) (fun A => A = tp ad s' A0) := by
  cases h
  exact t_pI hn (c := 0) rfl (by decide) (k := 45) rfl rfl rfl (by decide)
theorem tf_0_46 {ad : List Nat} {s : TS} {A0 : lMem} (hn : tOk ad) : gF (tp ad s A0) [(51, 46)] (adr ad 0) (.ref (adr ad 37)) := t_gF hn (c := 0) rfl (by decide) (k := 46) rfl rfl
theorem tf_0_47 {ad : List Nat} {s : TS} {A0 : lMem} (hn : tOk ad) : gF (tp ad s A0) [(51, 47)] (adr ad 0) (.ref (adr ad 38)) := t_gF hn (c := 0) rfl (by decide) (k := 47) rfl rfl
theorem tf_0_48 {ad : List Nat} {s : TS} {A0 : lMem} (hn : tOk ad) : gF (tp ad s A0) [(51, 48)] (adr ad 0) (.ref (adr ad 39)) := t_gF hn (c := 0) rfl (by decide) (k := 48) rfl rfl
theorem tf_0_49 {ad : List Nat} {s : TS} {A0 : lMem} (hn : tOk ad) : gF (tp ad s A0) [(51, 49)] (adr ad 0) (.int (s.1 49)) := t_gF hn (c := 0) rfl (by decide) (k := 49) rfl rfl
theorem tq_0_49 {ad : List Nat} {s : TS} {A0 : lMem} (hn : tOk ad) {v : Int32} {s' : TS} (h : some (ptI s 49 v) = some s') : pF (tp ad s A0) [(51, 49)] (adr ad 0) (.int v) (fun A => A = tp ad s' A0) := by
  cases h
  exact t_pI hn (c := 0) rfl (by decide) (k := 49) rfl rfl rfl (by decide)
theorem tf_0_50 {ad : List Nat} {s : TS} {A0 : lMem} (hn : tOk ad) : gF (tp ad s A0) [(51, 50)] (adr ad 0) (.ref (adr ad 40)) := t_gF hn (c := 0) rfl (by decide) (k := 50) rfl rfl
theorem tf_0_51 {ad : List Nat} {s : TS} {A0 : lMem} (hn : tOk ad) : gF (tp ad s A0) [(51, 51)] (adr ad 0) (.ref (adr ad 41)) := t_gF hn (c := 0) rfl (by decide) (k := 51) rfl rfl
theorem tf_0_52 {ad : List Nat} {s : TS} {A0 : lMem} (hn : tOk ad) : gF (tp ad s A0) [(51, 52)] (adr ad 0) (.ref (adr ad 42)) := t_gF hn (c := 0) rfl (by decide) (k := 52) rfl rfl
theorem tf_0_53 {ad : List Nat} {s : TS} {A0 : lMem} (hn : tOk ad) : gF (tp ad s A0) [(51, 53)] (adr ad 0) (.ref (adr ad 43)) := t_gF hn (c := 0) rfl (by decide) (k := 53) rfl rfl
theorem tf_0_54 {ad : List Nat} {s : TS} {A0 : lMem} (hn : tOk ad) : gF (tp ad s A0) [(51, 54)] (adr ad 0) (.ref (adr ad 44)) := t_gF hn (c := 0) rfl (by decide) (k := 54) rfl rfl
theorem tf_0_55 {ad : List Nat} {s : TS} {A0 : lMem} (hn : tOk ad) : gF (tp ad s A0) [(51, 55)] (adr ad 0) (.ref (adr ad 45)) := t_gF hn (c := 0) rfl (by decide) (k := 55) rfl rfl
theorem tf_0_56 {ad : List Nat} {s : TS} {A0 : lMem} (hn : tOk ad) : gF (tp ad s A0) [(51, 56)] (adr ad 0) (.ref (adr ad 46)) := t_gF hn (c := 0) rfl (by decide) (k := 56) rfl rfl
theorem tf_0_57 {ad : List Nat} {s : TS} {A0 : lMem} (hn : tOk ad) : gF (tp ad s A0) [(51, 57)] (adr ad 0) (.ref (adr ad 47)) := t_gF hn (c := 0) rfl (by decide) (k := 57) rfl rfl
theorem tf_0_58 {ad : List Nat} {s : TS} {A0 : lMem} (hn : tOk ad) : gF (tp ad s A0) [(51, 58)] (adr ad 0) (.ref (adr ad 48)) := t_gF hn (c := 0) rfl (by decide) (k := 58) rfl rfl
theorem tf_0_59 {ad : List Nat} {s : TS} {A0 : lMem} (hn : tOk ad) : gF (tp ad s A0) [(51, 59)] (adr ad 0) (.ref (adr ad 49)) := t_gF hn (c := 0) rfl (by decide) (k := 59) rfl rfl
theorem tk_1 {ad : List Nat} {s : TS} {A0 : lMem} (hn : tOk ad) {tab : List (Nat × Nat)} {mi : Nat} (h : lLook tab 52 = some mi) : kV (tp ad s A0) tab (adr ad 1) mi := t_kV hn (c := 1) rfl (by decide) h
theorem tf_1_0 {ad : List Nat} {s : TS} {A0 : lMem} (hn : tOk ad) : gF (tp ad s A0) [(52, 0)] (adr ad 1) (.int (s.1 100)) := t_gF hn (c := 1) rfl (by decide) (k := 0) rfl rfl
theorem tq_1_0 {ad : List Nat} {s : TS} {A0 : lMem} (hn : tOk ad) {v : Int32} {s' : TS} (h : some (ptI s 100 v) = some s') : pF (tp ad s A0) [(52, 0)] (adr ad 1) (.int v) (fun A => A = tp ad s' A0) := by
  cases h
  exact t_pI hn (c := 1) rfl (by decide) (k := 0) rfl rfl rfl (by decide)
theorem tf_1_1 {ad : List Nat} {s : TS} {A0 : lMem} (hn : tOk ad) : gF (tp ad s A0) [(52, 1)] (adr ad 1) (.ref (adr ad 50)) := t_gF hn (c := 1) rfl (by decide) (k := 1) rfl rfl
theorem tf_1_2 {ad : List Nat} {s : TS} {A0 : lMem} (hn : tOk ad) : gF (tp ad s A0) [(52, 2)] (adr ad 1) (.ref (adr ad 51)) := t_gF hn (c := 1) rfl (by decide) (k := 2) rfl rfl
theorem tf_1_3 {ad : List Nat} {s : TS} {A0 : lMem} (hn : tOk ad) : gF (tp ad s A0) [(52, 3)] (adr ad 1) (.ref (adr ad 52)) := t_gF hn (c := 1) rfl (by decide) (k := 3) rfl rfl
theorem tf_1_4 {ad : List Nat} {s : TS} {A0 : lMem} (hn : tOk ad) : gF (tp ad s A0) [(52, 4)] (adr ad 1) (.ref (adr ad 53)) := t_gF hn (c := 1) rfl (by decide) (k := 4) rfl rfl
theorem tf_1_5 {ad : List Nat} {s : TS} {A0 : lMem} (hn : tOk ad) : gF (tp ad s A0) [(52, 5)] (adr ad 1) (.ref (adr ad 54)) := t_gF hn (c := 1) rfl (by decide) (k := 5) rfl rfl
theorem tf_1_6 {ad : List Nat} {s : TS} {A0 : lMem} (hn : tOk ad) : gF (tp ad s A0) [(52, 6)] (adr ad 1) (.ref (adr ad 55)) := t_gF hn (c := 1) rfl (by decide) (k := 6) rfl rfl
theorem tf_1_7 {ad : List Nat} {s : TS} {A0 : lMem} (hn : tOk ad) : gF (tp ad s A0) [(52, 7)] (adr ad 1) (.ref (adr ad 56)) := t_gF hn (c := 1) rfl (by decide) (k := 7) rfl rfl
theorem tf_1_8 {ad : List Nat} {s : TS} {A0 : lMem} (hn : tOk ad) : gF (tp ad s A0) [(52, 8)] (adr ad 1) (.ref (adr ad 57)) := t_gF hn (c := 1) rfl (by decide) (k := 8) rfl rfl
theorem tf_1_9 {ad : List Nat} {s : TS} {A0 : lMem} (hn : tOk ad) : gF (tp ad s A0) [(52, 9)] (adr ad 1) (.int (s.1 109)) := t_gF hn (c := 1) rfl (by decide) (k := 9) rfl rfl
theorem tq_1_9 {ad : List Nat} {s : TS} {A0 : lMem} (hn : tOk ad) {v : Int32} {s' : TS} (h : some (ptI s 109 v) = some s') : pF (tp ad s A0) [(52, 9)] (adr ad 1) (.int v) (fun A => A = tp ad s' A0) := by
  cases h
  exact t_pI hn (c := 1) rfl (by decide) (k := 9) rfl rfl rfl (by decide)
theorem tf_1_10 {ad : List Nat} {s : TS} {A0 : lMem} (hn : tOk ad) : gF (tp ad s A0) [(52, 10)] (adr ad 1) (.int (s.1 110)) := t_gF hn (c := 1) rfl (by decide) (k := 10) rfl rfl
theorem tq_1_10 {ad : List Nat} {s : TS} {A0 : lMem} (hn : tOk ad) {v : Int32} {s' : TS} (h : some (ptI s 110 v) = some s') : pF (tp ad s A0) [(52, 10)] (adr ad 1) (.int v) (fun A => A = tp ad s' A0) := by
  cases h
  exact t_pI hn (c := 1) rfl (by decide) (k := 10) rfl rfl rfl (by decide)
theorem tf_1_11 {ad : List Nat} {s : TS} {A0 : lMem} (hn : tOk ad) : gF (tp ad s A0) [(52, 11)] (adr ad 1) (.int (s.1 111)) := t_gF hn (c := 1) rfl (by decide) (k := 11) rfl rfl
theorem tq_1_11 {ad : List Nat} {s : TS} {A0 : lMem} (hn : tOk ad) {v : Int32} {s' : TS} (h : some (ptI s 111 v) = some s') : pF (tp ad s A0) [(52, 11)] (adr ad 1) (.int v) (fun A => A = tp ad s' A0) := by
  cases h
  exact t_pI hn (c := 1) rfl (by decide) (k := 11) rfl rfl rfl (by decide)
theorem tf_1_12 {ad : List Nat} {s : TS} {A0 : lMem} (hn : tOk ad) : gF (tp ad s A0) [(52, 12)] (adr ad 1) (.int (s.1 112)) := t_gF hn (c := 1) rfl (by decide) (k := 12) rfl rfl
theorem tq_1_12 {ad : List Nat} {s : TS} {A0 : lMem} (hn : tOk ad) {v : Int32} {s' : TS} (h : some (ptI s 112 v) = some s') : pF (tp ad s A0) [(52, 12)] (adr ad 1) (.int v) (fun A => A = tp ad s' A0) := by
  cases h
  exact t_pI hn (c := 1) rfl (by decide) (k := 12) rfl rfl rfl (by decide)
theorem tf_1_13 {ad : List Nat} {s : TS} {A0 : lMem} (hn : tOk ad) : gF (tp ad s A0) [(52, 13)] (adr ad 1) (.int (s.1 113)) := t_gF hn (c := 1) rfl (by decide) (k := 13) rfl rfl
theorem tq_1_13 {ad : List Nat} {s : TS} {A0 : lMem} (hn : tOk ad) {v : Int32} {s' : TS} (h : some (ptI s 113 v) = some s') : pF (tp ad s A0) [(52, 13)] (adr ad 1) (.int v) (fun A => A = tp ad s' A0) := by
  cases h
  exact t_pI hn (c := 1) rfl (by decide) (k := 13) rfl rfl rfl (by decide)
theorem tf_1_14 {ad : List Nat} {s : TS} {A0 : lMem} (hn : tOk ad) : gF (tp ad s A0) [(52, 14)] (adr ad 1) (.ref (adr ad 58)) := t_gF hn (c := 1) rfl (by decide) (k := 14) rfl rfl
theorem tf_1_15 {ad : List Nat} {s : TS} {A0 : lMem} (hn : tOk ad) : gF (tp ad s A0) [(52, 15)] (adr ad 1) (.ref (adr ad 59)) := t_gF hn (c := 1) rfl (by decide) (k := 15) rfl rfl
theorem tf_1_16 {ad : List Nat} {s : TS} {A0 : lMem} (hn : tOk ad) : gF (tp ad s A0) [(52, 16)] (adr ad 1) (.ref (adr ad 60)) := t_gF hn (c := 1) rfl (by decide) (k := 16) rfl rfl
theorem tf_1_17 {ad : List Nat} {s : TS} {A0 : lMem} (hn : tOk ad) : gF (tp ad s A0) [(52, 17)] (adr ad 1) (.int (s.1 117)) := t_gF hn (c := 1) rfl (by decide) (k := 17) rfl rfl
theorem tq_1_17 {ad : List Nat} {s : TS} {A0 : lMem} (hn : tOk ad) {v : Int32} {s' : TS} (h : some (ptI s 117 v) = some s') : pF (tp ad s A0) [(52, 17)] (adr ad 1) (.int v) (fun A => A = tp ad s' A0) := by
  cases h
  exact t_pI hn (c := 1) rfl (by decide) (k := 17) rfl rfl rfl (by decide)
theorem tf_1_18 {ad : List Nat} {s : TS} {A0 : lMem} (hn : tOk ad) : gF (tp ad s A0) [(52, 18)] (adr ad 1) (.int (s.1 118)) := t_gF hn (c := 1) rfl (by decide) (k := 18) rfl rfl
theorem tq_1_18 {ad : List Nat} {s : TS} {A0 : lMem} (hn : tOk ad) {v : Int32} {s' : TS} (h : some (ptI s 118 v) = some s') : pF (tp ad s A0) [(52, 18)] (adr ad 1) (.int v) (fun A => A = tp ad s' A0) := by
  cases h
  exact t_pI hn (c := 1) rfl (by decide) (k := 18) rfl rfl rfl (by decide)
theorem tf_1_19 {ad : List Nat} {s : TS} {A0 : lMem} (hn : tOk ad) : gF (tp ad s A0) [(52, 19)] (adr ad 1) (.int (s.1 119)) := t_gF hn (c := 1) rfl (by decide) (k := 19) rfl rfl
theorem tq_1_19 {ad : List Nat} {s : TS} {A0 : lMem} (hn : tOk ad) {v : Int32} {s' : TS} (h : some (ptI s 119 v) = some s') : pF (tp ad s A0) [(52, 19)] (adr ad 1) (.int v) (fun A => A = tp ad s' A0) := by
  cases h
  exact t_pI hn (c := 1) rfl (by decide) (k := 19) rfl rfl rfl (by decide)
theorem tf_1_20 {ad : List Nat} {s : TS} {A0 : lMem} (hn : tOk ad) : gF (tp ad s A0) [(52, 20)] (adr ad 1) (.int (s.1 120)) := t_gF hn (c := 1) rfl (by decide) (k := 20) rfl rfl
theorem tq_1_20 {ad : List Nat} {s : TS} {A0 : lMem} (hn : tOk ad) {v : Int32} {s' : TS} (h : some (ptI s 120 v) = some s') : pF (tp ad s A0) [(52, 20)] (adr ad 1) (.int v) (fun A => A = tp ad s' A0) := by
  cases h
  exact t_pI hn (c := 1) rfl (by decide) (k := 20) rfl rfl rfl (by decide)
theorem tf_1_21 {ad : List Nat} {s : TS} {A0 : lMem} (hn : tOk ad) : gF (tp ad s A0) [(52, 21)] (adr ad 1) (.ref (adr ad 61)) := t_gF hn (c := 1) rfl (by decide) (k := 21) rfl rfl
theorem tf_1_22 {ad : List Nat} {s : TS} {A0 : lMem} (hn : tOk ad) : gF (tp ad s A0) [(52, 22)] (adr ad 1) (.ref (adr ad 62)) := t_gF hn (c := 1) rfl (by decide) (k := 22) rfl rfl
theorem tf_1_23 {ad : List Nat} {s : TS} {A0 : lMem} (hn : tOk ad) : gF (tp ad s A0) [(52, 23)] (adr ad 1) (.ref (adr ad 63)) := t_gF hn (c := 1) rfl (by decide) (k := 23) rfl rfl
theorem tf_1_24 {ad : List Nat} {s : TS} {A0 : lMem} (hn : tOk ad) : gF (tp ad s A0) [(52, 24)] (adr ad 1) (.int (s.1 124)) := t_gF hn (c := 1) rfl (by decide) (k := 24) rfl rfl
theorem tq_1_24 {ad : List Nat} {s : TS} {A0 : lMem} (hn : tOk ad) {v : Int32} {s' : TS} (h : some (ptI s 124 v) = some s') : pF (tp ad s A0) [(52, 24)] (adr ad 1) (.int v) (fun A => A = tp ad s' A0) := by
  cases h
  exact t_pI hn (c := 1) rfl (by decide) (k := 24) rfl rfl rfl (by decide)
theorem tf_1_25 {ad : List Nat} {s : TS} {A0 : lMem} (hn : tOk ad) : gF (tp ad s A0) [(52, 25)] (adr ad 1) (.ref (adr ad 64)) := t_gF hn (c := 1) rfl (by decide) (k := 25) rfl rfl
theorem tf_1_26 {ad : List Nat} {s : TS} {A0 : lMem} (hn : tOk ad) : gF (tp ad s A0) [(52, 26)] (adr ad 1) (.ref (adr ad 65)) := t_gF hn (c := 1) rfl (by decide) (k := 26) rfl rfl
theorem tf_1_27 {ad : List Nat} {s : TS} {A0 : lMem} (hn : tOk ad) : gF (tp ad s A0) [(52, 27)] (adr ad 1) (.int (s.1 127)) := t_gF hn (c := 1) rfl (by decide) (k := 27) rfl rfl
theorem tq_1_27 {ad : List Nat} {s : TS} {A0 : lMem} (hn : tOk ad) {v : Int32} {s' : TS} (h : some (ptI s 127 v) = some s') : pF (tp ad s A0) [(52, 27)] (adr ad 1) (.int v) (fun A => A = tp ad s' A0) := by
  cases h
  exact t_pI hn (c := 1) rfl (by decide) (k := 27) rfl rfl rfl (by decide)
theorem tf_1_28 {ad : List Nat} {s : TS} {A0 : lMem} (hn : tOk ad) : gF (tp ad s A0) [(52, 28)] (adr ad 1) (.ref (adr ad 66)) := t_gF hn (c := 1) rfl (by decide) (k := 28) rfl rfl
theorem tf_1_29 {ad : List Nat} {s : TS} {A0 : lMem} (hn : tOk ad) : gF (tp ad s A0) [(52, 29)] (adr ad 1) (.ref (adr ad 67)) := t_gF hn (c := 1) rfl (by decide) (k := 29) rfl rfl
theorem tf_1_30 {ad : List Nat} {s : TS} {A0 : lMem} (hn : tOk ad) : gF (tp ad s A0) [(52, 30)] (adr ad 1) (.int (s.1 130)) := t_gF hn (c := 1) rfl (by decide) (k := 30) rfl rfl
theorem tq_1_30 {ad : List Nat} {s : TS} {A0 : lMem} (hn : tOk ad) {v : Int32} {s' : TS} (h : some (ptI s 130 v) = some s') : pF (tp ad s A0) [(52, 30)] (adr ad 1) (.int v) (fun A => A = tp ad s' A0) := by
  cases h
  exact t_pI hn (c := 1) rfl (by decide) (k := 30) rfl rfl rfl (by decide)
theorem tf_1_31 {ad : List Nat} {s : TS} {A0 : lMem} (hn : tOk ad) : gF (tp ad s A0) [(52, 31)] (adr ad 1) (.ref (adr ad 68)) := t_gF hn (c := 1) rfl (by decide) (k := 31) rfl rfl
theorem tf_1_32 {ad : List Nat} {s : TS} {A0 : lMem} (hn : tOk ad) : gF (tp ad s A0) [(52, 32)] (adr ad 1) (.ref (adr ad 69)) := t_gF hn (c := 1) rfl (by decide) (k := 32) rfl rfl
theorem tf_1_33 {ad : List Nat} {s : TS} {A0 : lMem} (hn : tOk ad) : gF (tp ad s A0) [(52, 33)] (adr ad 1) (.ref (adr ad 70)) := t_gF hn (c := 1) rfl (by decide) (k := 33) rfl rfl
theorem tf_1_34 {ad : List Nat} {s : TS} {A0 : lMem} (hn : tOk ad) : gF (tp ad s A0) [(52, 34)] (adr ad 1) (.ref (adr ad 71)) := t_gF hn (c := 1) rfl (by decide) (k := 34) rfl rfl
theorem tf_1_35 {ad : List Nat} {s : TS} {A0 : lMem} (hn : tOk ad) : gF (tp ad s A0) [(52, 35)] (adr ad 1) (.int (s.1 135)) := t_gF hn (c := 1) rfl (by decide) (k := 35) rfl rfl
theorem tq_1_35 {ad : List Nat} {s : TS} {A0 : lMem} (hn : tOk ad) {v : Int32} {s' : TS} (h : some (ptI s 135 v) = some s') : pF (tp ad s A0) [(52, 35)] (adr ad 1) (.int v) (fun A => A = tp ad s' A0) := by
  cases h
  exact t_pI hn (c := 1) rfl (by decide) (k := 35) rfl rfl rfl (by decide)
theorem tf_1_36 {ad : List Nat} {s : TS} {A0 : lMem} (hn : tOk ad) : gF (tp ad s A0) [(52, 36)] (adr ad 1) (.ref (adr ad 72)) := t_gF hn (c := 1) rfl (by decide) (k := 36) rfl rfl
theorem tf_1_37 {ad : List Nat} {s : TS} {A0 : lMem} (hn : tOk ad) : gF (tp ad s A0) [(52, 37)] (adr ad 1) (.ref (adr ad 73)) := t_gF hn (c := 1) rfl (by decide) (k := 37) rfl rfl
theorem tf_1_38 {ad : List Nat} {s : TS} {A0 : lMem} (hn : tOk ad) : gF (tp ad s A0) [(52, 38)] (adr ad 1) (.ref (adr ad 74)) := t_gF hn (c := 1) rfl (by decide) (k := 38) rfl rfl
theorem tf_1_39 {ad : List Nat} {s : TS} {A0 : lMem} (hn : tOk ad) : gF (tp ad s A0) [(52, 39)] (adr ad 1) (.ref (adr ad 75)) := t_gF hn (c := 1) rfl (by decide) (k := 39) rfl rfl
theorem tk_2 {ad : List Nat} {s : TS} {A0 : lMem} (hn : tOk ad) {tab : List (Nat × Nat)} {mi : Nat} (h : lLook tab 53 = some mi) : kV (tp ad s A0) tab (adr ad 2) mi := t_kV hn (c := 2) rfl (by decide) h
theorem tf_2_0 {ad : List Nat} {s : TS} {A0 : lMem} (hn : tOk ad) : gF (tp ad s A0) [(53, 0)] (adr ad 2) (.ref (adr ad 76)) := t_gF hn (c := 2) rfl (by decide) (k := 0) rfl rfl
theorem tf_2_1 {ad : List Nat} {s : TS} {A0 : lMem} (hn : tOk ad) : gF (tp ad s A0) [(53, 1)] (adr ad 2) (.int (s.1 201)) := t_gF hn (c := 2) rfl (by decide) (k := 1) rfl rfl
theorem tq_2_1 {ad : List Nat} {s : TS} {A0 : lMem} (hn : tOk ad) {v : Int32} {s' : TS} (h : some (ptI s 201 v) = some s') : pF (tp ad s A0) [(53, 1)] (adr ad 2) (.int v) (fun A => A = tp ad s' A0) := by
  cases h
  exact t_pI hn (c := 2) rfl (by decide) (k := 1) rfl rfl rfl (by decide)
theorem tf_2_2 {ad : List Nat} {s : TS} {A0 : lMem} (hn : tOk ad) : gF (tp ad s A0) [(53, 2)] (adr ad 2) (.int (s.1 202)) := t_gF hn (c := 2) rfl (by decide) (k := 2) rfl rfl
theorem tq_2_2 {ad : List Nat} {s : TS} {A0 : lMem} (hn : tOk ad) {v : Int32} {s' : TS} (h : some (ptI s 202 v) = some s') : pF (tp ad s A0) [(53, 2)] (adr ad 2) (.int v) (fun A => A = tp ad s' A0) := by
  cases h
  exact t_pI hn (c := 2) rfl (by decide) (k := 2) rfl rfl rfl (by decide)
theorem tf_2_3 {ad : List Nat} {s : TS} {A0 : lMem} (hn : tOk ad) : gF (tp ad s A0) [(53, 3)] (adr ad 2) (.ref (adr ad 77)) := t_gF hn (c := 2) rfl (by decide) (k := 3) rfl rfl
theorem tf_2_4 {ad : List Nat} {s : TS} {A0 : lMem} (hn : tOk ad) : gF (tp ad s A0) [(53, 4)] (adr ad 2) (.ref (adr ad 78)) := t_gF hn (c := 2) rfl (by decide) (k := 4) rfl rfl
theorem tf_2_5 {ad : List Nat} {s : TS} {A0 : lMem} (hn : tOk ad) : gF (tp ad s A0) [(53, 5)] (adr ad 2) (.int (s.1 205)) := t_gF hn (c := 2) rfl (by decide) (k := 5) rfl rfl
theorem tq_2_5 {ad : List Nat} {s : TS} {A0 : lMem} (hn : tOk ad) {v : Int32} {s' : TS} (h : some (ptI s 205 v) = some s') : pF (tp ad s A0) [(53, 5)] (adr ad 2) (.int v) (fun A => A = tp ad s' A0) := by
  cases h
  exact t_pI hn (c := 2) rfl (by decide) (k := 5) rfl rfl rfl (by decide)
theorem tf_2_6 {ad : List Nat} {s : TS} {A0 : lMem} (hn : tOk ad) : gF (tp ad s A0) [(53, 6)] (adr ad 2) (.ref (adr ad 79)) := t_gF hn (c := 2) rfl (by decide) (k := 6) rfl rfl
theorem tf_2_7 {ad : List Nat} {s : TS} {A0 : lMem} (hn : tOk ad) : gF (tp ad s A0) [(53, 7)] (adr ad 2) (.ref (adr ad 80)) := t_gF hn (c := 2) rfl (by decide) (k := 7) rfl rfl
theorem tf_2_8 {ad : List Nat} {s : TS} {A0 : lMem} (hn : tOk ad) : gF (tp ad s A0) [(53, 8)] (adr ad 2) (.ref (adr ad 81)) := t_gF hn (c := 2) rfl (by decide) (k := 8) rfl rfl
theorem tf_2_9 {ad : List Nat} {s : TS} {A0 : lMem} (hn : tOk ad) : gF (tp ad s A0) [(53, 9)] (adr ad 2) (.ref (adr ad 82)) := t_gF hn (c := 2) rfl (by decide) (k := 9) rfl rfl
theorem tf_2_10 {ad : List Nat} {s : TS} {A0 : lMem} (hn : tOk ad) : gF (tp ad s A0) [(53, 10)] (adr ad 2) (.int (s.1 210)) := t_gF hn (c := 2) rfl (by decide) (k := 10) rfl rfl
theorem tq_2_10 {ad : List Nat} {s : TS} {A0 : lMem} (hn : tOk ad) {v : Int32} {s' : TS} (h : some (ptI s 210 v) = some s') : pF (tp ad s A0) [(53, 10)] (adr ad 2) (.int v) (fun A => A = tp ad s' A0) := by
  cases h
  exact t_pI hn (c := 2) rfl (by decide) (k := 10) rfl rfl rfl (by decide)
theorem tf_2_11 {ad : List Nat} {s : TS} {A0 : lMem} (hn : tOk ad) : gF (tp ad s A0) [(53, 11)] (adr ad 2) (.ref (adr ad 83)) := t_gF hn (c := 2) rfl (by decide) (k := 11) rfl rfl
theorem tf_2_12 {ad : List Nat} {s : TS} {A0 : lMem} (hn : tOk ad) : gF (tp ad s A0) [(53, 12)] (adr ad 2) (.ref (adr ad 84)) := t_gF hn (c := 2) rfl (by decide) (k := 12) rfl rfl
theorem tf_2_13 {ad : List Nat} {s : TS} {A0 : lMem} (hn : tOk ad) : gF (tp ad s A0) [(53, 13)] (adr ad 2) (.ref (adr ad 85)) := t_gF hn (c := 2) rfl (by decide) (k := 13) rfl rfl
theorem tf_2_14 {ad : List Nat} {s : TS} {A0 : lMem} (hn : tOk ad) : gF (tp ad s A0) [(53, 14)] (adr ad 2) (.ref (adr ad 86)) := t_gF hn (c := 2) rfl (by decide) (k := 14) rfl rfl
theorem tf_2_15 {ad : List Nat} {s : TS} {A0 : lMem} (hn : tOk ad) : gF (tp ad s A0) [(53, 15)] (adr ad 2) (.int (s.1 215)) := t_gF hn (c := 2) rfl (by decide) (k := 15) rfl rfl
theorem tq_2_15 {ad : List Nat} {s : TS} {A0 : lMem} (hn : tOk ad) {v : Int32} {s' : TS} (h : some (ptI s 215 v) = some s') : pF (tp ad s A0) [(53, 15)] (adr ad 2) (.int v) (fun A => A = tp ad s' A0) := by
  cases h
  exact t_pI hn (c := 2) rfl (by decide) (k := 15) rfl rfl rfl (by decide)
theorem tf_2_16 {ad : List Nat} {s : TS} {A0 : lMem} (hn : tOk ad) : gF (tp ad s A0) [(53, 16)] (adr ad 2) (.ref (adr ad 87)) := t_gF hn (c := 2) rfl (by decide) (k := 16) rfl rfl
theorem tf_2_17 {ad : List Nat} {s : TS} {A0 : lMem} (hn : tOk ad) : gF (tp ad s A0) [(53, 17)] (adr ad 2) (.ref (adr ad 88)) := t_gF hn (c := 2) rfl (by decide) (k := 17) rfl rfl
theorem tf_2_18 {ad : List Nat} {s : TS} {A0 : lMem} (hn : tOk ad) : gF (tp ad s A0) [(53, 18)] (adr ad 2) (.int (s.1 218)) := t_gF hn (c := 2) rfl (by decide) (k := 18) rfl rfl
theorem tq_2_18 {ad : List Nat} {s : TS} {A0 : lMem} (hn : tOk ad) {v : Int32} {s' : TS} (h : some (ptI s 218 v) = some s') : pF (tp ad s A0) [(53, 18)] (adr ad 2) (.int v) (fun A => A = tp ad s' A0) := by
  cases h
  exact t_pI hn (c := 2) rfl (by decide) (k := 18) rfl rfl rfl (by decide)
theorem tf_2_19 {ad : List Nat} {s : TS} {A0 : lMem} (hn : tOk ad) : gF (tp ad s A0) [(53, 19)] (adr ad 2) (.ref (adr ad 89)) := t_gF hn (c := 2) rfl (by decide) (k := 19) rfl rfl
theorem tf_2_20 {ad : List Nat} {s : TS} {A0 : lMem} (hn : tOk ad) : gF (tp ad s A0) [(53, 20)] (adr ad 2) (.ref (adr ad 90)) := t_gF hn (c := 2) rfl (by decide) (k := 20) rfl rfl
theorem tf_2_21 {ad : List Nat} {s : TS} {A0 : lMem} (hn : tOk ad) : gF (tp ad s A0) [(53, 21)] (adr ad 2) (.ref (adr ad 91)) := t_gF hn (c := 2) rfl (by decide) (k := 21) rfl rfl
theorem tf_2_22 {ad : List Nat} {s : TS} {A0 : lMem} (hn : tOk ad) : gF (tp ad s A0) [(53, 22)] (adr ad 2) (.ref (adr ad 92)) := t_gF hn (c := 2) rfl (by decide) (k := 22) rfl rfl
theorem tf_2_23 {ad : List Nat} {s : TS} {A0 : lMem} (hn : tOk ad) : gF (tp ad s A0) [(53, 23)] (adr ad 2) (.ref (adr ad 93)) := t_gF hn (c := 2) rfl (by decide) (k := 23) rfl rfl
theorem tf_2_24 {ad : List Nat} {s : TS} {A0 : lMem} (hn : tOk ad) : gF (tp ad s A0) [(53, 24)] (adr ad 2) (.ref (adr ad 94)) := t_gF hn (c := 2) rfl (by decide) (k := 24) rfl rfl
theorem tf_2_25 {ad : List Nat} {s : TS} {A0 : lMem} (hn : tOk ad) : gF (tp ad s A0) [(53, 25)] (adr ad 2) (.ref (adr ad 95)) := t_gF hn (c := 2) rfl (by decide) (k := 25) rfl rfl
theorem tf_2_26 {ad : List Nat} {s : TS} {A0 : lMem} (hn : tOk ad) : gF (tp ad s A0) [(53, 26)] (adr ad 2) (.int (s.1 226)) := t_gF hn (c := 2) rfl (by decide) (k := 26) rfl rfl
theorem tq_2_26 {ad : List Nat} {s : TS} {A0 : lMem} (hn : tOk ad) {v : Int32} {s' : TS} (h : some (ptI s 226 v) = some s') : pF (tp ad s A0) [(53, 26)] (adr ad 2) (.int v) (fun A => A = tp ad s' A0) := by
  cases h
  exact t_pI hn (c := 2) rfl (by decide) (k := 26) rfl rfl rfl (by decide)
theorem tf_2_27 {ad : List Nat} {s : TS} {A0 : lMem} (hn : tOk ad) : gF (tp ad s A0) [(53, 27)] (adr ad 2) (.int (s.1 227)) := t_gF hn (c := 2) rfl (by decide) (k := 27) rfl rfl
theorem tq_2_27 {ad : List Nat} {s : TS} {A0 : lMem} (hn : tOk ad) {v : Int32} {s' : TS} (h : some (ptI s 227 v) = some s') : pF (tp ad s A0) [(53, 27)] (adr ad 2) (.int v) (fun A => A = tp ad s' A0) := by
  cases h
  exact t_pI hn (c := 2) rfl (by decide) (k := 27) rfl rfl rfl (by decide)
theorem tf_2_28 {ad : List Nat} {s : TS} {A0 : lMem} (hn : tOk ad) : gF (tp ad s A0) [(53, 28)] (adr ad 2) (.int (s.1 228)) := t_gF hn (c := 2) rfl (by decide) (k := 28) rfl rfl
theorem tq_2_28 {ad : List Nat} {s : TS} {A0 : lMem} (hn : tOk ad) {v : Int32} {s' : TS} (h : some (ptI s 228 v) = some s') : pF (tp ad s A0) [(53, 28)] (adr ad 2) (.int v) (fun A => A = tp ad s' A0) := by
  cases h
  exact t_pI hn (c := 2) rfl (by decide) (k := 28) rfl rfl rfl (by decide)
theorem tf_2_29 {ad : List Nat} {s : TS} {A0 : lMem} (hn : tOk ad) : gF (tp ad s A0) [(53, 29)] (adr ad 2) (.long (s.2.1 229)) := t_gF hn (c := 2) rfl (by decide) (k := 29) rfl rfl
theorem tq_2_29 {ad : List Nat} {s : TS} {A0 : lMem} (hn : tOk ad) {v : Int64} {s' : TS} (h : some (ptL s 229 v) = some s') : pF (tp ad s A0) [(53, 29)] (adr ad 2) (.long v) (fun A => A = tp ad s' A0) := by
  cases h
  exact t_pJ hn (c := 2) rfl (by decide) (k := 29) rfl rfl rfl (by decide)
theorem tf_2_30 {ad : List Nat} {s : TS} {A0 : lMem} (hn : tOk ad) : gF (tp ad s A0) [(53, 30)] (adr ad 2) (.int (s.1 230)) := t_gF hn (c := 2) rfl (by decide) (k := 30) rfl rfl
theorem tq_2_30 {ad : List Nat} {s : TS} {A0 : lMem} (hn : tOk ad) {v : Int32} {s' : TS} (h : some (ptI s 230 v) = some s') : pF (tp ad s A0) [(53, 30)] (adr ad 2) (.int v) (fun A => A = tp ad s' A0) := by
  cases h
  exact t_pI hn (c := 2) rfl (by decide) (k := 30) rfl rfl rfl (by decide)
theorem tf_2_31 {ad : List Nat} {s : TS} {A0 : lMem} (hn : tOk ad) : gF (tp ad s A0) [(53, 31)] (adr ad 2) (.int (s.1 231)) := t_gF hn (c := 2) rfl (by decide) (k := 31) rfl rfl
theorem tq_2_31 {ad : List Nat} {s : TS} {A0 : lMem} (hn : tOk ad) {v : Int32} {s' : TS} (h : some (ptI s 231 v) = some s') : pF (tp ad s A0) [(53, 31)] (adr ad 2) (.int v) (fun A => A = tp ad s' A0) := by
  cases h
  exact t_pI hn (c := 2) rfl (by decide) (k := 31) rfl rfl rfl (by decide)
theorem tf_2_32 {ad : List Nat} {s : TS} {A0 : lMem} (hn : tOk ad) : gF (tp ad s A0) [(53, 32)] (adr ad 2) (.int (s.1 232)) := t_gF hn (c := 2) rfl (by decide) (k := 32) rfl rfl
theorem tq_2_32 {ad : List Nat} {s : TS} {A0 : lMem} (hn : tOk ad) {v : Int32} {s' : TS} (h : some (ptI s 232 v) = some s') : pF (tp ad s A0) [(53, 32)] (adr ad 2) (.int v) (fun A => A = tp ad s' A0) := by
  cases h
  exact t_pI hn (c := 2) rfl (by decide) (k := 32) rfl rfl rfl (by decide)
theorem tf_2_33 {ad : List Nat} {s : TS} {A0 : lMem} (hn : tOk ad) : gF (tp ad s A0) [(53, 33)] (adr ad 2) (.int (s.1 233)) := t_gF hn (c := 2) rfl (by decide) (k := 33) rfl rfl
theorem tq_2_33 {ad : List Nat} {s : TS} {A0 : lMem} (hn : tOk ad) {v : Int32} {s' : TS} (h : some (ptI s 233 v) = some s') : pF (tp ad s A0) [(53, 33)] (adr ad 2) (.int v) (fun A => A = tp ad s' A0) := by
  cases h
  exact t_pI hn (c := 2) rfl (by decide) (k := 33) rfl rfl rfl (by decide)
theorem tf_2_34 {ad : List Nat} {s : TS} {A0 : lMem} (hn : tOk ad) : gF (tp ad s A0) [(53, 34)] (adr ad 2) (.int (s.1 234)) := t_gF hn (c := 2) rfl (by decide) (k := 34) rfl rfl
theorem tq_2_34 {ad : List Nat} {s : TS} {A0 : lMem} (hn : tOk ad) {v : Int32} {s' : TS} (h : some (ptI s 234 v) = some s') : pF (tp ad s A0) [(53, 34)] (adr ad 2) (.int v) (fun A => A = tp ad s' A0) := by
  cases h
  exact t_pI hn (c := 2) rfl (by decide) (k := 34) rfl rfl rfl (by decide)
theorem tf_2_35 {ad : List Nat} {s : TS} {A0 : lMem} (hn : tOk ad) : gF (tp ad s A0) [(53, 35)] (adr ad 2) (.ref (adr ad 96)) := t_gF hn (c := 2) rfl (by decide) (k := 35) rfl rfl
theorem tf_2_36 {ad : List Nat} {s : TS} {A0 : lMem} (hn : tOk ad) : gF (tp ad s A0) [(53, 36)] (adr ad 2) (.int (s.1 236)) := t_gF hn (c := 2) rfl (by decide) (k := 36) rfl rfl
theorem tq_2_36 {ad : List Nat} {s : TS} {A0 : lMem} (hn : tOk ad) {v : Int32} {s' : TS} (h : some (ptI s 236 v) = some s') : pF (tp ad s A0) [(53, 36)] (adr ad 2) (.int v) (fun A => A = tp ad s' A0) := by
  cases h
  exact t_pI hn (c := 2) rfl (by decide) (k := 36) rfl rfl rfl (by decide)
theorem tf_2_37 {ad : List Nat} {s : TS} {A0 : lMem} (hn : tOk ad) : gF (tp ad s A0) [(53, 37)] (adr ad 2) (.ref (adr ad 97)) := t_gF hn (c := 2) rfl (by decide) (k := 37) rfl rfl
theorem tf_2_38 {ad : List Nat} {s : TS} {A0 : lMem} (hn : tOk ad) : gF (tp ad s A0) [(53, 38)] (adr ad 2) (.ref (adr ad 98)) := t_gF hn (c := 2) rfl (by decide) (k := 38) rfl rfl
theorem tf_2_39 {ad : List Nat} {s : TS} {A0 : lMem} (hn : tOk ad) : gF (tp ad s A0) [(53, 39)] (adr ad 2) (.int (s.1 239)) := t_gF hn (c := 2) rfl (by decide) (k := 39) rfl rfl
theorem tq_2_39 {ad : List Nat} {s : TS} {A0 : lMem} (hn : tOk ad) {v : Int32} {s' : TS} (h : some (ptI s 239 v) = some s') : pF (tp ad s A0) [(53, 39)] (adr ad 2) (.int v) (fun A => A = tp ad s' A0) := by
  cases h
  exact t_pI hn (c := 2) rfl (by decide) (k := 39) rfl rfl rfl (by decide)
theorem tf_2_40 {ad : List Nat} {s : TS} {A0 : lMem} (hn : tOk ad) : gF (tp ad s A0) [(53, 40)] (adr ad 2) (.int (s.1 240)) := t_gF hn (c := 2) rfl (by decide) (k := 40) rfl rfl
theorem tq_2_40 {ad : List Nat} {s : TS} {A0 : lMem} (hn : tOk ad) {v : Int32} {s' : TS} (h : some (ptI s 240 v) = some s') : pF (tp ad s A0) [(53, 40)] (adr ad 2) (.int v) (fun A => A = tp ad s' A0) := by
  cases h
  exact t_pI hn (c := 2) rfl (by decide) (k := 40) rfl rfl rfl (by decide)
theorem tf_2_41 {ad : List Nat} {s : TS} {A0 : lMem} (hn : tOk ad) : gF (tp ad s A0) [(53, 41)] (adr ad 2) (.long (s.2.1 241)) := t_gF hn (c := 2) rfl (by decide) (k := 41) rfl rfl
theorem tq_2_41 {ad : List Nat} {s : TS} {A0 : lMem} (hn : tOk ad) {v : Int64} {s' : TS} (h : some (ptL s 241 v) = some s') : pF (tp ad s A0) [(53, 41)] (adr ad 2) (.long v) (fun A => A = tp ad s' A0) := by
  cases h
  exact t_pJ hn (c := 2) rfl (by decide) (k := 41) rfl rfl rfl (by decide)
theorem tf_2_42 {ad : List Nat} {s : TS} {A0 : lMem} (hn : tOk ad) : gF (tp ad s A0) [(53, 42)] (adr ad 2) (.long (s.2.1 242)) := t_gF hn (c := 2) rfl (by decide) (k := 42) rfl rfl
theorem tq_2_42 {ad : List Nat} {s : TS} {A0 : lMem} (hn : tOk ad) {v : Int64} {s' : TS} (h : some (ptL s 242 v) = some s') : pF (tp ad s A0) [(53, 42)] (adr ad 2) (.long v) (fun A => A = tp ad s' A0) := by
  cases h
  exact t_pJ hn (c := 2) rfl (by decide) (k := 42) rfl rfl rfl (by decide)
theorem tf_2_43 {ad : List Nat} {s : TS} {A0 : lMem} (hn : tOk ad) : gF (tp ad s A0) [(53, 43)] (adr ad 2) (.long (s.2.1 243)) := t_gF hn (c := 2) rfl (by decide) (k := 43) rfl rfl
theorem tq_2_43 {ad : List Nat} {s : TS} {A0 : lMem} (hn : tOk ad) {v : Int64} {s' : TS} (h : some (ptL s 243 v) = some s') : pF (tp ad s A0) [(53, 43)] (adr ad 2) (.long v) (fun A => A = tp ad s' A0) := by
  cases h
  exact t_pJ hn (c := 2) rfl (by decide) (k := 43) rfl rfl rfl (by decide)
theorem tk_3 {ad : List Nat} {s : TS} {A0 : lMem} (hn : tOk ad) {tab : List (Nat × Nat)} {mi : Nat} (h : lLook tab 54 = some mi) : kV (tp ad s A0) tab (adr ad 3) mi := t_kV hn (c := 3) rfl (by decide) h
theorem tf_3_0 {ad : List Nat} {s : TS} {A0 : lMem} (hn : tOk ad) : gF (tp ad s A0) [(54, 0)] (adr ad 3) (.int (s.1 300)) := t_gF hn (c := 3) rfl (by decide) (k := 0) rfl rfl
theorem tq_3_0 {ad : List Nat} {s : TS} {A0 : lMem} (hn : tOk ad) {v : Int32} {s' : TS} (h : some (ptI s 300 v) = some s') : pF (tp ad s A0) [(54, 0)] (adr ad 3) (.int v) (fun A => A = tp ad s' A0) := by
  cases h
  exact t_pI hn (c := 3) rfl (by decide) (k := 0) rfl rfl rfl (by decide)
theorem tf_3_1 {ad : List Nat} {s : TS} {A0 : lMem} (hn : tOk ad) : gF (tp ad s A0) [(54, 1)] (adr ad 3) (.int (s.1 301)) := t_gF hn (c := 3) rfl (by decide) (k := 1) rfl rfl
theorem tq_3_1 {ad : List Nat} {s : TS} {A0 : lMem} (hn : tOk ad) {v : Int32} {s' : TS} (h : some (ptI s 301 v) = some s') : pF (tp ad s A0) [(54, 1)] (adr ad 3) (.int v) (fun A => A = tp ad s' A0) := by
  cases h
  exact t_pI hn (c := 3) rfl (by decide) (k := 1) rfl rfl rfl (by decide)
theorem tf_3_2 {ad : List Nat} {s : TS} {A0 : lMem} (hn : tOk ad) : gF (tp ad s A0) [(54, 2)] (adr ad 3) (.ref (adr ad 99)) := t_gF hn (c := 3) rfl (by decide) (k := 2) rfl rfl
theorem tf_3_3 {ad : List Nat} {s : TS} {A0 : lMem} (hn : tOk ad) : gF (tp ad s A0) [(54, 3)] (adr ad 3) (.ref (adr ad 100)) := t_gF hn (c := 3) rfl (by decide) (k := 3) rfl rfl
theorem tf_3_4 {ad : List Nat} {s : TS} {A0 : lMem} (hn : tOk ad) : gF (tp ad s A0) [(54, 4)] (adr ad 3) (.ref (adr ad 101)) := t_gF hn (c := 3) rfl (by decide) (k := 4) rfl rfl
theorem tf_3_5 {ad : List Nat} {s : TS} {A0 : lMem} (hn : tOk ad) : gF (tp ad s A0) [(54, 5)] (adr ad 3) (.ref (adr ad 102)) := t_gF hn (c := 3) rfl (by decide) (k := 5) rfl rfl
theorem tf_3_6 {ad : List Nat} {s : TS} {A0 : lMem} (hn : tOk ad) : gF (tp ad s A0) [(54, 6)] (adr ad 3) (.int (s.1 306)) := t_gF hn (c := 3) rfl (by decide) (k := 6) rfl rfl
theorem tq_3_6 {ad : List Nat} {s : TS} {A0 : lMem} (hn : tOk ad) {v : Int32} {s' : TS} (h : some (ptI s 306 v) = some s') : pF (tp ad s A0) [(54, 6)] (adr ad 3) (.int v) (fun A => A = tp ad s' A0) := by
  cases h
  exact t_pI hn (c := 3) rfl (by decide) (k := 6) rfl rfl rfl (by decide)
theorem tf_3_7 {ad : List Nat} {s : TS} {A0 : lMem} (hn : tOk ad) : gF (tp ad s A0) [(54, 7)] (adr ad 3) (.int (s.1 307)) := t_gF hn (c := 3) rfl (by decide) (k := 7) rfl rfl
theorem tq_3_7 {ad : List Nat} {s : TS} {A0 : lMem} (hn : tOk ad) {v : Int32} {s' : TS} (h : some (ptI s 307 v) = some s') : pF (tp ad s A0) [(54, 7)] (adr ad 3) (.int v) (fun A => A = tp ad s' A0) := by
  cases h
  exact t_pI hn (c := 3) rfl (by decide) (k := 7) rfl rfl rfl (by decide)
theorem tf_3_8 {ad : List Nat} {s : TS} {A0 : lMem} (hn : tOk ad) : gF (tp ad s A0) [(54, 8)] (adr ad 3) (.ref (adr ad 103)) := t_gF hn (c := 3) rfl (by decide) (k := 8) rfl rfl
theorem tf_3_9 {ad : List Nat} {s : TS} {A0 : lMem} (hn : tOk ad) : gF (tp ad s A0) [(54, 9)] (adr ad 3) (.ref (adr ad 104)) := t_gF hn (c := 3) rfl (by decide) (k := 9) rfl rfl
theorem tf_3_10 {ad : List Nat} {s : TS} {A0 : lMem} (hn : tOk ad) : gF (tp ad s A0) [(54, 10)] (adr ad 3) (.int (s.1 310)) := t_gF hn (c := 3) rfl (by decide) (k := 10) rfl rfl
theorem tq_3_10 {ad : List Nat} {s : TS} {A0 : lMem} (hn : tOk ad) {v : Int32} {s' : TS} (h : some (ptI s 310 v) = some s') : pF (tp ad s A0) [(54, 10)] (adr ad 3) (.int v) (fun A => A = tp ad s' A0) := by
  cases h
  exact t_pI hn (c := 3) rfl (by decide) (k := 10) rfl rfl rfl (by decide)
theorem tf_3_11 {ad : List Nat} {s : TS} {A0 : lMem} (hn : tOk ad) : gF (tp ad s A0) [(54, 11)] (adr ad 3) (.int (s.1 311)) := t_gF hn (c := 3) rfl (by decide) (k := 11) rfl rfl
theorem tq_3_11 {ad : List Nat} {s : TS} {A0 : lMem} (hn : tOk ad) {v : Int32} {s' : TS} (h : some (ptI s 311 v) = some s') : pF (tp ad s A0) [(54, 11)] (adr ad 3) (.int v) (fun A => A = tp ad s' A0) := by
  cases h
  exact t_pI hn (c := 3) rfl (by decide) (k := 11) rfl rfl rfl (by decide)
theorem tf_3_12 {ad : List Nat} {s : TS} {A0 : lMem} (hn : tOk ad) : gF (tp ad s A0) [(54, 12)] (adr ad 3) (.ref (adr ad 105)) := t_gF hn (c := 3) rfl (by decide) (k := 12) rfl rfl
theorem tf_3_13 {ad : List Nat} {s : TS} {A0 : lMem} (hn : tOk ad) : gF (tp ad s A0) [(54, 13)] (adr ad 3) (.ref (adr ad 106)) := t_gF hn (c := 3) rfl (by decide) (k := 13) rfl rfl
theorem tf_3_14 {ad : List Nat} {s : TS} {A0 : lMem} (hn : tOk ad) : gF (tp ad s A0) [(54, 14)] (adr ad 3) (.ref (adr ad 107)) := t_gF hn (c := 3) rfl (by decide) (k := 14) rfl rfl
theorem tf_3_15 {ad : List Nat} {s : TS} {A0 : lMem} (hn : tOk ad) : gF (tp ad s A0) [(54, 15)] (adr ad 3) (.ref (adr ad 108)) := t_gF hn (c := 3) rfl (by decide) (k := 15) rfl rfl
theorem tf_3_16 {ad : List Nat} {s : TS} {A0 : lMem} (hn : tOk ad) : gF (tp ad s A0) [(54, 16)] (adr ad 3) (.ref (adr ad 109)) := t_gF hn (c := 3) rfl (by decide) (k := 16) rfl rfl
theorem tf_3_17 {ad : List Nat} {s : TS} {A0 : lMem} (hn : tOk ad) : gF (tp ad s A0) [(54, 17)] (adr ad 3) (.ref (adr ad 110)) := t_gF hn (c := 3) rfl (by decide) (k := 17) rfl rfl
theorem tf_3_18 {ad : List Nat} {s : TS} {A0 : lMem} (hn : tOk ad) : gF (tp ad s A0) [(54, 18)] (adr ad 3) (.ref (adr ad 111)) := t_gF hn (c := 3) rfl (by decide) (k := 18) rfl rfl
theorem tf_3_19 {ad : List Nat} {s : TS} {A0 : lMem} (hn : tOk ad) : gF (tp ad s A0) [(54, 19)] (adr ad 3) (.ref (adr ad 112)) := t_gF hn (c := 3) rfl (by decide) (k := 19) rfl rfl
theorem tf_3_20 {ad : List Nat} {s : TS} {A0 : lMem} (hn : tOk ad) : gF (tp ad s A0) [(54, 20)] (adr ad 3) (.ref (adr ad 113)) := t_gF hn (c := 3) rfl (by decide) (k := 20) rfl rfl
theorem tf_3_21 {ad : List Nat} {s : TS} {A0 : lMem} (hn : tOk ad) : gF (tp ad s A0) [(54, 21)] (adr ad 3) (.int (s.1 321)) := t_gF hn (c := 3) rfl (by decide) (k := 21) rfl rfl
theorem tq_3_21 {ad : List Nat} {s : TS} {A0 : lMem} (hn : tOk ad) {v : Int32} {s' : TS} (h : some (ptI s 321 v) = some s') : pF (tp ad s A0) [(54, 21)] (adr ad 3) (.int v) (fun A => A = tp ad s' A0) := by
  cases h
  exact t_pI hn (c := 3) rfl (by decide) (k := 21) rfl rfl rfl (by decide)
theorem tf_3_22 {ad : List Nat} {s : TS} {A0 : lMem} (hn : tOk ad) : gF (tp ad s A0) [(54, 22)] (adr ad 3) (.int (s.1 322)) := t_gF hn (c := 3) rfl (by decide) (k := 22) rfl rfl
theorem tq_3_22 {ad : List Nat} {s : TS} {A0 : lMem} (hn : tOk ad) {v : Int32} {s' : TS} (h : some (ptI s 322 v) = some s') : pF (tp ad s A0) [(54, 22)] (adr ad 3) (.int v) (fun A => A = tp ad s' A0) := by
  cases h
  exact t_pI hn (c := 3) rfl (by decide) (k := 22) rfl rfl rfl (by decide)
theorem tf_3_23 {ad : List Nat} {s : TS} {A0 : lMem} (hn : tOk ad) : gF (tp ad s A0) [(54, 23)] (adr ad 3) (.ref (adr ad 114)) := t_gF hn (c := 3) rfl (by decide) (k := 23) rfl rfl
theorem tf_3_24 {ad : List Nat} {s : TS} {A0 : lMem} (hn : tOk ad) : gF (tp ad s A0) [(54, 24)] (adr ad 3) (.ref (adr ad 115)) := t_gF hn (c := 3) rfl (by decide) (k := 24) rfl rfl
theorem tf_3_25 {ad : List Nat} {s : TS} {A0 : lMem} (hn : tOk ad) : gF (tp ad s A0) [(54, 25)] (adr ad 3) (.ref (adr ad 116)) := t_gF hn (c := 3) rfl (by decide) (k := 25) rfl rfl
theorem tf_3_26 {ad : List Nat} {s : TS} {A0 : lMem} (hn : tOk ad) : gF (tp ad s A0) [(54, 26)] (adr ad 3) (.ref (adr ad 117)) := t_gF hn (c := 3) rfl (by decide) (k := 26) rfl rfl
theorem tf_3_27 {ad : List Nat} {s : TS} {A0 : lMem} (hn : tOk ad) : gF (tp ad s A0) [(54, 27)] (adr ad 3) (.ref (adr ad 118)) := t_gF hn (c := 3) rfl (by decide) (k := 27) rfl rfl
theorem tf_3_28 {ad : List Nat} {s : TS} {A0 : lMem} (hn : tOk ad) : gF (tp ad s A0) [(54, 28)] (adr ad 3) (.ref (adr ad 119)) := t_gF hn (c := 3) rfl (by decide) (k := 28) rfl rfl
theorem tf_3_29 {ad : List Nat} {s : TS} {A0 : lMem} (hn : tOk ad) : gF (tp ad s A0) [(54, 29)] (adr ad 3) (.ref (adr ad 120)) := t_gF hn (c := 3) rfl (by decide) (k := 29) rfl rfl
theorem tf_3_30 {ad : List Nat} {s : TS} {A0 : lMem} (hn : tOk ad) : gF (tp ad s A0) [(54, 30)] (adr ad 3) (.int (s.1 330)) := t_gF hn (c := 3) rfl (by decide) (k := 30) rfl rfl
theorem tq_3_30 {ad : List Nat} {s : TS} {A0 : lMem} (hn : tOk ad) {v : Int32} {s' : TS} (h : some (ptI s 330 v) = some s') : pF (tp ad s A0) [(54, 30)] (adr ad 3) (.int v) (fun A => A = tp ad s' A0) := by
  cases h
  exact t_pI hn (c := 3) rfl (by decide) (k := 30) rfl rfl rfl (by decide)
theorem tf_3_31 {ad : List Nat} {s : TS} {A0 : lMem} (hn : tOk ad) : gF (tp ad s A0) [(54, 31)] (adr ad 3) (.ref (adr ad 121)) := t_gF hn (c := 3) rfl (by decide) (k := 31) rfl rfl
theorem tf_3_32 {ad : List Nat} {s : TS} {A0 : lMem} (hn : tOk ad) : gF (tp ad s A0) [(54, 32)] (adr ad 3) (.ref (adr ad 122)) := t_gF hn (c := 3) rfl (by decide) (k := 32) rfl rfl
theorem tf_3_33 {ad : List Nat} {s : TS} {A0 : lMem} (hn : tOk ad) : gF (tp ad s A0) [(54, 33)] (adr ad 3) (.ref (adr ad 123)) := t_gF hn (c := 3) rfl (by decide) (k := 33) rfl rfl
theorem tf_3_34 {ad : List Nat} {s : TS} {A0 : lMem} (hn : tOk ad) : gF (tp ad s A0) [(54, 34)] (adr ad 3) (.ref (adr ad 124)) := t_gF hn (c := 3) rfl (by decide) (k := 34) rfl rfl
theorem tf_3_35 {ad : List Nat} {s : TS} {A0 : lMem} (hn : tOk ad) : gF (tp ad s A0) [(54, 35)] (adr ad 3) (.int (s.1 335)) := t_gF hn (c := 3) rfl (by decide) (k := 35) rfl rfl
theorem tq_3_35 {ad : List Nat} {s : TS} {A0 : lMem} (hn : tOk ad) {v : Int32} {s' : TS} (h : some (ptI s 335 v) = some s') : pF (tp ad s A0) [(54, 35)] (adr ad 3) (.int v) (fun A => A = tp ad s' A0) := by
  cases h
  exact t_pI hn (c := 3) rfl (by decide) (k := 35) rfl rfl rfl (by decide)
theorem tk_4 {ad : List Nat} {s : TS} {A0 : lMem} (hn : tOk ad) {tab : List (Nat × Nat)} {mi : Nat} (h : lLook tab 55 = some mi) : kV (tp ad s A0) tab (adr ad 4) mi := t_kV hn (c := 4) rfl (by decide) h
theorem tf_4_0 {ad : List Nat} {s : TS} {A0 : lMem} (hn : tOk ad) : gF (tp ad s A0) [(55, 0)] (adr ad 4) (.int (s.1 400)) := t_gF hn (c := 4) rfl (by decide) (k := 0) rfl rfl
theorem tq_4_0 {ad : List Nat} {s : TS} {A0 : lMem} (hn : tOk ad) {v : Int32} {s' : TS} (h : some (ptI s 400 v) = some s') : pF (tp ad s A0) [(55, 0)] (adr ad 4) (.int v) (fun A => A = tp ad s' A0) := by
  cases h
  exact t_pI hn (c := 4) rfl (by decide) (k := 0) rfl rfl rfl (by decide)
theorem tf_4_1 {ad : List Nat} {s : TS} {A0 : lMem} (hn : tOk ad) : gF (tp ad s A0) [(55, 1)] (adr ad 4) (.ref (adr ad 125)) := t_gF hn (c := 4) rfl (by decide) (k := 1) rfl rfl
theorem tf_4_2 {ad : List Nat} {s : TS} {A0 : lMem} (hn : tOk ad) : gF (tp ad s A0) [(55, 2)] (adr ad 4) (.ref (adr ad 126)) := t_gF hn (c := 4) rfl (by decide) (k := 2) rfl rfl
theorem tf_4_3 {ad : List Nat} {s : TS} {A0 : lMem} (hn : tOk ad) : gF (tp ad s A0) [(55, 3)] (adr ad 4) (.ref (adr ad 127)) := t_gF hn (c := 4) rfl (by decide) (k := 3) rfl rfl
theorem tf_4_4 {ad : List Nat} {s : TS} {A0 : lMem} (hn : tOk ad) : gF (tp ad s A0) [(55, 4)] (adr ad 4) (.ref (adr ad 128)) := t_gF hn (c := 4) rfl (by decide) (k := 4) rfl rfl
theorem tf_4_5 {ad : List Nat} {s : TS} {A0 : lMem} (hn : tOk ad) : gF (tp ad s A0) [(55, 5)] (adr ad 4) (.ref (adr ad 129)) := t_gF hn (c := 4) rfl (by decide) (k := 5) rfl rfl
theorem tf_4_6 {ad : List Nat} {s : TS} {A0 : lMem} (hn : tOk ad) : gF (tp ad s A0) [(55, 6)] (adr ad 4) (.ref (adr ad 130)) := t_gF hn (c := 4) rfl (by decide) (k := 6) rfl rfl
theorem tf_4_7 {ad : List Nat} {s : TS} {A0 : lMem} (hn : tOk ad) : gF (tp ad s A0) [(55, 7)] (adr ad 4) (.ref (adr ad 131)) := t_gF hn (c := 4) rfl (by decide) (k := 7) rfl rfl
theorem tf_4_8 {ad : List Nat} {s : TS} {A0 : lMem} (hn : tOk ad) : gF (tp ad s A0) [(55, 8)] (adr ad 4) (.ref (adr ad 132)) := t_gF hn (c := 4) rfl (by decide) (k := 8) rfl rfl
theorem tf_4_9 {ad : List Nat} {s : TS} {A0 : lMem} (hn : tOk ad) : gF (tp ad s A0) [(55, 9)] (adr ad 4) (.ref (adr ad 133)) := t_gF hn (c := 4) rfl (by decide) (k := 9) rfl rfl
theorem tf_4_10 {ad : List Nat} {s : TS} {A0 : lMem} (hn : tOk ad) : gF (tp ad s A0) [(55, 10)] (adr ad 4) (.ref (adr ad 134)) := t_gF hn (c := 4) rfl (by decide) (k := 10) rfl rfl
theorem tf_4_11 {ad : List Nat} {s : TS} {A0 : lMem} (hn : tOk ad) : gF (tp ad s A0) [(55, 11)] (adr ad 4) (.ref (adr ad 135)) := t_gF hn (c := 4) rfl (by decide) (k := 11) rfl rfl
theorem tf_4_12 {ad : List Nat} {s : TS} {A0 : lMem} (hn : tOk ad) : gF (tp ad s A0) [(55, 12)] (adr ad 4) (.ref (adr ad 136)) := t_gF hn (c := 4) rfl (by decide) (k := 12) rfl rfl
theorem tf_4_13 {ad : List Nat} {s : TS} {A0 : lMem} (hn : tOk ad) : gF (tp ad s A0) [(55, 13)] (adr ad 4) (.ref (adr ad 137)) := t_gF hn (c := 4) rfl (by decide) (k := 13) rfl rfl
theorem tf_4_14 {ad : List Nat} {s : TS} {A0 : lMem} (hn : tOk ad) : gF (tp ad s A0) [(55, 14)] (adr ad 4) (.int (s.1 414)) := t_gF hn (c := 4) rfl (by decide) (k := 14) rfl rfl
theorem tq_4_14 {ad : List Nat} {s : TS} {A0 : lMem} (hn : tOk ad) {v : Int32} {s' : TS} (h : some (ptI s 414 v) = some s') : pF (tp ad s A0) [(55, 14)] (adr ad 4) (.int v) (fun A => A = tp ad s' A0) := by
  cases h
  exact t_pI hn (c := 4) rfl (by decide) (k := 14) rfl rfl rfl (by decide)
theorem tf_4_15 {ad : List Nat} {s : TS} {A0 : lMem} (hn : tOk ad) : gF (tp ad s A0) [(55, 15)] (adr ad 4) (.ref (adr ad 138)) := t_gF hn (c := 4) rfl (by decide) (k := 15) rfl rfl
theorem tf_4_16 {ad : List Nat} {s : TS} {A0 : lMem} (hn : tOk ad) : gF (tp ad s A0) [(55, 16)] (adr ad 4) (.ref (adr ad 139)) := t_gF hn (c := 4) rfl (by decide) (k := 16) rfl rfl
theorem tf_4_17 {ad : List Nat} {s : TS} {A0 : lMem} (hn : tOk ad) : gF (tp ad s A0) [(55, 17)] (adr ad 4) (.ref (adr ad 140)) := t_gF hn (c := 4) rfl (by decide) (k := 17) rfl rfl
theorem tf_4_18 {ad : List Nat} {s : TS} {A0 : lMem} (hn : tOk ad) : gF (tp ad s A0) [(55, 18)] (adr ad 4) (.int (s.1 418)) := t_gF hn (c := 4) rfl (by decide) (k := 18) rfl rfl
theorem tq_4_18 {ad : List Nat} {s : TS} {A0 : lMem} (hn : tOk ad) {v : Int32} {s' : TS} (h : some (ptI s 418 v) = some s') : pF (tp ad s A0) [(55, 18)] (adr ad 4) (.int v) (fun A => A = tp ad s' A0) := by
  cases h
  exact t_pI hn (c := 4) rfl (by decide) (k := 18) rfl rfl rfl (by decide)
theorem tk_5 {ad : List Nat} {s : TS} {A0 : lMem} (hn : tOk ad) {tab : List (Nat × Nat)} {mi : Nat} (h : lLook tab 57 = some mi) : kV (tp ad s A0) tab (adr ad 5) mi := t_kV hn (c := 5) rfl (by decide) h
theorem tf_5_0 {ad : List Nat} {s : TS} {A0 : lMem} (hn : tOk ad) : gF (tp ad s A0) [(57, 0)] (adr ad 5) (.int (s.1 500)) := t_gF hn (c := 5) rfl (by decide) (k := 0) rfl rfl
theorem tq_5_0 {ad : List Nat} {s : TS} {A0 : lMem} (hn : tOk ad) {v : Int32} {s' : TS} (h : some (ptI s 500 v) = some s') : pF (tp ad s A0) [(57, 0)] (adr ad 5) (.int v) (fun A => A = tp ad s' A0) := by
  cases h
  exact t_pI hn (c := 5) rfl (by decide) (k := 0) rfl rfl rfl (by decide)
theorem tf_5_1 {ad : List Nat} {s : TS} {A0 : lMem} (hn : tOk ad) : gF (tp ad s A0) [(57, 1)] (adr ad 5) (.ref (adr ad 141)) := t_gF hn (c := 5) rfl (by decide) (k := 1) rfl rfl
theorem tf_5_2 {ad : List Nat} {s : TS} {A0 : lMem} (hn : tOk ad) : gF (tp ad s A0) [(57, 2)] (adr ad 5) (.ref (adr ad 142)) := t_gF hn (c := 5) rfl (by decide) (k := 2) rfl rfl
theorem tf_5_3 {ad : List Nat} {s : TS} {A0 : lMem} (hn : tOk ad) : gF (tp ad s A0) [(57, 3)] (adr ad 5) (.int (s.1 503)) := t_gF hn (c := 5) rfl (by decide) (k := 3) rfl rfl
theorem tq_5_3 {ad : List Nat} {s : TS} {A0 : lMem} (hn : tOk ad) {v : Int32} {s' : TS} (h : some (ptI s 503 v) = some s') : pF (tp ad s A0) [(57, 3)] (adr ad 5) (.int v) (fun A => A = tp ad s' A0) := by
  cases h
  exact t_pI hn (c := 5) rfl (by decide) (k := 3) rfl rfl rfl (by decide)
theorem tf_5_4 {ad : List Nat} {s : TS} {A0 : lMem} (hn : tOk ad) : gF (tp ad s A0) [(57, 4)] (adr ad 5) (.ref (adr ad 143)) := t_gF hn (c := 5) rfl (by decide) (k := 4) rfl rfl
theorem tf_5_5 {ad : List Nat} {s : TS} {A0 : lMem} (hn : tOk ad) : gF (tp ad s A0) [(57, 5)] (adr ad 5) (.ref (adr ad 144)) := t_gF hn (c := 5) rfl (by decide) (k := 5) rfl rfl
theorem tf_5_6 {ad : List Nat} {s : TS} {A0 : lMem} (hn : tOk ad) : gF (tp ad s A0) [(57, 6)] (adr ad 5) (.ref (adr ad 145)) := t_gF hn (c := 5) rfl (by decide) (k := 6) rfl rfl
theorem tf_5_7 {ad : List Nat} {s : TS} {A0 : lMem} (hn : tOk ad) : gF (tp ad s A0) [(57, 7)] (adr ad 5) (.ref (adr ad 146)) := t_gF hn (c := 5) rfl (by decide) (k := 7) rfl rfl
theorem tf_5_8 {ad : List Nat} {s : TS} {A0 : lMem} (hn : tOk ad) : gF (tp ad s A0) [(57, 8)] (adr ad 5) (.ref (adr ad 147)) := t_gF hn (c := 5) rfl (by decide) (k := 8) rfl rfl
theorem tf_5_9 {ad : List Nat} {s : TS} {A0 : lMem} (hn : tOk ad) : gF (tp ad s A0) [(57, 9)] (adr ad 5) (.ref (adr ad 148)) := t_gF hn (c := 5) rfl (by decide) (k := 9) rfl rfl
theorem tf_5_10 {ad : List Nat} {s : TS} {A0 : lMem} (hn : tOk ad) : gF (tp ad s A0) [(57, 10)] (adr ad 5) (.ref (adr ad 149)) := t_gF hn (c := 5) rfl (by decide) (k := 10) rfl rfl
theorem tf_5_11 {ad : List Nat} {s : TS} {A0 : lMem} (hn : tOk ad) : gF (tp ad s A0) [(57, 11)] (adr ad 5) (.ref (adr ad 150)) := t_gF hn (c := 5) rfl (by decide) (k := 11) rfl rfl
theorem tf_5_12 {ad : List Nat} {s : TS} {A0 : lMem} (hn : tOk ad) : gF (tp ad s A0) [(57, 12)] (adr ad 5) (.ref (adr ad 151)) := t_gF hn (c := 5) rfl (by decide) (k := 12) rfl rfl
theorem tf_5_13 {ad : List Nat} {s : TS} {A0 : lMem} (hn : tOk ad) : gF (tp ad s A0) [(57, 13)] (adr ad 5) (.ref (adr ad 152)) := t_gF hn (c := 5) rfl (by decide) (k := 13) rfl rfl
theorem tf_5_14 {ad : List Nat} {s : TS} {A0 : lMem} (hn : tOk ad) : gF (tp ad s A0) [(57, 14)] (adr ad 5) (.ref (adr ad 153)) := t_gF hn (c := 5) rfl (by decide) (k := 14) rfl rfl
theorem tf_5_15 {ad : List Nat} {s : TS} {A0 : lMem} (hn : tOk ad) : gF (tp ad s A0) [(57, 15)] (adr ad 5) (.ref (adr ad 154)) := t_gF hn (c := 5) rfl (by decide) (k := 15) rfl rfl
theorem tf_5_16 {ad : List Nat} {s : TS} {A0 : lMem} (hn : tOk ad) : gF (tp ad s A0) [(57, 16)] (adr ad 5) (.int (s.1 516)) := t_gF hn (c := 5) rfl (by decide) (k := 16) rfl rfl
theorem tq_5_16 {ad : List Nat} {s : TS} {A0 : lMem} (hn : tOk ad) {v : Int32} {s' : TS} (h : some (ptI s 516 v) = some s') : pF (tp ad s A0) [(57, 16)] (adr ad 5) (.int v) (fun A => A = tp ad s' A0) := by
  cases h
  exact t_pI hn (c := 5) rfl (by decide) (k := 16) rfl rfl rfl (by decide)
theorem tf_5_17 {ad : List Nat} {s : TS} {A0 : lMem} (hn : tOk ad) : gF (tp ad s A0) [(57, 17)] (adr ad 5) (.int (s.1 517)) := t_gF hn (c := 5) rfl (by decide) (k := 17) rfl rfl
theorem tq_5_17 {ad : List Nat} {s : TS} {A0 : lMem} (hn : tOk ad) {v : Int32} {s' : TS} (h : some (ptI s 517 v) = some s') : pF (tp ad s A0) [(57, 17)] (adr ad 5) (.int v) (fun A => A = tp ad s' A0) := by
  cases h
  exact t_pI hn (c := 5) rfl (by decide) (k := 17) rfl rfl rfl (by decide)
theorem tf_5_18 {ad : List Nat} {s : TS} {A0 : lMem} (hn : tOk ad) : gF (tp ad s A0) [(57, 18)] (adr ad 5) (.ref (adr ad 155)) := t_gF hn (c := 5) rfl (by decide) (k := 18) rfl rfl
theorem tf_5_19 {ad : List Nat} {s : TS} {A0 : lMem} (hn : tOk ad) : gF (tp ad s A0) [(57, 19)] (adr ad 5) (.int (s.1 519)) := t_gF hn (c := 5) rfl (by decide) (k := 19) rfl rfl
theorem tq_5_19 {ad : List Nat} {s : TS} {A0 : lMem} (hn : tOk ad) {v : Int32} {s' : TS} (h : some (ptI s 519 v) = some s') : pF (tp ad s A0) [(57, 19)] (adr ad 5) (.int v) (fun A => A = tp ad s' A0) := by
  cases h
  exact t_pI hn (c := 5) rfl (by decide) (k := 19) rfl rfl rfl (by decide)
theorem tf_5_20 {ad : List Nat} {s : TS} {A0 : lMem} (hn : tOk ad) : gF (tp ad s A0) [(57, 20)] (adr ad 5) (.int (s.1 520)) := t_gF hn (c := 5) rfl (by decide) (k := 20) rfl rfl
theorem tq_5_20 {ad : List Nat} {s : TS} {A0 : lMem} (hn : tOk ad) {v : Int32} {s' : TS} (h : some (ptI s 520 v) = some s') : pF (tp ad s A0) [(57, 20)] (adr ad 5) (.int v) (fun A => A = tp ad s' A0) := by
  cases h
  exact t_pI hn (c := 5) rfl (by decide) (k := 20) rfl rfl rfl (by decide)
theorem tf_5_21 {ad : List Nat} {s : TS} {A0 : lMem} (hn : tOk ad) : gF (tp ad s A0) [(57, 21)] (adr ad 5) (.int (s.1 521)) := t_gF hn (c := 5) rfl (by decide) (k := 21) rfl rfl
theorem tq_5_21 {ad : List Nat} {s : TS} {A0 : lMem} (hn : tOk ad) {v : Int32} {s' : TS} (h : some (ptI s 521 v) = some s') : pF (tp ad s A0) [(57, 21)] (adr ad 5) (.int v) (fun A => A = tp ad s' A0) := by
  cases h
  exact t_pI hn (c := 5) rfl (by decide) (k := 21) rfl rfl rfl (by decide)
theorem tf_5_22 {ad : List Nat} {s : TS} {A0 : lMem} (hn : tOk ad) : gF (tp ad s A0) [(57, 22)] (adr ad 5) (.ref (adr ad 156)) := t_gF hn (c := 5) rfl (by decide) (k := 22) rfl rfl
theorem tf_5_23 {ad : List Nat} {s : TS} {A0 : lMem} (hn : tOk ad) : gF (tp ad s A0) [(57, 23)] (adr ad 5) (.int (s.1 523)) := t_gF hn (c := 5) rfl (by decide) (k := 23) rfl rfl
theorem tq_5_23 {ad : List Nat} {s : TS} {A0 : lMem} (hn : tOk ad) {v : Int32} {s' : TS} (h : some (ptI s 523 v) = some s') : pF (tp ad s A0) [(57, 23)] (adr ad 5) (.int v) (fun A => A = tp ad s' A0) := by
  cases h
  exact t_pI hn (c := 5) rfl (by decide) (k := 23) rfl rfl rfl (by decide)
theorem tf_5_24 {ad : List Nat} {s : TS} {A0 : lMem} (hn : tOk ad) : gF (tp ad s A0) [(57, 24)] (adr ad 5) (.int (s.1 524)) := t_gF hn (c := 5) rfl (by decide) (k := 24) rfl rfl
theorem tq_5_24 {ad : List Nat} {s : TS} {A0 : lMem} (hn : tOk ad) {v : Int32} {s' : TS} (h : some (ptI s 524 v) = some s') : pF (tp ad s A0) [(57, 24)] (adr ad 5) (.int v) (fun A => A = tp ad s' A0) := by
  cases h
  exact t_pI hn (c := 5) rfl (by decide) (k := 24) rfl rfl rfl (by decide)
theorem tf_5_25 {ad : List Nat} {s : TS} {A0 : lMem} (hn : tOk ad) : gF (tp ad s A0) [(57, 25)] (adr ad 5) (.int (s.1 525)) := t_gF hn (c := 5) rfl (by decide) (k := 25) rfl rfl
theorem tq_5_25 {ad : List Nat} {s : TS} {A0 : lMem} (hn : tOk ad) {v : Int32} {s' : TS} (h : some (ptI s 525 v) = some s') : pF (tp ad s A0) [(57, 25)] (adr ad 5) (.int v) (fun A => A = tp ad s' A0) := by
  cases h
  exact t_pI hn (c := 5) rfl (by decide) (k := 25) rfl rfl rfl (by decide)
theorem tf_5_26 {ad : List Nat} {s : TS} {A0 : lMem} (hn : tOk ad) : gF (tp ad s A0) [(57, 26)] (adr ad 5) (.int (s.1 526)) := t_gF hn (c := 5) rfl (by decide) (k := 26) rfl rfl
theorem tq_5_26 {ad : List Nat} {s : TS} {A0 : lMem} (hn : tOk ad) {v : Int32} {s' : TS} (h : some (ptI s 526 v) = some s') : pF (tp ad s A0) [(57, 26)] (adr ad 5) (.int v) (fun A => A = tp ad s' A0) := by
  cases h
  exact t_pI hn (c := 5) rfl (by decide) (k := 26) rfl rfl rfl (by decide)
theorem tf_5_27 {ad : List Nat} {s : TS} {A0 : lMem} (hn : tOk ad) : gF (tp ad s A0) [(57, 27)] (adr ad 5) (.ref (adr ad 157)) := t_gF hn (c := 5) rfl (by decide) (k := 27) rfl rfl
theorem tf_5_28 {ad : List Nat} {s : TS} {A0 : lMem} (hn : tOk ad) : gF (tp ad s A0) [(57, 28)] (adr ad 5) (.int (s.1 528)) := t_gF hn (c := 5) rfl (by decide) (k := 28) rfl rfl
theorem tq_5_28 {ad : List Nat} {s : TS} {A0 : lMem} (hn : tOk ad) {v : Int32} {s' : TS} (h : some (ptI s 528 v) = some s') : pF (tp ad s A0) [(57, 28)] (adr ad 5) (.int v) (fun A => A = tp ad s' A0) := by
  cases h
  exact t_pI hn (c := 5) rfl (by decide) (k := 28) rfl rfl rfl (by decide)
theorem tk_6 {ad : List Nat} {s : TS} {A0 : lMem} (hn : tOk ad) {tab : List (Nat × Nat)} {mi : Nat} (h : lLook tab 58 = some mi) : kV (tp ad s A0) tab (adr ad 6) mi := t_kV hn (c := 6) rfl (by decide) h
theorem tf_6_0 {ad : List Nat} {s : TS} {A0 : lMem} (hn : tOk ad) : gF (tp ad s A0) [(58, 0)] (adr ad 6) (.int (s.1 600)) := t_gF hn (c := 6) rfl (by decide) (k := 0) rfl rfl
theorem tq_6_0 {ad : List Nat} {s : TS} {A0 : lMem} (hn : tOk ad) {v : Int32} {s' : TS} (h : some (ptI s 600 v) = some s') : pF (tp ad s A0) [(58, 0)] (adr ad 6) (.int v) (fun A => A = tp ad s' A0) := by
  cases h
  exact t_pI hn (c := 6) rfl (by decide) (k := 0) rfl rfl rfl (by decide)
theorem tf_6_1 {ad : List Nat} {s : TS} {A0 : lMem} (hn : tOk ad) : gF (tp ad s A0) [(58, 1)] (adr ad 6) (.ref (adr ad 158)) := t_gF hn (c := 6) rfl (by decide) (k := 1) rfl rfl
theorem tf_6_2 {ad : List Nat} {s : TS} {A0 : lMem} (hn : tOk ad) : gF (tp ad s A0) [(58, 2)] (adr ad 6) (.ref (adr ad 159)) := t_gF hn (c := 6) rfl (by decide) (k := 2) rfl rfl
theorem tf_6_3 {ad : List Nat} {s : TS} {A0 : lMem} (hn : tOk ad) : gF (tp ad s A0) [(58, 3)] (adr ad 6) (.ref (adr ad 160)) := t_gF hn (c := 6) rfl (by decide) (k := 3) rfl rfl
theorem tf_6_4 {ad : List Nat} {s : TS} {A0 : lMem} (hn : tOk ad) : gF (tp ad s A0) [(58, 4)] (adr ad 6) (.ref (adr ad 161)) := t_gF hn (c := 6) rfl (by decide) (k := 4) rfl rfl
theorem tf_6_5 {ad : List Nat} {s : TS} {A0 : lMem} (hn : tOk ad) : gF (tp ad s A0) [(58, 5)] (adr ad 6) (.ref (adr ad 162)) := t_gF hn (c := 6) rfl (by decide) (k := 5) rfl rfl
theorem tf_6_6 {ad : List Nat} {s : TS} {A0 : lMem} (hn : tOk ad) : gF (tp ad s A0) [(58, 6)] (adr ad 6) (.int (s.1 606)) := t_gF hn (c := 6) rfl (by decide) (k := 6) rfl rfl
theorem tq_6_6 {ad : List Nat} {s : TS} {A0 : lMem} (hn : tOk ad) {v : Int32} {s' : TS} (h : some (ptI s 606 v) = some s') : pF (tp ad s A0) [(58, 6)] (adr ad 6) (.int v) (fun A => A = tp ad s' A0) := by
  cases h
  exact t_pI hn (c := 6) rfl (by decide) (k := 6) rfl rfl rfl (by decide)
theorem tf_6_7 {ad : List Nat} {s : TS} {A0 : lMem} (hn : tOk ad) : gF (tp ad s A0) [(58, 7)] (adr ad 6) (.ref (adr ad 163)) := t_gF hn (c := 6) rfl (by decide) (k := 7) rfl rfl
theorem tf_6_8 {ad : List Nat} {s : TS} {A0 : lMem} (hn : tOk ad) : gF (tp ad s A0) [(58, 8)] (adr ad 6) (.ref (adr ad 164)) := t_gF hn (c := 6) rfl (by decide) (k := 8) rfl rfl
theorem tf_6_9 {ad : List Nat} {s : TS} {A0 : lMem} (hn : tOk ad) : gF (tp ad s A0) [(58, 9)] (adr ad 6) (.ref (adr ad 165)) := t_gF hn (c := 6) rfl (by decide) (k := 9) rfl rfl
theorem tf_6_10 {ad : List Nat} {s : TS} {A0 : lMem} (hn : tOk ad) : gF (tp ad s A0) [(58, 10)] (adr ad 6) (.ref (adr ad 166)) := t_gF hn (c := 6) rfl (by decide) (k := 10) rfl rfl
theorem tf_6_11 {ad : List Nat} {s : TS} {A0 : lMem} (hn : tOk ad) : gF (tp ad s A0) [(58, 11)] (adr ad 6) (.ref (adr ad 167)) := t_gF hn (c := 6) rfl (by decide) (k := 11) rfl rfl
theorem tf_6_12 {ad : List Nat} {s : TS} {A0 : lMem} (hn : tOk ad) : gF (tp ad s A0) [(58, 12)] (adr ad 6) (.int (s.1 612)) := t_gF hn (c := 6) rfl (by decide) (k := 12) rfl rfl
theorem tq_6_12 {ad : List Nat} {s : TS} {A0 : lMem} (hn : tOk ad) {v : Int32} {s' : TS} (h : some (ptI s 612 v) = some s') : pF (tp ad s A0) [(58, 12)] (adr ad 6) (.int v) (fun A => A = tp ad s' A0) := by
  cases h
  exact t_pI hn (c := 6) rfl (by decide) (k := 12) rfl rfl rfl (by decide)
theorem tf_6_13 {ad : List Nat} {s : TS} {A0 : lMem} (hn : tOk ad) : gF (tp ad s A0) [(58, 13)] (adr ad 6) (.int (s.1 613)) := t_gF hn (c := 6) rfl (by decide) (k := 13) rfl rfl
theorem tq_6_13 {ad : List Nat} {s : TS} {A0 : lMem} (hn : tOk ad) {v : Int32} {s' : TS} (h : some (ptI s 613 v) = some s') : pF (tp ad s A0) [(58, 13)] (adr ad 6) (.int v) (fun A => A = tp ad s' A0) := by
  cases h
  exact t_pI hn (c := 6) rfl (by decide) (k := 13) rfl rfl rfl (by decide)
theorem tf_6_14 {ad : List Nat} {s : TS} {A0 : lMem} (hn : tOk ad) : gF (tp ad s A0) [(58, 14)] (adr ad 6) (.int (s.1 614)) := t_gF hn (c := 6) rfl (by decide) (k := 14) rfl rfl
theorem tq_6_14 {ad : List Nat} {s : TS} {A0 : lMem} (hn : tOk ad) {v : Int32} {s' : TS} (h : some (ptI s 614 v) = some s') : pF (tp ad s A0) [(58, 14)] (adr ad 6) (.int v) (fun A => A = tp ad s' A0) := by
  cases h
  exact t_pI hn (c := 6) rfl (by decide) (k := 14) rfl rfl rfl (by decide)
theorem tf_6_15 {ad : List Nat} {s : TS} {A0 : lMem} (hn : tOk ad) : gF (tp ad s A0) [(58, 15)] (adr ad 6) (.ref (adr ad 168)) := t_gF hn (c := 6) rfl (by decide) (k := 15) rfl rfl
theorem tf_6_16 {ad : List Nat} {s : TS} {A0 : lMem} (hn : tOk ad) : gF (tp ad s A0) [(58, 16)] (adr ad 6) (.int (s.1 616)) := t_gF hn (c := 6) rfl (by decide) (k := 16) rfl rfl
theorem tq_6_16 {ad : List Nat} {s : TS} {A0 : lMem} (hn : tOk ad) {v : Int32} {s' : TS} (h : some (ptI s 616 v) = some s') : pF (tp ad s A0) [(58, 16)] (adr ad 6) (.int v) (fun A => A = tp ad s' A0) := by
  cases h
  exact t_pI hn (c := 6) rfl (by decide) (k := 16) rfl rfl rfl (by decide)
theorem tf_6_17 {ad : List Nat} {s : TS} {A0 : lMem} (hn : tOk ad) : gF (tp ad s A0) [(58, 17)] (adr ad 6) (.ref (adr ad 169)) := t_gF hn (c := 6) rfl (by decide) (k := 17) rfl rfl
theorem tf_6_18 {ad : List Nat} {s : TS} {A0 : lMem} (hn : tOk ad) : gF (tp ad s A0) [(58, 18)] (adr ad 6) (.ref (adr ad 170)) := t_gF hn (c := 6) rfl (by decide) (k := 18) rfl rfl
theorem tf_6_19 {ad : List Nat} {s : TS} {A0 : lMem} (hn : tOk ad) : gF (tp ad s A0) [(58, 19)] (adr ad 6) (.ref (adr ad 171)) := t_gF hn (c := 6) rfl (by decide) (k := 19) rfl rfl
theorem tf_6_20 {ad : List Nat} {s : TS} {A0 : lMem} (hn : tOk ad) : gF (tp ad s A0) [(58, 20)] (adr ad 6) (.ref (adr ad 172)) := t_gF hn (c := 6) rfl (by decide) (k := 20) rfl rfl
theorem tf_6_21 {ad : List Nat} {s : TS} {A0 : lMem} (hn : tOk ad) : gF (tp ad s A0) [(58, 21)] (adr ad 6) (.ref (adr ad 173)) := t_gF hn (c := 6) rfl (by decide) (k := 21) rfl rfl
theorem tf_6_22 {ad : List Nat} {s : TS} {A0 : lMem} (hn : tOk ad) : gF (tp ad s A0) [(58, 22)] (adr ad 6) (.ref (adr ad 174)) := t_gF hn (c := 6) rfl (by decide) (k := 22) rfl rfl
theorem tf_6_23 {ad : List Nat} {s : TS} {A0 : lMem} (hn : tOk ad) : gF (tp ad s A0) [(58, 23)] (adr ad 6) (.ref (adr ad 175)) := t_gF hn (c := 6) rfl (by decide) (k := 23) rfl rfl
theorem ta_7 {ad : List Nat} {s : TS} {A0 : lMem} (hn : tOk ad) {i x : Int32} (h : rdI s 7 1400 i = some x) : gA (tp ad s A0) [0, 12] (adr ad 7) i (.int x) := t_gA hn (c := 7) (t := 0) rfl rfl rfl (by decide) h
theorem tw_7 {ad : List Nat} {s : TS} {A0 : lMem} (hn : tOk ad) {s' : TS} {i x : Int32} (h : stI s 7 1400 i x = some s') : pA (tp ad s A0) 0 (adr ad 7) i (.int (id x)) (fun A => A = tp ad s' A0) := t_pA hn (c := 7) rfl rfl (by decide) h
theorem ta_8 {ad : List Nat} {s : TS} {A0 : lMem} (hn : tOk ad) {i x : Int32} (h : rdI s 8 1400 i = some x) : gA (tp ad s A0) [0, 12] (adr ad 8) i (.int x) := t_gA hn (c := 8) (t := 0) rfl rfl rfl (by decide) h
theorem tw_8 {ad : List Nat} {s : TS} {A0 : lMem} (hn : tOk ad) {s' : TS} {i x : Int32} (h : stI s 8 1400 i x = some s') : pA (tp ad s A0) 0 (adr ad 8) i (.int (id x)) (fun A => A = tp ad s' A0) := t_pA hn (c := 8) rfl rfl (by decide) h
theorem ta_9 {ad : List Nat} {s : TS} {A0 : lMem} (hn : tOk ad) {i x : Int32} (h : rdI s 9 1400 i = some x) : gA (tp ad s A0) [0, 12] (adr ad 9) i (.int x) := t_gA hn (c := 9) (t := 0) rfl rfl rfl (by decide) h
theorem tw_9 {ad : List Nat} {s : TS} {A0 : lMem} (hn : tOk ad) {s' : TS} {i x : Int32} (h : stI s 9 1400 i x = some s') : pA (tp ad s A0) 0 (adr ad 9) i (.int (id x)) (fun A => A = tp ad s' A0) := t_pA hn (c := 9) rfl rfl (by decide) h
theorem ta_10 {ad : List Nat} {s : TS} {A0 : lMem} (hn : tOk ad) {i x : Int32} (h : rdI s 10 1400 i = some x) : gA (tp ad s A0) [0, 12] (adr ad 10) i (.int x) := t_gA hn (c := 10) (t := 0) rfl rfl rfl (by decide) h
theorem tw_10 {ad : List Nat} {s : TS} {A0 : lMem} (hn : tOk ad) {s' : TS} {i x : Int32} (h : stI s 10 1400 i x = some s') : pA (tp ad s A0) 0 (adr ad 10) i (.int (id x)) (fun A => A = tp ad s' A0) := t_pA hn (c := 10) rfl rfl (by decide) h
theorem ta_11 {ad : List Nat} {s : TS} {A0 : lMem} (hn : tOk ad) {i x : Int32} (h : rdI s 11 1400 i = some x) : gA (tp ad s A0) [0, 12] (adr ad 11) i (.int x) := t_gA hn (c := 11) (t := 0) rfl rfl rfl (by decide) h
theorem tw_11 {ad : List Nat} {s : TS} {A0 : lMem} (hn : tOk ad) {s' : TS} {i x : Int32} (h : stI s 11 1400 i x = some s') : pA (tp ad s A0) 0 (adr ad 11) i (.int (id x)) (fun A => A = tp ad s' A0) := t_pA hn (c := 11) rfl rfl (by decide) h
theorem ta_12 {ad : List Nat} {s : TS} {A0 : lMem} (hn : tOk ad) {i x : Int32} (h : rdI s 12 1400 i = some x) : gA (tp ad s A0) [2, 3] (adr ad 12) i (.int x) := t_gA hn (c := 12) (t := 3) rfl rfl rfl (by decide) h
theorem tw_12 {ad : List Nat} {s : TS} {A0 : lMem} (hn : tOk ad) {s' : TS} {i x : Int32} (h : stI s 12 1400 i (x &&& 1) = some s') : pB (tp ad s A0) (adr ad 12) i x (fun A => A = tp ad s' A0) := t_pB hn (c := 12) rfl h
theorem ta_13 {ad : List Nat} {s : TS} {A0 : lMem} (hn : tOk ad) {i x : Int32} (h : rdI s 13 1400 i = some x) : gA (tp ad s A0) [2, 3] (adr ad 13) i (.int x) := t_gA hn (c := 13) (t := 3) rfl rfl rfl (by decide) h
theorem tw_13 {ad : List Nat} {s : TS} {A0 : lMem} (hn : tOk ad) {s' : TS} {i x : Int32} (h : stI s 13 1400 i (x &&& 1) = some s') : pB (tp ad s A0) (adr ad 13) i x (fun A => A = tp ad s' A0) := t_pB hn (c := 13) rfl h
theorem ta_14 {ad : List Nat} {s : TS} {A0 : lMem} (hn : tOk ad) {i x : Int32} (h : rdI s 14 1400 i = some x) : gA (tp ad s A0) [0, 12] (adr ad 14) i (.int x) := t_gA hn (c := 14) (t := 0) rfl rfl rfl (by decide) h
theorem tw_14 {ad : List Nat} {s : TS} {A0 : lMem} (hn : tOk ad) {s' : TS} {i x : Int32} (h : stI s 14 1400 i x = some s') : pA (tp ad s A0) 0 (adr ad 14) i (.int (id x)) (fun A => A = tp ad s' A0) := t_pA hn (c := 14) rfl rfl (by decide) h
theorem ta_15 {ad : List Nat} {s : TS} {A0 : lMem} (hn : tOk ad) {i x : Int32} (h : rdI s 15 1400 i = some x) : gA (tp ad s A0) [0, 12] (adr ad 15) i (.int x) := t_gA hn (c := 15) (t := 0) rfl rfl rfl (by decide) h
theorem tw_15 {ad : List Nat} {s : TS} {A0 : lMem} (hn : tOk ad) {s' : TS} {i x : Int32} (h : stI s 15 1400 i x = some s') : pA (tp ad s A0) 0 (adr ad 15) i (.int (id x)) (fun A => A = tp ad s' A0) := t_pA hn (c := 15) rfl rfl (by decide) h
theorem ta_16 {ad : List Nat} {s : TS} {A0 : lMem} (hn : tOk ad) {i x : Int32} (h : rdI s 16 1400 i = some x) : gA (tp ad s A0) [0, 12] (adr ad 16) i (.int x) := t_gA hn (c := 16) (t := 0) rfl rfl rfl (by decide) h
theorem tw_16 {ad : List Nat} {s : TS} {A0 : lMem} (hn : tOk ad) {s' : TS} {i x : Int32} (h : stI s 16 1400 i x = some s') : pA (tp ad s A0) 0 (adr ad 16) i (.int (id x)) (fun A => A = tp ad s' A0) := t_pA hn (c := 16) rfl rfl (by decide) h
theorem ta_17 {ad : List Nat} {s : TS} {A0 : lMem} (hn : tOk ad) {i x : Int32} (h : rdI s 17 28000 i = some x) : gA (tp ad s A0) [0, 12] (adr ad 17) i (.int x) := t_gA hn (c := 17) (t := 0) rfl rfl rfl (by decide) h
theorem tw_17 {ad : List Nat} {s : TS} {A0 : lMem} (hn : tOk ad) {s' : TS} {i x : Int32} (h : stI s 17 28000 i x = some s') : pA (tp ad s A0) 0 (adr ad 17) i (.int (id x)) (fun A => A = tp ad s' A0) := t_pA hn (c := 17) rfl rfl (by decide) h
theorem ta_18 {ad : List Nat} {s : TS} {A0 : lMem} (hn : tOk ad) {i x : Int32} (h : rdI s 18 28000 i = some x) : gA (tp ad s A0) [0, 12] (adr ad 18) i (.int x) := t_gA hn (c := 18) (t := 0) rfl rfl rfl (by decide) h
theorem tw_18 {ad : List Nat} {s : TS} {A0 : lMem} (hn : tOk ad) {s' : TS} {i x : Int32} (h : stI s 18 28000 i x = some s') : pA (tp ad s A0) 0 (adr ad 18) i (.int (id x)) (fun A => A = tp ad s' A0) := t_pA hn (c := 18) rfl rfl (by decide) h
theorem ta_19 {ad : List Nat} {s : TS} {A0 : lMem} (hn : tOk ad) {i x : Int32} (h : rdI s 19 28000 i = some x) : gA (tp ad s A0) [0, 12] (adr ad 19) i (.int x) := t_gA hn (c := 19) (t := 0) rfl rfl rfl (by decide) h
theorem tw_19 {ad : List Nat} {s : TS} {A0 : lMem} (hn : tOk ad) {s' : TS} {i x : Int32} (h : stI s 19 28000 i x = some s') : pA (tp ad s A0) 0 (adr ad 19) i (.int (id x)) (fun A => A = tp ad s' A0) := t_pA hn (c := 19) rfl rfl (by decide) h
theorem ta_20 {ad : List Nat} {s : TS} {A0 : lMem} (hn : tOk ad) {i x : Int32} (h : rdI s 20 4100 i = some x) : gA (tp ad s A0) [0, 12] (adr ad 20) i (.int x) := t_gA hn (c := 20) (t := 0) rfl rfl rfl (by decide) h
theorem tw_20 {ad : List Nat} {s : TS} {A0 : lMem} (hn : tOk ad) {s' : TS} {i x : Int32} (h : stI s 20 4100 i x = some s') : pA (tp ad s A0) 0 (adr ad 20) i (.int (id x)) (fun A => A = tp ad s' A0) := t_pA hn (c := 20) rfl rfl (by decide) h
theorem ta_21 {ad : List Nat} {s : TS} {A0 : lMem} (hn : tOk ad) {i x : Int32} (h : rdI s 21 4100 i = some x) : gA (tp ad s A0) [0, 12] (adr ad 21) i (.int x) := t_gA hn (c := 21) (t := 0) rfl rfl rfl (by decide) h
theorem tw_21 {ad : List Nat} {s : TS} {A0 : lMem} (hn : tOk ad) {s' : TS} {i x : Int32} (h : stI s 21 4100 i x = some s') : pA (tp ad s A0) 0 (adr ad 21) i (.int (id x)) (fun A => A = tp ad s' A0) := t_pA hn (c := 21) rfl rfl (by decide) h
theorem ta_22 {ad : List Nat} {s : TS} {A0 : lMem} (hn : tOk ad) {i x : Int32} (h : rdI s 22 40 i = some x) : gA (tp ad s A0) [0, 12] (adr ad 22) i (.int x) := t_gA hn (c := 22) (t := 0) rfl rfl rfl (by decide) h
theorem tw_22 {ad : List Nat} {s : TS} {A0 : lMem} (hn : tOk ad) {s' : TS} {i x : Int32} (h : stI s 22 40 i x = some s') : pA (tp ad s A0) 0 (adr ad 22) i (.int (id x)) (fun A => A = tp ad s' A0) := t_pA hn (c := 22) rfl rfl (by decide) h
theorem ta_23 {ad : List Nat} {s : TS} {A0 : lMem} (hn : tOk ad) {i x : Int32} (h : rdI s 23 40 i = some x) : gA (tp ad s A0) [0, 12] (adr ad 23) i (.int x) := t_gA hn (c := 23) (t := 0) rfl rfl rfl (by decide) h
theorem tw_23 {ad : List Nat} {s : TS} {A0 : lMem} (hn : tOk ad) {s' : TS} {i x : Int32} (h : stI s 23 40 i x = some s') : pA (tp ad s A0) 0 (adr ad 23) i (.int (id x)) (fun A => A = tp ad s' A0) := t_pA hn (c := 23) rfl rfl (by decide) h
theorem ta_24 {ad : List Nat} {s : TS} {A0 : lMem} (hn : tOk ad) {i x : Int32} (h : rdI s 24 40 i = some x) : gA (tp ad s A0) [0, 12] (adr ad 24) i (.int x) := t_gA hn (c := 24) (t := 0) rfl rfl rfl (by decide) h
theorem tw_24 {ad : List Nat} {s : TS} {A0 : lMem} (hn : tOk ad) {s' : TS} {i x : Int32} (h : stI s 24 40 i x = some s') : pA (tp ad s A0) 0 (adr ad 24) i (.int (id x)) (fun A => A = tp ad s' A0) := t_pA hn (c := 24) rfl rfl (by decide) h
theorem ta_25 {ad : List Nat} {s : TS} {A0 : lMem} (hn : tOk ad) {i x : Int32} (h : rdI s 25 40 i = some x) : gA (tp ad s A0) [0, 12] (adr ad 25) i (.int x) := t_gA hn (c := 25) (t := 0) rfl rfl rfl (by decide) h
theorem tw_25 {ad : List Nat} {s : TS} {A0 : lMem} (hn : tOk ad) {s' : TS} {i x : Int32} (h : stI s 25 40 i x = some s') : pA (tp ad s A0) 0 (adr ad 25) i (.int (id x)) (fun A => A = tp ad s' A0) := t_pA hn (c := 25) rfl rfl (by decide) h
theorem ta_26 {ad : List Nat} {s : TS} {A0 : lMem} (hn : tOk ad) {i x : Int32} (h : rdI s 26 40 i = some x) : gA (tp ad s A0) [0, 12] (adr ad 26) i (.int x) := t_gA hn (c := 26) (t := 0) rfl rfl rfl (by decide) h
theorem tw_26 {ad : List Nat} {s : TS} {A0 : lMem} (hn : tOk ad) {s' : TS} {i x : Int32} (h : stI s 26 40 i x = some s') : pA (tp ad s A0) 0 (adr ad 26) i (.int (id x)) (fun A => A = tp ad s' A0) := t_pA hn (c := 26) rfl rfl (by decide) h
theorem ta_27 {ad : List Nat} {s : TS} {A0 : lMem} (hn : tOk ad) {i x : Int32} (h : rdI s 27 40 i = some x) : gA (tp ad s A0) [0, 12] (adr ad 27) i (.int x) := t_gA hn (c := 27) (t := 0) rfl rfl rfl (by decide) h
theorem tw_27 {ad : List Nat} {s : TS} {A0 : lMem} (hn : tOk ad) {s' : TS} {i x : Int32} (h : stI s 27 40 i x = some s') : pA (tp ad s A0) 0 (adr ad 27) i (.int (id x)) (fun A => A = tp ad s' A0) := t_pA hn (c := 27) rfl rfl (by decide) h
theorem ta_28 {ad : List Nat} {s : TS} {A0 : lMem} (hn : tOk ad) {i x : Int32} (h : rdI s 28 40 i = some x) : gA (tp ad s A0) [0, 12] (adr ad 28) i (.int x) := t_gA hn (c := 28) (t := 0) rfl rfl rfl (by decide) h
theorem tw_28 {ad : List Nat} {s : TS} {A0 : lMem} (hn : tOk ad) {s' : TS} {i x : Int32} (h : stI s 28 40 i x = some s') : pA (tp ad s A0) 0 (adr ad 28) i (.int (id x)) (fun A => A = tp ad s' A0) := t_pA hn (c := 28) rfl rfl (by decide) h
theorem ta_29 {ad : List Nat} {s : TS} {A0 : lMem} (hn : tOk ad) {i x : Int32} (h : rdI s 29 40 i = some x) : gA (tp ad s A0) [0, 12] (adr ad 29) i (.int x) := t_gA hn (c := 29) (t := 0) rfl rfl rfl (by decide) h
theorem tw_29 {ad : List Nat} {s : TS} {A0 : lMem} (hn : tOk ad) {s' : TS} {i x : Int32} (h : stI s 29 40 i x = some s') : pA (tp ad s A0) 0 (adr ad 29) i (.int (id x)) (fun A => A = tp ad s' A0) := t_pA hn (c := 29) rfl rfl (by decide) h
theorem ta_30 {ad : List Nat} {s : TS} {A0 : lMem} (hn : tOk ad) {i x : Int32} (h : rdI s 30 60 i = some x) : gA (tp ad s A0) [0, 12] (adr ad 30) i (.int x) := t_gA hn (c := 30) (t := 0) rfl rfl rfl (by decide) h
theorem tw_30 {ad : List Nat} {s : TS} {A0 : lMem} (hn : tOk ad) {s' : TS} {i x : Int32} (h : stI s 30 60 i x = some s') : pA (tp ad s A0) 0 (adr ad 30) i (.int (id x)) (fun A => A = tp ad s' A0) := t_pA hn (c := 30) rfl rfl (by decide) h
theorem ta_31 {ad : List Nat} {s : TS} {A0 : lMem} (hn : tOk ad) {i x : Int32} (h : rdI s 31 60 i = some x) : gA (tp ad s A0) [0, 12] (adr ad 31) i (.int x) := t_gA hn (c := 31) (t := 0) rfl rfl rfl (by decide) h
theorem tw_31 {ad : List Nat} {s : TS} {A0 : lMem} (hn : tOk ad) {s' : TS} {i x : Int32} (h : stI s 31 60 i x = some s') : pA (tp ad s A0) 0 (adr ad 31) i (.int (id x)) (fun A => A = tp ad s' A0) := t_pA hn (c := 31) rfl rfl (by decide) h
theorem ta_32 {ad : List Nat} {s : TS} {A0 : lMem} (hn : tOk ad) {i x : Int32} (h : rdI s 32 16 i = some x) : gA (tp ad s A0) [0, 12] (adr ad 32) i (.int x) := t_gA hn (c := 32) (t := 0) rfl rfl rfl (by decide) h
theorem tw_32 {ad : List Nat} {s : TS} {A0 : lMem} (hn : tOk ad) {s' : TS} {i x : Int32} (h : stI s 32 16 i x = some s') : pA (tp ad s A0) 0 (adr ad 32) i (.int (id x)) (fun A => A = tp ad s' A0) := t_pA hn (c := 32) rfl rfl (by decide) h
theorem ta_33 {ad : List Nat} {s : TS} {A0 : lMem} (hn : tOk ad) {i x : Int32} (h : rdI s 33 16 i = some x) : gA (tp ad s A0) [0, 12] (adr ad 33) i (.int x) := t_gA hn (c := 33) (t := 0) rfl rfl rfl (by decide) h
theorem tw_33 {ad : List Nat} {s : TS} {A0 : lMem} (hn : tOk ad) {s' : TS} {i x : Int32} (h : stI s 33 16 i x = some s') : pA (tp ad s A0) 0 (adr ad 33) i (.int (id x)) (fun A => A = tp ad s' A0) := t_pA hn (c := 33) rfl rfl (by decide) h
theorem ta_34 {ad : List Nat} {s : TS} {A0 : lMem} (hn : tOk ad) {i x : Int32} (h : rdI s 34 16 i = some x) : gA (tp ad s A0) [0, 12] (adr ad 34) i (.int x) := t_gA hn (c := 34) (t := 0) rfl rfl rfl (by decide) h
theorem tw_34 {ad : List Nat} {s : TS} {A0 : lMem} (hn : tOk ad) {s' : TS} {i x : Int32} (h : stI s 34 16 i x = some s') : pA (tp ad s A0) 0 (adr ad 34) i (.int (id x)) (fun A => A = tp ad s' A0) := t_pA hn (c := 34) rfl rfl (by decide) h
theorem ta_35 {ad : List Nat} {s : TS} {A0 : lMem} (hn : tOk ad) {i x : Int32} (h : rdI s 35 16 i = some x) : gA (tp ad s A0) [0, 12] (adr ad 35) i (.int x) := t_gA hn (c := 35) (t := 0) rfl rfl rfl (by decide) h
theorem tw_35 {ad : List Nat} {s : TS} {A0 : lMem} (hn : tOk ad) {s' : TS} {i x : Int32} (h : stI s 35 16 i x = some s') : pA (tp ad s A0) 0 (adr ad 35) i (.int (id x)) (fun A => A = tp ad s' A0) := t_pA hn (c := 35) rfl rfl (by decide) h
theorem ta_36 {ad : List Nat} {s : TS} {A0 : lMem} (hn : tOk ad) {i x : Int32} (h : rdI s 36 16 i = some x) : gA (tp ad s A0) [0, 12] (adr ad 36) i (.int x) := t_gA hn (c := 36) (t := 0) rfl rfl rfl (by decide) h
theorem tw_36 {ad : List Nat} {s : TS} {A0 : lMem} (hn : tOk ad) {s' : TS} {i x : Int32} (h : stI s 36 16 i x = some s') : pA (tp ad s A0) 0 (adr ad 36) i (.int (id x)) (fun A => A = tp ad s' A0) := t_pA hn (c := 36) rfl rfl (by decide) h
theorem ta_37 {ad : List Nat} {s : TS} {A0 : lMem} (hn : tOk ad) {i x : Int32} (h : rdI s 37 4100 i = some x) : gA (tp ad s A0) [0, 12] (adr ad 37) i (.int x) := t_gA hn (c := 37) (t := 0) rfl rfl rfl (by decide) h
theorem tw_37 {ad : List Nat} {s : TS} {A0 : lMem} (hn : tOk ad) {s' : TS} {i x : Int32} (h : stI s 37 4100 i x = some s') : pA (tp ad s A0) 0 (adr ad 37) i (.int (id x)) (fun A => A = tp ad s' A0) := t_pA hn (c := 37) rfl rfl (by decide) h
theorem ta_38 {ad : List Nat} {s : TS} {A0 : lMem} (hn : tOk ad) {i x : Int32} (h : rdI s 38 4100 i = some x) : gA (tp ad s A0) [0, 12] (adr ad 38) i (.int x) := t_gA hn (c := 38) (t := 0) rfl rfl rfl (by decide) h
theorem tw_38 {ad : List Nat} {s : TS} {A0 : lMem} (hn : tOk ad) {s' : TS} {i x : Int32} (h : stI s 38 4100 i x = some s') : pA (tp ad s A0) 0 (adr ad 38) i (.int (id x)) (fun A => A = tp ad s' A0) := t_pA hn (c := 38) rfl rfl (by decide) h
theorem ta_39 {ad : List Nat} {s : TS} {A0 : lMem} (hn : tOk ad) {i x : Int32} (h : rdI s 39 4100 i = some x) : gA (tp ad s A0) [0, 12] (adr ad 39) i (.int x) := t_gA hn (c := 39) (t := 0) rfl rfl rfl (by decide) h
theorem tw_39 {ad : List Nat} {s : TS} {A0 : lMem} (hn : tOk ad) {s' : TS} {i x : Int32} (h : stI s 39 4100 i x = some s') : pA (tp ad s A0) 0 (adr ad 39) i (.int (id x)) (fun A => A = tp ad s' A0) := t_pA hn (c := 39) rfl rfl (by decide) h
theorem ta_40 {ad : List Nat} {s : TS} {A0 : lMem} (hn : tOk ad) {i x : Int32} (h : rdI s 40 100 i = some x) : gA (tp ad s A0) [0, 12] (adr ad 40) i (.int x) := t_gA hn (c := 40) (t := 0) rfl rfl rfl (by decide) h
theorem tw_40 {ad : List Nat} {s : TS} {A0 : lMem} (hn : tOk ad) {s' : TS} {i x : Int32} (h : stI s 40 100 i x = some s') : pA (tp ad s A0) 0 (adr ad 40) i (.int (id x)) (fun A => A = tp ad s' A0) := t_pA hn (c := 40) rfl rfl (by decide) h
theorem ta_41 {ad : List Nat} {s : TS} {A0 : lMem} (hn : tOk ad) {i x : Int32} (h : rdI s 41 100 i = some x) : gA (tp ad s A0) [0, 12] (adr ad 41) i (.int x) := t_gA hn (c := 41) (t := 0) rfl rfl rfl (by decide) h
theorem tw_41 {ad : List Nat} {s : TS} {A0 : lMem} (hn : tOk ad) {s' : TS} {i x : Int32} (h : stI s 41 100 i x = some s') : pA (tp ad s A0) 0 (adr ad 41) i (.int (id x)) (fun A => A = tp ad s' A0) := t_pA hn (c := 41) rfl rfl (by decide) h
theorem ta_42 {ad : List Nat} {s : TS} {A0 : lMem} (hn : tOk ad) {i x : Int32} (h : rdI s 42 100 i = some x) : gA (tp ad s A0) [0, 12] (adr ad 42) i (.int x) := t_gA hn (c := 42) (t := 0) rfl rfl rfl (by decide) h
theorem tw_42 {ad : List Nat} {s : TS} {A0 : lMem} (hn : tOk ad) {s' : TS} {i x : Int32} (h : stI s 42 100 i x = some s') : pA (tp ad s A0) 0 (adr ad 42) i (.int (id x)) (fun A => A = tp ad s' A0) := t_pA hn (c := 42) rfl rfl (by decide) h
theorem ta_43 {ad : List Nat} {s : TS} {A0 : lMem} (hn : tOk ad) {i x : Int32} (h : rdI s 43 100 i = some x) : gA (tp ad s A0) [0, 12] (adr ad 43) i (.int x) := t_gA hn (c := 43) (t := 0) rfl rfl rfl (by decide) h
theorem tw_43 {ad : List Nat} {s : TS} {A0 : lMem} (hn : tOk ad) {s' : TS} {i x : Int32} (h : stI s 43 100 i x = some s') : pA (tp ad s A0) 0 (adr ad 43) i (.int (id x)) (fun A => A = tp ad s' A0) := t_pA hn (c := 43) rfl rfl (by decide) h
theorem ta_44 {ad : List Nat} {s : TS} {A0 : lMem} (hn : tOk ad) {i x : Int32} (h : rdI s 44 576 i = some x) : gA (tp ad s A0) [2, 3] (adr ad 44) i (.int x) := t_gA hn (c := 44) (t := 3) rfl rfl rfl (by decide) h
theorem tw_44 {ad : List Nat} {s : TS} {A0 : lMem} (hn : tOk ad) {s' : TS} {i x : Int32} (h : stI s 44 576 i (x &&& 1) = some s') : pB (tp ad s A0) (adr ad 44) i x (fun A => A = tp ad s' A0) := t_pB hn (c := 44) rfl h
theorem ta_45 {ad : List Nat} {s : TS} {A0 : lMem} (hn : tOk ad) {i x : Int32} (h : rdI s 45 576 i = some x) : gA (tp ad s A0) [2, 3] (adr ad 45) i (.int x) := t_gA hn (c := 45) (t := 3) rfl rfl rfl (by decide) h
theorem tw_45 {ad : List Nat} {s : TS} {A0 : lMem} (hn : tOk ad) {s' : TS} {i x : Int32} (h : stI s 45 576 i (x &&& 1) = some s') : pB (tp ad s A0) (adr ad 45) i x (fun A => A = tp ad s' A0) := t_pB hn (c := 45) rfl h
theorem ta_46 {ad : List Nat} {s : TS} {A0 : lMem} (hn : tOk ad) {i x : Int32} (h : rdI s 46 576 i = some x) : gA (tp ad s A0) [0, 12] (adr ad 46) i (.int x) := t_gA hn (c := 46) (t := 0) rfl rfl rfl (by decide) h
theorem tw_46 {ad : List Nat} {s : TS} {A0 : lMem} (hn : tOk ad) {s' : TS} {i x : Int32} (h : stI s 46 576 i x = some s') : pA (tp ad s A0) 0 (adr ad 46) i (.int (id x)) (fun A => A = tp ad s' A0) := t_pA hn (c := 46) rfl rfl (by decide) h
theorem ta_47 {ad : List Nat} {s : TS} {A0 : lMem} (hn : tOk ad) {i x : Int32} (h : rdI s 47 576 i = some x) : gA (tp ad s A0) [0, 12] (adr ad 47) i (.int x) := t_gA hn (c := 47) (t := 0) rfl rfl rfl (by decide) h
theorem tw_47 {ad : List Nat} {s : TS} {A0 : lMem} (hn : tOk ad) {s' : TS} {i x : Int32} (h : stI s 47 576 i x = some s') : pA (tp ad s A0) 0 (adr ad 47) i (.int (id x)) (fun A => A = tp ad s' A0) := t_pA hn (c := 47) rfl rfl (by decide) h
theorem ta_48 {ad : List Nat} {s : TS} {A0 : lMem} (hn : tOk ad) {i x : Int32} (h : rdI s 48 120 i = some x) : gA (tp ad s A0) [0, 12] (adr ad 48) i (.int x) := t_gA hn (c := 48) (t := 0) rfl rfl rfl (by decide) h
theorem tw_48 {ad : List Nat} {s : TS} {A0 : lMem} (hn : tOk ad) {s' : TS} {i x : Int32} (h : stI s 48 120 i x = some s') : pA (tp ad s A0) 0 (adr ad 48) i (.int (id x)) (fun A => A = tp ad s' A0) := t_pA hn (c := 48) rfl rfl (by decide) h
theorem ta_49 {ad : List Nat} {s : TS} {A0 : lMem} (hn : tOk ad) {i x : Int32} (h : rdI s 49 40 i = some x) : gA (tp ad s A0) [2, 3] (adr ad 49) i (.int x) := t_gA hn (c := 49) (t := 3) rfl rfl rfl (by decide) h
theorem tw_49 {ad : List Nat} {s : TS} {A0 : lMem} (hn : tOk ad) {s' : TS} {i x : Int32} (h : stI s 49 40 i (x &&& 1) = some s') : pB (tp ad s A0) (adr ad 49) i x (fun A => A = tp ad s' A0) := t_pB hn (c := 49) rfl h
theorem ta_50 {ad : List Nat} {s : TS} {A0 : lMem} (hn : tOk ad) {i x : Int32} (h : rdI s 50 20 i = some x) : gA (tp ad s A0) [0, 12] (adr ad 50) i (.int x) := t_gA hn (c := 50) (t := 0) rfl rfl rfl (by decide) h
theorem tw_50 {ad : List Nat} {s : TS} {A0 : lMem} (hn : tOk ad) {s' : TS} {i x : Int32} (h : stI s 50 20 i x = some s') : pA (tp ad s A0) 0 (adr ad 50) i (.int (id x)) (fun A => A = tp ad s' A0) := t_pA hn (c := 50) rfl rfl (by decide) h
theorem ta_51 {ad : List Nat} {s : TS} {A0 : lMem} (hn : tOk ad) {i x : Int32} (h : rdI s 51 20 i = some x) : gA (tp ad s A0) [0, 12] (adr ad 51) i (.int x) := t_gA hn (c := 51) (t := 0) rfl rfl rfl (by decide) h
theorem tw_51 {ad : List Nat} {s : TS} {A0 : lMem} (hn : tOk ad) {s' : TS} {i x : Int32} (h : stI s 51 20 i x = some s') : pA (tp ad s A0) 0 (adr ad 51) i (.int (id x)) (fun A => A = tp ad s' A0) := t_pA hn (c := 51) rfl rfl (by decide) h
theorem ta_52 {ad : List Nat} {s : TS} {A0 : lMem} (hn : tOk ad) {i x : Int32} (h : rdI s 52 20 i = some x) : gA (tp ad s A0) [2, 3] (adr ad 52) i (.int x) := t_gA hn (c := 52) (t := 3) rfl rfl rfl (by decide) h
theorem tw_52 {ad : List Nat} {s : TS} {A0 : lMem} (hn : tOk ad) {s' : TS} {i x : Int32} (h : stI s 52 20 i (x &&& 1) = some s') : pB (tp ad s A0) (adr ad 52) i x (fun A => A = tp ad s' A0) := t_pB hn (c := 52) rfl h
theorem ta_53 {ad : List Nat} {s : TS} {A0 : lMem} (hn : tOk ad) {i x : Int32} (h : rdI s 53 20 i = some x) : gA (tp ad s A0) [0, 12] (adr ad 53) i (.int x) := t_gA hn (c := 53) (t := 0) rfl rfl rfl (by decide) h
theorem tw_53 {ad : List Nat} {s : TS} {A0 : lMem} (hn : tOk ad) {s' : TS} {i x : Int32} (h : stI s 53 20 i x = some s') : pA (tp ad s A0) 0 (adr ad 53) i (.int (id x)) (fun A => A = tp ad s' A0) := t_pA hn (c := 53) rfl rfl (by decide) h
theorem ta_54 {ad : List Nat} {s : TS} {A0 : lMem} (hn : tOk ad) {i x : Int32} (h : rdI s 54 20 i = some x) : gA (tp ad s A0) [0, 12] (adr ad 54) i (.int x) := t_gA hn (c := 54) (t := 0) rfl rfl rfl (by decide) h
theorem tw_54 {ad : List Nat} {s : TS} {A0 : lMem} (hn : tOk ad) {s' : TS} {i x : Int32} (h : stI s 54 20 i x = some s') : pA (tp ad s A0) 0 (adr ad 54) i (.int (id x)) (fun A => A = tp ad s' A0) := t_pA hn (c := 54) rfl rfl (by decide) h
theorem ta_55 {ad : List Nat} {s : TS} {A0 : lMem} (hn : tOk ad) {i x : Int32} (h : rdI s 55 120 i = some x) : gA (tp ad s A0) [0, 12] (adr ad 55) i (.int x) := t_gA hn (c := 55) (t := 0) rfl rfl rfl (by decide) h
theorem tw_55 {ad : List Nat} {s : TS} {A0 : lMem} (hn : tOk ad) {s' : TS} {i x : Int32} (h : stI s 55 120 i x = some s') : pA (tp ad s A0) 0 (adr ad 55) i (.int (id x)) (fun A => A = tp ad s' A0) := t_pA hn (c := 55) rfl rfl (by decide) h
theorem ta_56 {ad : List Nat} {s : TS} {A0 : lMem} (hn : tOk ad) {i x : Int32} (h : rdI s 56 120 i = some x) : gA (tp ad s A0) [0, 12] (adr ad 56) i (.int x) := t_gA hn (c := 56) (t := 0) rfl rfl rfl (by decide) h
theorem tw_56 {ad : List Nat} {s : TS} {A0 : lMem} (hn : tOk ad) {s' : TS} {i x : Int32} (h : stI s 56 120 i x = some s') : pA (tp ad s A0) 0 (adr ad 56) i (.int (id x)) (fun A => A = tp ad s' A0) := t_pA hn (c := 56) rfl rfl (by decide) h
theorem ta_57 {ad : List Nat} {s : TS} {A0 : lMem} (hn : tOk ad) {i x : Int32} (h : rdI s 57 120 i = some x) : gA (tp ad s A0) [0, 12] (adr ad 57) i (.int x) := t_gA hn (c := 57) (t := 0) rfl rfl rfl (by decide) h
theorem tw_57 {ad : List Nat} {s : TS} {A0 : lMem} (hn : tOk ad) {s' : TS} {i x : Int32} (h : stI s 57 120 i x = some s') : pA (tp ad s A0) 0 (adr ad 57) i (.int (id x)) (fun A => A = tp ad s' A0) := t_pA hn (c := 57) rfl rfl (by decide) h
theorem ta_58 {ad : List Nat} {s : TS} {A0 : lMem} (hn : tOk ad) {i x : Int32} (h : rdI s 58 40 i = some x) : gA (tp ad s A0) [0, 12] (adr ad 58) i (.int x) := t_gA hn (c := 58) (t := 0) rfl rfl rfl (by decide) h
theorem tw_58 {ad : List Nat} {s : TS} {A0 : lMem} (hn : tOk ad) {s' : TS} {i x : Int32} (h : stI s 58 40 i x = some s') : pA (tp ad s A0) 0 (adr ad 58) i (.int (id x)) (fun A => A = tp ad s' A0) := t_pA hn (c := 58) rfl rfl (by decide) h
theorem ta_59 {ad : List Nat} {s : TS} {A0 : lMem} (hn : tOk ad) {i x : Int32} (h : rdI s 59 40 i = some x) : gA (tp ad s A0) [0, 12] (adr ad 59) i (.int x) := t_gA hn (c := 59) (t := 0) rfl rfl rfl (by decide) h
theorem tw_59 {ad : List Nat} {s : TS} {A0 : lMem} (hn : tOk ad) {s' : TS} {i x : Int32} (h : stI s 59 40 i x = some s') : pA (tp ad s A0) 0 (adr ad 59) i (.int (id x)) (fun A => A = tp ad s' A0) := t_pA hn (c := 59) rfl rfl (by decide) h
theorem ta_60 {ad : List Nat} {s : TS} {A0 : lMem} (hn : tOk ad) {i x : Int32} (h : rdI s 60 1764 i = some x) : gA (tp ad s A0) [0, 12] (adr ad 60) i (.int x) := t_gA hn (c := 60) (t := 0) rfl rfl rfl (by decide) h
theorem tw_60 {ad : List Nat} {s : TS} {A0 : lMem} (hn : tOk ad) {s' : TS} {i x : Int32} (h : stI s 60 1764 i x = some s') : pA (tp ad s A0) 0 (adr ad 60) i (.int (id x)) (fun A => A = tp ad s' A0) := t_pA hn (c := 60) rfl rfl (by decide) h
theorem ta_61 {ad : List Nat} {s : TS} {A0 : lMem} (hn : tOk ad) {i x : Int32} (h : rdI s 61 40 i = some x) : gA (tp ad s A0) [0, 12] (adr ad 61) i (.int x) := t_gA hn (c := 61) (t := 0) rfl rfl rfl (by decide) h
theorem tw_61 {ad : List Nat} {s : TS} {A0 : lMem} (hn : tOk ad) {s' : TS} {i x : Int32} (h : stI s 61 40 i x = some s') : pA (tp ad s A0) 0 (adr ad 61) i (.int (id x)) (fun A => A = tp ad s' A0) := t_pA hn (c := 61) rfl rfl (by decide) h
theorem ta_62 {ad : List Nat} {s : TS} {A0 : lMem} (hn : tOk ad) {i x : Int32} (h : rdI s 62 40 i = some x) : gA (tp ad s A0) [0, 12] (adr ad 62) i (.int x) := t_gA hn (c := 62) (t := 0) rfl rfl rfl (by decide) h
theorem tw_62 {ad : List Nat} {s : TS} {A0 : lMem} (hn : tOk ad) {s' : TS} {i x : Int32} (h : stI s 62 40 i x = some s') : pA (tp ad s A0) 0 (adr ad 62) i (.int (id x)) (fun A => A = tp ad s' A0) := t_pA hn (c := 62) rfl rfl (by decide) h
theorem ta_63 {ad : List Nat} {s : TS} {A0 : lMem} (hn : tOk ad) {i x : Int32} (h : rdI s 63 1764 i = some x) : gA (tp ad s A0) [0, 12] (adr ad 63) i (.int x) := t_gA hn (c := 63) (t := 0) rfl rfl rfl (by decide) h
theorem tw_63 {ad : List Nat} {s : TS} {A0 : lMem} (hn : tOk ad) {s' : TS} {i x : Int32} (h : stI s 63 1764 i x = some s') : pA (tp ad s A0) 0 (adr ad 63) i (.int (id x)) (fun A => A = tp ad s' A0) := t_pA hn (c := 63) rfl rfl (by decide) h
theorem ta_64 {ad : List Nat} {s : TS} {A0 : lMem} (hn : tOk ad) {i x : Int32} (h : rdI s 64 400 i = some x) : gA (tp ad s A0) [0, 12] (adr ad 64) i (.int x) := t_gA hn (c := 64) (t := 0) rfl rfl rfl (by decide) h
theorem tw_64 {ad : List Nat} {s : TS} {A0 : lMem} (hn : tOk ad) {s' : TS} {i x : Int32} (h : stI s 64 400 i x = some s') : pA (tp ad s A0) 0 (adr ad 64) i (.int (id x)) (fun A => A = tp ad s' A0) := t_pA hn (c := 64) rfl rfl (by decide) h
theorem ta_65 {ad : List Nat} {s : TS} {A0 : lMem} (hn : tOk ad) {i x : Int32} (h : rdI s 65 400 i = some x) : gA (tp ad s A0) [0, 12] (adr ad 65) i (.int x) := t_gA hn (c := 65) (t := 0) rfl rfl rfl (by decide) h
theorem tw_65 {ad : List Nat} {s : TS} {A0 : lMem} (hn : tOk ad) {s' : TS} {i x : Int32} (h : stI s 65 400 i x = some s') : pA (tp ad s A0) 0 (adr ad 65) i (.int (id x)) (fun A => A = tp ad s' A0) := t_pA hn (c := 65) rfl rfl (by decide) h
theorem ta_66 {ad : List Nat} {s : TS} {A0 : lMem} (hn : tOk ad) {i x : Int32} (h : rdI s 66 460 i = some x) : gA (tp ad s A0) [0, 12] (adr ad 66) i (.int x) := t_gA hn (c := 66) (t := 0) rfl rfl rfl (by decide) h
theorem tw_66 {ad : List Nat} {s : TS} {A0 : lMem} (hn : tOk ad) {s' : TS} {i x : Int32} (h : stI s 66 460 i x = some s') : pA (tp ad s A0) 0 (adr ad 66) i (.int (id x)) (fun A => A = tp ad s' A0) := t_pA hn (c := 66) rfl rfl (by decide) h
theorem ta_67 {ad : List Nat} {s : TS} {A0 : lMem} (hn : tOk ad) {i x : Int32} (h : rdI s 67 460 i = some x) : gA (tp ad s A0) [0, 12] (adr ad 67) i (.int x) := t_gA hn (c := 67) (t := 0) rfl rfl rfl (by decide) h
theorem tw_67 {ad : List Nat} {s : TS} {A0 : lMem} (hn : tOk ad) {s' : TS} {i x : Int32} (h : stI s 67 460 i x = some s') : pA (tp ad s A0) 0 (adr ad 67) i (.int (id x)) (fun A => A = tp ad s' A0) := t_pA hn (c := 67) rfl rfl (by decide) h
theorem ta_68 {ad : List Nat} {s : TS} {A0 : lMem} (hn : tOk ad) {i x : Int32} (h : rdI s 68 460 i = some x) : gA (tp ad s A0) [0, 12] (adr ad 68) i (.int x) := t_gA hn (c := 68) (t := 0) rfl rfl rfl (by decide) h
theorem tw_68 {ad : List Nat} {s : TS} {A0 : lMem} (hn : tOk ad) {s' : TS} {i x : Int32} (h : stI s 68 460 i x = some s') : pA (tp ad s A0) 0 (adr ad 68) i (.int (id x)) (fun A => A = tp ad s' A0) := t_pA hn (c := 68) rfl rfl (by decide) h
theorem ta_69 {ad : List Nat} {s : TS} {A0 : lMem} (hn : tOk ad) {i x : Int32} (h : rdI s 69 460 i = some x) : gA (tp ad s A0) [0, 12] (adr ad 69) i (.int x) := t_gA hn (c := 69) (t := 0) rfl rfl rfl (by decide) h
theorem tw_69 {ad : List Nat} {s : TS} {A0 : lMem} (hn : tOk ad) {s' : TS} {i x : Int32} (h : stI s 69 460 i x = some s') : pA (tp ad s A0) 0 (adr ad 69) i (.int (id x)) (fun A => A = tp ad s' A0) := t_pA hn (c := 69) rfl rfl (by decide) h
theorem ta_70 {ad : List Nat} {s : TS} {A0 : lMem} (hn : tOk ad) {i x : Int32} (h : rdI s 70 460 i = some x) : gA (tp ad s A0) [0, 12] (adr ad 70) i (.int x) := t_gA hn (c := 70) (t := 0) rfl rfl rfl (by decide) h
theorem tw_70 {ad : List Nat} {s : TS} {A0 : lMem} (hn : tOk ad) {s' : TS} {i x : Int32} (h : stI s 70 460 i x = some s') : pA (tp ad s A0) 0 (adr ad 70) i (.int (id x)) (fun A => A = tp ad s' A0) := t_pA hn (c := 70) rfl rfl (by decide) h
theorem ta_71 {ad : List Nat} {s : TS} {A0 : lMem} (hn : tOk ad) {i x : Int32} (h : rdI s 71 920 i = some x) : gA (tp ad s A0) [2, 3] (adr ad 71) i (.int x) := t_gA hn (c := 71) (t := 3) rfl rfl rfl (by decide) h
theorem tw_71 {ad : List Nat} {s : TS} {A0 : lMem} (hn : tOk ad) {s' : TS} {i x : Int32} (h : stI s 71 920 i (x &&& 1) = some s') : pB (tp ad s A0) (adr ad 71) i x (fun A => A = tp ad s' A0) := t_pB hn (c := 71) rfl h
theorem ta_72 {ad : List Nat} {s : TS} {A0 : lMem} (hn : tOk ad) {i x : Int32} (h : rdI s 72 460 i = some x) : gA (tp ad s A0) [0, 12] (adr ad 72) i (.int x) := t_gA hn (c := 72) (t := 0) rfl rfl rfl (by decide) h
theorem tw_72 {ad : List Nat} {s : TS} {A0 : lMem} (hn : tOk ad) {s' : TS} {i x : Int32} (h : stI s 72 460 i x = some s') : pA (tp ad s A0) 0 (adr ad 72) i (.int (id x)) (fun A => A = tp ad s' A0) := t_pA hn (c := 72) rfl rfl (by decide) h
theorem ta_73 {ad : List Nat} {s : TS} {A0 : lMem} (hn : tOk ad) {i x : Int32} (h : rdI s 73 460 i = some x) : gA (tp ad s A0) [0, 12] (adr ad 73) i (.int x) := t_gA hn (c := 73) (t := 0) rfl rfl rfl (by decide) h
theorem tw_73 {ad : List Nat} {s : TS} {A0 : lMem} (hn : tOk ad) {s' : TS} {i x : Int32} (h : stI s 73 460 i x = some s') : pA (tp ad s A0) 0 (adr ad 73) i (.int (id x)) (fun A => A = tp ad s' A0) := t_pA hn (c := 73) rfl rfl (by decide) h
theorem ta_74 {ad : List Nat} {s : TS} {A0 : lMem} (hn : tOk ad) {i x : Int32} (h : rdI s 74 1764 i = some x) : gA (tp ad s A0) [0, 12] (adr ad 74) i (.int x) := t_gA hn (c := 74) (t := 0) rfl rfl rfl (by decide) h
theorem tw_74 {ad : List Nat} {s : TS} {A0 : lMem} (hn : tOk ad) {s' : TS} {i x : Int32} (h : stI s 74 1764 i x = some s') : pA (tp ad s A0) 0 (adr ad 74) i (.int (id x)) (fun A => A = tp ad s' A0) := t_pA hn (c := 74) rfl rfl (by decide) h
theorem ta_75 {ad : List Nat} {s : TS} {A0 : lMem} (hn : tOk ad) {i x : Int32} (h : rdI s 75 401 i = some x) : gA (tp ad s A0) [0, 12] (adr ad 75) i (.int x) := t_gA hn (c := 75) (t := 0) rfl rfl rfl (by decide) h
theorem tw_75 {ad : List Nat} {s : TS} {A0 : lMem} (hn : tOk ad) {s' : TS} {i x : Int32} (h : stI s 75 401 i x = some s') : pA (tp ad s A0) 0 (adr ad 75) i (.int (id x)) (fun A => A = tp ad s' A0) := t_pA hn (c := 75) rfl rfl (by decide) h
theorem ta_76 {ad : List Nat} {s : TS} {A0 : lMem} (hn : tOk ad) {i x : Int32} (h : rdI s 76 800 i = some x) : gA (tp ad s A0) [0, 12] (adr ad 76) i (.int x) := t_gA hn (c := 76) (t := 0) rfl rfl rfl (by decide) h
theorem tw_76 {ad : List Nat} {s : TS} {A0 : lMem} (hn : tOk ad) {s' : TS} {i x : Int32} (h : stI s 76 800 i x = some s') : pA (tp ad s A0) 0 (adr ad 76) i (.int (id x)) (fun A => A = tp ad s' A0) := t_pA hn (c := 76) rfl rfl (by decide) h
theorem ta_77 {ad : List Nat} {s : TS} {A0 : lMem} (hn : tOk ad) {i : Int32} {x : Int64} (h : rdL s 77 40 i = some x) : gA (tp ad s A0) [1] (adr ad 77) i (.long x) := t_gAL hn (c := 77) rfl rfl h
theorem tw_77 {ad : List Nat} {s : TS} {A0 : lMem} (hn : tOk ad) {s' : TS} {i : Int32} {x : Int64} (h : stL s 77 40 i x = some s') : pA (tp ad s A0) 1 (adr ad 77) i (.long x) (fun A => A = tp ad s' A0) := t_pL hn (c := 77) rfl h
theorem ta_78 {ad : List Nat} {s : TS} {A0 : lMem} (hn : tOk ad) {i x : Int32} (h : rdI s 78 40 i = some x) : gA (tp ad s A0) [0, 12] (adr ad 78) i (.int x) := t_gA hn (c := 78) (t := 0) rfl rfl rfl (by decide) h
theorem tw_78 {ad : List Nat} {s : TS} {A0 : lMem} (hn : tOk ad) {s' : TS} {i x : Int32} (h : stI s 78 40 i x = some s') : pA (tp ad s A0) 0 (adr ad 78) i (.int (id x)) (fun A => A = tp ad s' A0) := t_pA hn (c := 78) rfl rfl (by decide) h
theorem ta_79 {ad : List Nat} {s : TS} {A0 : lMem} (hn : tOk ad) {i : Int32} {x : Int64} (h : rdL s 79 24 i = some x) : gA (tp ad s A0) [1] (adr ad 79) i (.long x) := t_gAL hn (c := 79) rfl rfl h
theorem tw_79 {ad : List Nat} {s : TS} {A0 : lMem} (hn : tOk ad) {s' : TS} {i : Int32} {x : Int64} (h : stL s 79 24 i x = some s') : pA (tp ad s A0) 1 (adr ad 79) i (.long x) (fun A => A = tp ad s' A0) := t_pL hn (c := 79) rfl h
theorem ta_80 {ad : List Nat} {s : TS} {A0 : lMem} (hn : tOk ad) {i x : Int32} (h : rdI s 80 24 i = some x) : gA (tp ad s A0) [0, 12] (adr ad 80) i (.int x) := t_gA hn (c := 80) (t := 0) rfl rfl rfl (by decide) h
theorem tw_80 {ad : List Nat} {s : TS} {A0 : lMem} (hn : tOk ad) {s' : TS} {i x : Int32} (h : stI s 80 24 i x = some s') : pA (tp ad s A0) 0 (adr ad 80) i (.int (id x)) (fun A => A = tp ad s' A0) := t_pA hn (c := 80) rfl rfl (by decide) h
theorem ta_81 {ad : List Nat} {s : TS} {A0 : lMem} (hn : tOk ad) {i x : Int32} (h : rdI s 81 24 i = some x) : gA (tp ad s A0) [0, 12] (adr ad 81) i (.int x) := t_gA hn (c := 81) (t := 0) rfl rfl rfl (by decide) h
theorem tw_81 {ad : List Nat} {s : TS} {A0 : lMem} (hn : tOk ad) {s' : TS} {i x : Int32} (h : stI s 81 24 i x = some s') : pA (tp ad s A0) 0 (adr ad 81) i (.int (id x)) (fun A => A = tp ad s' A0) := t_pA hn (c := 81) rfl rfl (by decide) h
theorem ta_82 {ad : List Nat} {s : TS} {A0 : lMem} (hn : tOk ad) {i x : Int32} (h : rdI s 82 24 i = some x) : gA (tp ad s A0) [0, 12] (adr ad 82) i (.int x) := t_gA hn (c := 82) (t := 0) rfl rfl rfl (by decide) h
theorem tw_82 {ad : List Nat} {s : TS} {A0 : lMem} (hn : tOk ad) {s' : TS} {i x : Int32} (h : stI s 82 24 i x = some s') : pA (tp ad s A0) 0 (adr ad 82) i (.int (id x)) (fun A => A = tp ad s' A0) := t_pA hn (c := 82) rfl rfl (by decide) h
theorem ta_83 {ad : List Nat} {s : TS} {A0 : lMem} (hn : tOk ad) {i x : Int32} (h : rdI s 83 120 i = some x) : gA (tp ad s A0) [0, 12] (adr ad 83) i (.int x) := t_gA hn (c := 83) (t := 0) rfl rfl rfl (by decide) h
theorem tw_83 {ad : List Nat} {s : TS} {A0 : lMem} (hn : tOk ad) {s' : TS} {i x : Int32} (h : stI s 83 120 i x = some s') : pA (tp ad s A0) 0 (adr ad 83) i (.int (id x)) (fun A => A = tp ad s' A0) := t_pA hn (c := 83) rfl rfl (by decide) h
theorem ta_84 {ad : List Nat} {s : TS} {A0 : lMem} (hn : tOk ad) {i x : Int32} (h : rdI s 84 120 i = some x) : gA (tp ad s A0) [0, 12] (adr ad 84) i (.int x) := t_gA hn (c := 84) (t := 0) rfl rfl rfl (by decide) h
theorem tw_84 {ad : List Nat} {s : TS} {A0 : lMem} (hn : tOk ad) {s' : TS} {i x : Int32} (h : stI s 84 120 i x = some s') : pA (tp ad s A0) 0 (adr ad 84) i (.int (id x)) (fun A => A = tp ad s' A0) := t_pA hn (c := 84) rfl rfl (by decide) h
theorem ta_85 {ad : List Nat} {s : TS} {A0 : lMem} (hn : tOk ad) {i x : Int32} (h : rdI s 85 120 i = some x) : gA (tp ad s A0) [0, 12] (adr ad 85) i (.int x) := t_gA hn (c := 85) (t := 0) rfl rfl rfl (by decide) h
theorem tw_85 {ad : List Nat} {s : TS} {A0 : lMem} (hn : tOk ad) {s' : TS} {i x : Int32} (h : stI s 85 120 i x = some s') : pA (tp ad s A0) 0 (adr ad 85) i (.int (id x)) (fun A => A = tp ad s' A0) := t_pA hn (c := 85) rfl rfl (by decide) h
theorem ta_86 {ad : List Nat} {s : TS} {A0 : lMem} (hn : tOk ad) {i x : Int32} (h : rdI s 86 120 i = some x) : gA (tp ad s A0) [0, 12] (adr ad 86) i (.int x) := t_gA hn (c := 86) (t := 0) rfl rfl rfl (by decide) h
theorem tw_86 {ad : List Nat} {s : TS} {A0 : lMem} (hn : tOk ad) {s' : TS} {i x : Int32} (h : stI s 86 120 i x = some s') : pA (tp ad s A0) 0 (adr ad 86) i (.int (id x)) (fun A => A = tp ad s' A0) := t_pA hn (c := 86) rfl rfl (by decide) h
theorem ta_87 {ad : List Nat} {s : TS} {A0 : lMem} (hn : tOk ad) {i x : Int32} (h : rdI s 87 800 i = some x) : gA (tp ad s A0) [0, 12] (adr ad 87) i (.int x) := t_gA hn (c := 87) (t := 0) rfl rfl rfl (by decide) h
theorem tw_87 {ad : List Nat} {s : TS} {A0 : lMem} (hn : tOk ad) {s' : TS} {i x : Int32} (h : stI s 87 800 i x = some s') : pA (tp ad s A0) 0 (adr ad 87) i (.int (id x)) (fun A => A = tp ad s' A0) := t_pA hn (c := 87) rfl rfl (by decide) h
theorem ta_88 {ad : List Nat} {s : TS} {A0 : lMem} (hn : tOk ad) {i : Int32} {x : Int64} (h : rdL s 88 800 i = some x) : gA (tp ad s A0) [1] (adr ad 88) i (.long x) := t_gAL hn (c := 88) rfl rfl h
theorem tw_88 {ad : List Nat} {s : TS} {A0 : lMem} (hn : tOk ad) {s' : TS} {i : Int32} {x : Int64} (h : stL s 88 800 i x = some s') : pA (tp ad s A0) 1 (adr ad 88) i (.long x) (fun A => A = tp ad s' A0) := t_pL hn (c := 88) rfl h
theorem ta_89 {ad : List Nat} {s : TS} {A0 : lMem} (hn : tOk ad) {i x : Int32} (h : rdI s 89 12 i = some x) : gA (tp ad s A0) [0, 12] (adr ad 89) i (.int x) := t_gA hn (c := 89) (t := 0) rfl rfl rfl (by decide) h
theorem tw_89 {ad : List Nat} {s : TS} {A0 : lMem} (hn : tOk ad) {s' : TS} {i x : Int32} (h : stI s 89 12 i x = some s') : pA (tp ad s A0) 0 (adr ad 89) i (.int (id x)) (fun A => A = tp ad s' A0) := t_pA hn (c := 89) rfl rfl (by decide) h
theorem ta_90 {ad : List Nat} {s : TS} {A0 : lMem} (hn : tOk ad) {i : Int32} {x : Int64} (h : rdL s 90 12 i = some x) : gA (tp ad s A0) [1] (adr ad 90) i (.long x) := t_gAL hn (c := 90) rfl rfl h
theorem tw_90 {ad : List Nat} {s : TS} {A0 : lMem} (hn : tOk ad) {s' : TS} {i : Int32} {x : Int64} (h : stL s 90 12 i x = some s') : pA (tp ad s A0) 1 (adr ad 90) i (.long x) (fun A => A = tp ad s' A0) := t_pL hn (c := 90) rfl h
theorem ta_91 {ad : List Nat} {s : TS} {A0 : lMem} (hn : tOk ad) {i : Int32} {x : Int64} (h : rdL s 91 12 i = some x) : gA (tp ad s A0) [1] (adr ad 91) i (.long x) := t_gAL hn (c := 91) rfl rfl h
theorem tw_91 {ad : List Nat} {s : TS} {A0 : lMem} (hn : tOk ad) {s' : TS} {i : Int32} {x : Int64} (h : stL s 91 12 i x = some s') : pA (tp ad s A0) 1 (adr ad 91) i (.long x) (fun A => A = tp ad s' A0) := t_pL hn (c := 91) rfl h
theorem ta_92 {ad : List Nat} {s : TS} {A0 : lMem} (hn : tOk ad) {i : Int32} {x : Int64} (h : rdL s 92 12 i = some x) : gA (tp ad s A0) [1] (adr ad 92) i (.long x) := t_gAL hn (c := 92) rfl rfl h
theorem tw_92 {ad : List Nat} {s : TS} {A0 : lMem} (hn : tOk ad) {s' : TS} {i : Int32} {x : Int64} (h : stL s 92 12 i x = some s') : pA (tp ad s A0) 1 (adr ad 92) i (.long x) (fun A => A = tp ad s' A0) := t_pL hn (c := 92) rfl h
theorem ta_93 {ad : List Nat} {s : TS} {A0 : lMem} (hn : tOk ad) {i : Int32} {x : Int64} (h : rdL s 93 12 i = some x) : gA (tp ad s A0) [1] (adr ad 93) i (.long x) := t_gAL hn (c := 93) rfl rfl h
theorem tw_93 {ad : List Nat} {s : TS} {A0 : lMem} (hn : tOk ad) {s' : TS} {i : Int32} {x : Int64} (h : stL s 93 12 i x = some s') : pA (tp ad s A0) 1 (adr ad 93) i (.long x) (fun A => A = tp ad s' A0) := t_pL hn (c := 93) rfl h
theorem ta_94 {ad : List Nat} {s : TS} {A0 : lMem} (hn : tOk ad) {i x : Int32} (h : rdI s 94 12 i = some x) : gA (tp ad s A0) [0, 12] (adr ad 94) i (.int x) := t_gA hn (c := 94) (t := 0) rfl rfl rfl (by decide) h
theorem tw_94 {ad : List Nat} {s : TS} {A0 : lMem} (hn : tOk ad) {s' : TS} {i x : Int32} (h : stI s 94 12 i x = some s') : pA (tp ad s A0) 0 (adr ad 94) i (.int (id x)) (fun A => A = tp ad s' A0) := t_pA hn (c := 94) rfl rfl (by decide) h
theorem ta_95 {ad : List Nat} {s : TS} {A0 : lMem} (hn : tOk ad) {i : Int32} {x : Int64} (h : rdL s 95 12 i = some x) : gA (tp ad s A0) [1] (adr ad 95) i (.long x) := t_gAL hn (c := 95) rfl rfl h
theorem tw_95 {ad : List Nat} {s : TS} {A0 : lMem} (hn : tOk ad) {s' : TS} {i : Int32} {x : Int64} (h : stL s 95 12 i x = some s') : pA (tp ad s A0) 1 (adr ad 95) i (.long x) (fun A => A = tp ad s' A0) := t_pL hn (c := 95) rfl h
theorem ta_96 {ad : List Nat} {s : TS} {A0 : lMem} (hn : tOk ad) {i x : Int32} (h : rdI s 96 200 i = some x) : gA (tp ad s A0) [0, 12] (adr ad 96) i (.int x) := t_gA hn (c := 96) (t := 0) rfl rfl rfl (by decide) h
theorem tw_96 {ad : List Nat} {s : TS} {A0 : lMem} (hn : tOk ad) {s' : TS} {i x : Int32} (h : stI s 96 200 i x = some s') : pA (tp ad s A0) 0 (adr ad 96) i (.int (id x)) (fun A => A = tp ad s' A0) := t_pA hn (c := 96) rfl rfl (by decide) h
theorem ta_97 {ad : List Nat} {s : TS} {A0 : lMem} (hn : tOk ad) {i : Int32} {x : Int64} (h : rdL s 97 130 i = some x) : gA (tp ad s A0) [1] (adr ad 97) i (.long x) := t_gAL hn (c := 97) rfl rfl h
theorem tw_97 {ad : List Nat} {s : TS} {A0 : lMem} (hn : tOk ad) {s' : TS} {i : Int32} {x : Int64} (h : stL s 97 130 i x = some s') : pA (tp ad s A0) 1 (adr ad 97) i (.long x) (fun A => A = tp ad s' A0) := t_pL hn (c := 97) rfl h
theorem ta_98 {ad : List Nat} {s : TS} {A0 : lMem} (hn : tOk ad) {i : Int32} {x : Int64} (h : rdL s 98 130 i = some x) : gA (tp ad s A0) [1] (adr ad 98) i (.long x) := t_gAL hn (c := 98) rfl rfl h
theorem tw_98 {ad : List Nat} {s : TS} {A0 : lMem} (hn : tOk ad) {s' : TS} {i : Int32} {x : Int64} (h : stL s 98 130 i x = some s') : pA (tp ad s A0) 1 (adr ad 98) i (.long x) (fun A => A = tp ad s' A0) := t_pL hn (c := 98) rfl h
theorem ta_99 {ad : List Nat} {s : TS} {A0 : lMem} (hn : tOk ad) {i x : Int32} (h : rdI s 99 50 i = some x) : gA (tp ad s A0) [0, 12] (adr ad 99) i (.int x) := t_gA hn (c := 99) (t := 0) rfl rfl rfl (by decide) h
theorem tw_99 {ad : List Nat} {s : TS} {A0 : lMem} (hn : tOk ad) {s' : TS} {i x : Int32} (h : stI s 99 50 i x = some s') : pA (tp ad s A0) 0 (adr ad 99) i (.int (id x)) (fun A => A = tp ad s' A0) := t_pA hn (c := 99) rfl rfl (by decide) h
theorem ta_100 {ad : List Nat} {s : TS} {A0 : lMem} (hn : tOk ad) {i x : Int32} (h : rdI s 100 50 i = some x) : gA (tp ad s A0) [2, 3] (adr ad 100) i (.int x) := t_gA hn (c := 100) (t := 3) rfl rfl rfl (by decide) h
theorem tw_100 {ad : List Nat} {s : TS} {A0 : lMem} (hn : tOk ad) {s' : TS} {i x : Int32} (h : stI s 100 50 i (x &&& 1) = some s') : pB (tp ad s A0) (adr ad 100) i x (fun A => A = tp ad s' A0) := t_pB hn (c := 100) rfl h
theorem ta_101 {ad : List Nat} {s : TS} {A0 : lMem} (hn : tOk ad) {i x : Int32} (h : rdI s 101 50 i = some x) : gA (tp ad s A0) [0, 12] (adr ad 101) i (.int x) := t_gA hn (c := 101) (t := 0) rfl rfl rfl (by decide) h
theorem tw_101 {ad : List Nat} {s : TS} {A0 : lMem} (hn : tOk ad) {s' : TS} {i x : Int32} (h : stI s 101 50 i x = some s') : pA (tp ad s A0) 0 (adr ad 101) i (.int (id x)) (fun A => A = tp ad s' A0) := t_pA hn (c := 101) rfl rfl (by decide) h
theorem ta_102 {ad : List Nat} {s : TS} {A0 : lMem} (hn : tOk ad) {i x : Int32} (h : rdI s 102 2000 i = some x) : gA (tp ad s A0) [0, 12] (adr ad 102) i (.int x) := t_gA hn (c := 102) (t := 0) rfl rfl rfl (by decide) h
theorem tw_102 {ad : List Nat} {s : TS} {A0 : lMem} (hn : tOk ad) {s' : TS} {i x : Int32} (h : stI s 102 2000 i x = some s') : pA (tp ad s A0) 0 (adr ad 102) i (.int (id x)) (fun A => A = tp ad s' A0) := t_pA hn (c := 102) rfl rfl (by decide) h
theorem ta_103 {ad : List Nat} {s : TS} {A0 : lMem} (hn : tOk ad) {i x : Int32} (h : rdI s 103 2000 i = some x) : gA (tp ad s A0) [0, 12] (adr ad 103) i (.int x) := t_gA hn (c := 103) (t := 0) rfl rfl rfl (by decide) h
theorem tw_103 {ad : List Nat} {s : TS} {A0 : lMem} (hn : tOk ad) {s' : TS} {i x : Int32} (h : stI s 103 2000 i x = some s') : pA (tp ad s A0) 0 (adr ad 103) i (.int (id x)) (fun A => A = tp ad s' A0) := t_pA hn (c := 103) rfl rfl (by decide) h
theorem ta_104 {ad : List Nat} {s : TS} {A0 : lMem} (hn : tOk ad) {i x : Int32} (h : rdI s 104 2000 i = some x) : gA (tp ad s A0) [0, 12] (adr ad 104) i (.int x) := t_gA hn (c := 104) (t := 0) rfl rfl rfl (by decide) h
theorem tw_104 {ad : List Nat} {s : TS} {A0 : lMem} (hn : tOk ad) {s' : TS} {i x : Int32} (h : stI s 104 2000 i x = some s') : pA (tp ad s A0) 0 (adr ad 104) i (.int (id x)) (fun A => A = tp ad s' A0) := t_pA hn (c := 104) rfl rfl (by decide) h
theorem ta_105 {ad : List Nat} {s : TS} {A0 : lMem} (hn : tOk ad) {i x : Int32} (h : rdI s 105 40 i = some x) : gA (tp ad s A0) [2, 3] (adr ad 105) i (.int x) := t_gA hn (c := 105) (t := 3) rfl rfl rfl (by decide) h
theorem tw_105 {ad : List Nat} {s : TS} {A0 : lMem} (hn : tOk ad) {s' : TS} {i x : Int32} (h : stI s 105 40 i (x &&& 1) = some s') : pB (tp ad s A0) (adr ad 105) i x (fun A => A = tp ad s' A0) := t_pB hn (c := 105) rfl h
theorem ta_106 {ad : List Nat} {s : TS} {A0 : lMem} (hn : tOk ad) {i x : Int32} (h : rdI s 106 40 i = some x) : gA (tp ad s A0) [0, 12] (adr ad 106) i (.int x) := t_gA hn (c := 106) (t := 0) rfl rfl rfl (by decide) h
theorem tw_106 {ad : List Nat} {s : TS} {A0 : lMem} (hn : tOk ad) {s' : TS} {i x : Int32} (h : stI s 106 40 i x = some s') : pA (tp ad s A0) 0 (adr ad 106) i (.int (id x)) (fun A => A = tp ad s' A0) := t_pA hn (c := 106) rfl rfl (by decide) h
theorem ta_107 {ad : List Nat} {s : TS} {A0 : lMem} (hn : tOk ad) {i x : Int32} (h : rdI s 107 40 i = some x) : gA (tp ad s A0) [0, 12] (adr ad 107) i (.int x) := t_gA hn (c := 107) (t := 0) rfl rfl rfl (by decide) h
theorem tw_107 {ad : List Nat} {s : TS} {A0 : lMem} (hn : tOk ad) {s' : TS} {i x : Int32} (h : stI s 107 40 i x = some s') : pA (tp ad s A0) 0 (adr ad 107) i (.int (id x)) (fun A => A = tp ad s' A0) := t_pA hn (c := 107) rfl rfl (by decide) h
theorem ta_108 {ad : List Nat} {s : TS} {A0 : lMem} (hn : tOk ad) {i x : Int32} (h : rdI s 108 480 i = some x) : gA (tp ad s A0) [0, 12] (adr ad 108) i (.int x) := t_gA hn (c := 108) (t := 0) rfl rfl rfl (by decide) h
theorem tw_108 {ad : List Nat} {s : TS} {A0 : lMem} (hn : tOk ad) {s' : TS} {i x : Int32} (h : stI s 108 480 i x = some s') : pA (tp ad s A0) 0 (adr ad 108) i (.int (id x)) (fun A => A = tp ad s' A0) := t_pA hn (c := 108) rfl rfl (by decide) h
theorem ta_109 {ad : List Nat} {s : TS} {A0 : lMem} (hn : tOk ad) {i x : Int32} (h : rdI s 109 40 i = some x) : gA (tp ad s A0) [2, 3] (adr ad 109) i (.int x) := t_gA hn (c := 109) (t := 3) rfl rfl rfl (by decide) h
theorem tw_109 {ad : List Nat} {s : TS} {A0 : lMem} (hn : tOk ad) {s' : TS} {i x : Int32} (h : stI s 109 40 i (x &&& 1) = some s') : pB (tp ad s A0) (adr ad 109) i x (fun A => A = tp ad s' A0) := t_pB hn (c := 109) rfl h
theorem ta_110 {ad : List Nat} {s : TS} {A0 : lMem} (hn : tOk ad) {i x : Int32} (h : rdI s 110 40 i = some x) : gA (tp ad s A0) [0, 12] (adr ad 110) i (.int x) := t_gA hn (c := 110) (t := 0) rfl rfl rfl (by decide) h
theorem tw_110 {ad : List Nat} {s : TS} {A0 : lMem} (hn : tOk ad) {s' : TS} {i x : Int32} (h : stI s 110 40 i x = some s') : pA (tp ad s A0) 0 (adr ad 110) i (.int (id x)) (fun A => A = tp ad s' A0) := t_pA hn (c := 110) rfl rfl (by decide) h
theorem ta_111 {ad : List Nat} {s : TS} {A0 : lMem} (hn : tOk ad) {i x : Int32} (h : rdI s 111 40 i = some x) : gA (tp ad s A0) [0, 12] (adr ad 111) i (.int x) := t_gA hn (c := 111) (t := 0) rfl rfl rfl (by decide) h
theorem tw_111 {ad : List Nat} {s : TS} {A0 : lMem} (hn : tOk ad) {s' : TS} {i x : Int32} (h : stI s 111 40 i x = some s') : pA (tp ad s A0) 0 (adr ad 111) i (.int (id x)) (fun A => A = tp ad s' A0) := t_pA hn (c := 111) rfl rfl (by decide) h
theorem ta_112 {ad : List Nat} {s : TS} {A0 : lMem} (hn : tOk ad) {i x : Int32} (h : rdI s 112 40 i = some x) : gA (tp ad s A0) [0, 12] (adr ad 112) i (.int x) := t_gA hn (c := 112) (t := 0) rfl rfl rfl (by decide) h
theorem tw_112 {ad : List Nat} {s : TS} {A0 : lMem} (hn : tOk ad) {s' : TS} {i x : Int32} (h : stI s 112 40 i x = some s') : pA (tp ad s A0) 0 (adr ad 112) i (.int (id x)) (fun A => A = tp ad s' A0) := t_pA hn (c := 112) rfl rfl (by decide) h
theorem ta_113 {ad : List Nat} {s : TS} {A0 : lMem} (hn : tOk ad) {i x : Int32} (h : rdI s 113 40 i = some x) : gA (tp ad s A0) [2, 3] (adr ad 113) i (.int x) := t_gA hn (c := 113) (t := 3) rfl rfl rfl (by decide) h
theorem tw_113 {ad : List Nat} {s : TS} {A0 : lMem} (hn : tOk ad) {s' : TS} {i x : Int32} (h : stI s 113 40 i (x &&& 1) = some s') : pB (tp ad s A0) (adr ad 113) i x (fun A => A = tp ad s' A0) := t_pB hn (c := 113) rfl h
theorem ta_114 {ad : List Nat} {s : TS} {A0 : lMem} (hn : tOk ad) {i x : Int32} (h : rdI s 114 100 i = some x) : gA (tp ad s A0) [0, 12] (adr ad 114) i (.int x) := t_gA hn (c := 114) (t := 0) rfl rfl rfl (by decide) h
theorem tw_114 {ad : List Nat} {s : TS} {A0 : lMem} (hn : tOk ad) {s' : TS} {i x : Int32} (h : stI s 114 100 i x = some s') : pA (tp ad s A0) 0 (adr ad 114) i (.int (id x)) (fun A => A = tp ad s' A0) := t_pA hn (c := 114) rfl rfl (by decide) h
theorem ta_115 {ad : List Nat} {s : TS} {A0 : lMem} (hn : tOk ad) {i x : Int32} (h : rdI s 115 100 i = some x) : gA (tp ad s A0) [0, 12] (adr ad 115) i (.int x) := t_gA hn (c := 115) (t := 0) rfl rfl rfl (by decide) h
theorem tw_115 {ad : List Nat} {s : TS} {A0 : lMem} (hn : tOk ad) {s' : TS} {i x : Int32} (h : stI s 115 100 i x = some s') : pA (tp ad s A0) 0 (adr ad 115) i (.int (id x)) (fun A => A = tp ad s' A0) := t_pA hn (c := 115) rfl rfl (by decide) h
theorem ta_116 {ad : List Nat} {s : TS} {A0 : lMem} (hn : tOk ad) {i x : Int32} (h : rdI s 116 100 i = some x) : gA (tp ad s A0) [0, 12] (adr ad 116) i (.int x) := t_gA hn (c := 116) (t := 0) rfl rfl rfl (by decide) h
theorem tw_116 {ad : List Nat} {s : TS} {A0 : lMem} (hn : tOk ad) {s' : TS} {i x : Int32} (h : stI s 116 100 i x = some s') : pA (tp ad s A0) 0 (adr ad 116) i (.int (id x)) (fun A => A = tp ad s' A0) := t_pA hn (c := 116) rfl rfl (by decide) h
theorem ta_117 {ad : List Nat} {s : TS} {A0 : lMem} (hn : tOk ad) {i x : Int32} (h : rdI s 117 20 i = some x) : gA (tp ad s A0) [0, 12] (adr ad 117) i (.int x) := t_gA hn (c := 117) (t := 0) rfl rfl rfl (by decide) h
theorem tw_117 {ad : List Nat} {s : TS} {A0 : lMem} (hn : tOk ad) {s' : TS} {i x : Int32} (h : stI s 117 20 i x = some s') : pA (tp ad s A0) 0 (adr ad 117) i (.int (id x)) (fun A => A = tp ad s' A0) := t_pA hn (c := 117) rfl rfl (by decide) h
theorem ta_118 {ad : List Nat} {s : TS} {A0 : lMem} (hn : tOk ad) {i x : Int32} (h : rdI s 118 20 i = some x) : gA (tp ad s A0) [0, 12] (adr ad 118) i (.int x) := t_gA hn (c := 118) (t := 0) rfl rfl rfl (by decide) h
theorem tw_118 {ad : List Nat} {s : TS} {A0 : lMem} (hn : tOk ad) {s' : TS} {i x : Int32} (h : stI s 118 20 i x = some s') : pA (tp ad s A0) 0 (adr ad 118) i (.int (id x)) (fun A => A = tp ad s' A0) := t_pA hn (c := 118) rfl rfl (by decide) h
theorem ta_119 {ad : List Nat} {s : TS} {A0 : lMem} (hn : tOk ad) {i x : Int32} (h : rdI s 119 20 i = some x) : gA (tp ad s A0) [2, 3] (adr ad 119) i (.int x) := t_gA hn (c := 119) (t := 3) rfl rfl rfl (by decide) h
theorem tw_119 {ad : List Nat} {s : TS} {A0 : lMem} (hn : tOk ad) {s' : TS} {i x : Int32} (h : stI s 119 20 i (x &&& 1) = some s') : pB (tp ad s A0) (adr ad 119) i x (fun A => A = tp ad s' A0) := t_pB hn (c := 119) rfl h
theorem ta_120 {ad : List Nat} {s : TS} {A0 : lMem} (hn : tOk ad) {i x : Int32} (h : rdI s 120 20 i = some x) : gA (tp ad s A0) [2, 3] (adr ad 120) i (.int x) := t_gA hn (c := 120) (t := 3) rfl rfl rfl (by decide) h
theorem tw_120 {ad : List Nat} {s : TS} {A0 : lMem} (hn : tOk ad) {s' : TS} {i x : Int32} (h : stI s 120 20 i (x &&& 1) = some s') : pB (tp ad s A0) (adr ad 120) i x (fun A => A = tp ad s' A0) := t_pB hn (c := 120) rfl h
theorem ta_121 {ad : List Nat} {s : TS} {A0 : lMem} (hn : tOk ad) {i x : Int32} (h : rdI s 121 60 i = some x) : gA (tp ad s A0) [0, 12] (adr ad 121) i (.int x) := t_gA hn (c := 121) (t := 0) rfl rfl rfl (by decide) h
theorem tw_121 {ad : List Nat} {s : TS} {A0 : lMem} (hn : tOk ad) {s' : TS} {i x : Int32} (h : stI s 121 60 i x = some s') : pA (tp ad s A0) 0 (adr ad 121) i (.int (id x)) (fun A => A = tp ad s' A0) := t_pA hn (c := 121) rfl rfl (by decide) h
theorem ta_122 {ad : List Nat} {s : TS} {A0 : lMem} (hn : tOk ad) {i x : Int32} (h : rdI s 122 60 i = some x) : gA (tp ad s A0) [0, 12] (adr ad 122) i (.int x) := t_gA hn (c := 122) (t := 0) rfl rfl rfl (by decide) h
theorem tw_122 {ad : List Nat} {s : TS} {A0 : lMem} (hn : tOk ad) {s' : TS} {i x : Int32} (h : stI s 122 60 i x = some s') : pA (tp ad s A0) 0 (adr ad 122) i (.int (id x)) (fun A => A = tp ad s' A0) := t_pA hn (c := 122) rfl rfl (by decide) h
theorem ta_123 {ad : List Nat} {s : TS} {A0 : lMem} (hn : tOk ad) {i x : Int32} (h : rdI s 123 60 i = some x) : gA (tp ad s A0) [0, 12] (adr ad 123) i (.int x) := t_gA hn (c := 123) (t := 0) rfl rfl rfl (by decide) h
theorem tw_123 {ad : List Nat} {s : TS} {A0 : lMem} (hn : tOk ad) {s' : TS} {i x : Int32} (h : stI s 123 60 i x = some s') : pA (tp ad s A0) 0 (adr ad 123) i (.int (id x)) (fun A => A = tp ad s' A0) := t_pA hn (c := 123) rfl rfl (by decide) h
theorem ta_124 {ad : List Nat} {s : TS} {A0 : lMem} (hn : tOk ad) {i x : Int32} (h : rdI s 124 200 i = some x) : gA (tp ad s A0) [0, 12] (adr ad 124) i (.int x) := t_gA hn (c := 124) (t := 0) rfl rfl rfl (by decide) h
theorem tw_124 {ad : List Nat} {s : TS} {A0 : lMem} (hn : tOk ad) {s' : TS} {i x : Int32} (h : stI s 124 200 i x = some s') : pA (tp ad s A0) 0 (adr ad 124) i (.int (id x)) (fun A => A = tp ad s' A0) := t_pA hn (c := 124) rfl rfl (by decide) h
theorem ta_125 {ad : List Nat} {s : TS} {A0 : lMem} (hn : tOk ad) {i x : Int32} (h : rdI s 125 40 i = some x) : gA (tp ad s A0) [0, 12] (adr ad 125) i (.int x) := t_gA hn (c := 125) (t := 0) rfl rfl rfl (by decide) h
theorem tw_125 {ad : List Nat} {s : TS} {A0 : lMem} (hn : tOk ad) {s' : TS} {i x : Int32} (h : stI s 125 40 i x = some s') : pA (tp ad s A0) 0 (adr ad 125) i (.int (id x)) (fun A => A = tp ad s' A0) := t_pA hn (c := 125) rfl rfl (by decide) h
theorem ta_126 {ad : List Nat} {s : TS} {A0 : lMem} (hn : tOk ad) {i x : Int32} (h : rdI s 126 40 i = some x) : gA (tp ad s A0) [0, 12] (adr ad 126) i (.int x) := t_gA hn (c := 126) (t := 0) rfl rfl rfl (by decide) h
theorem tw_126 {ad : List Nat} {s : TS} {A0 : lMem} (hn : tOk ad) {s' : TS} {i x : Int32} (h : stI s 126 40 i x = some s') : pA (tp ad s A0) 0 (adr ad 126) i (.int (id x)) (fun A => A = tp ad s' A0) := t_pA hn (c := 126) rfl rfl (by decide) h
theorem ta_127 {ad : List Nat} {s : TS} {A0 : lMem} (hn : tOk ad) {i x : Int32} (h : rdI s 127 40 i = some x) : gA (tp ad s A0) [0, 12] (adr ad 127) i (.int x) := t_gA hn (c := 127) (t := 0) rfl rfl rfl (by decide) h
theorem tw_127 {ad : List Nat} {s : TS} {A0 : lMem} (hn : tOk ad) {s' : TS} {i x : Int32} (h : stI s 127 40 i x = some s') : pA (tp ad s A0) 0 (adr ad 127) i (.int (id x)) (fun A => A = tp ad s' A0) := t_pA hn (c := 127) rfl rfl (by decide) h
theorem ta_128 {ad : List Nat} {s : TS} {A0 : lMem} (hn : tOk ad) {i x : Int32} (h : rdI s 128 40 i = some x) : gA (tp ad s A0) [0, 12] (adr ad 128) i (.int x) := t_gA hn (c := 128) (t := 0) rfl rfl rfl (by decide) h
theorem tw_128 {ad : List Nat} {s : TS} {A0 : lMem} (hn : tOk ad) {s' : TS} {i x : Int32} (h : stI s 128 40 i x = some s') : pA (tp ad s A0) 0 (adr ad 128) i (.int (id x)) (fun A => A = tp ad s' A0) := t_pA hn (c := 128) rfl rfl (by decide) h
theorem ta_129 {ad : List Nat} {s : TS} {A0 : lMem} (hn : tOk ad) {i x : Int32} (h : rdI s 129 120 i = some x) : gA (tp ad s A0) [0, 12] (adr ad 129) i (.int x) := t_gA hn (c := 129) (t := 0) rfl rfl rfl (by decide) h
theorem tw_129 {ad : List Nat} {s : TS} {A0 : lMem} (hn : tOk ad) {s' : TS} {i x : Int32} (h : stI s 129 120 i x = some s') : pA (tp ad s A0) 0 (adr ad 129) i (.int (id x)) (fun A => A = tp ad s' A0) := t_pA hn (c := 129) rfl rfl (by decide) h
theorem ta_130 {ad : List Nat} {s : TS} {A0 : lMem} (hn : tOk ad) {i x : Int32} (h : rdI s 130 320 i = some x) : gA (tp ad s A0) [0, 12] (adr ad 130) i (.int x) := t_gA hn (c := 130) (t := 0) rfl rfl rfl (by decide) h
theorem tw_130 {ad : List Nat} {s : TS} {A0 : lMem} (hn : tOk ad) {s' : TS} {i x : Int32} (h : stI s 130 320 i x = some s') : pA (tp ad s A0) 0 (adr ad 130) i (.int (id x)) (fun A => A = tp ad s' A0) := t_pA hn (c := 130) rfl rfl (by decide) h
theorem ta_131 {ad : List Nat} {s : TS} {A0 : lMem} (hn : tOk ad) {i x : Int32} (h : rdI s 131 40 i = some x) : gA (tp ad s A0) [0, 12] (adr ad 131) i (.int x) := t_gA hn (c := 131) (t := 0) rfl rfl rfl (by decide) h
theorem tw_131 {ad : List Nat} {s : TS} {A0 : lMem} (hn : tOk ad) {s' : TS} {i x : Int32} (h : stI s 131 40 i x = some s') : pA (tp ad s A0) 0 (adr ad 131) i (.int (id x)) (fun A => A = tp ad s' A0) := t_pA hn (c := 131) rfl rfl (by decide) h
theorem ta_132 {ad : List Nat} {s : TS} {A0 : lMem} (hn : tOk ad) {i x : Int32} (h : rdI s 132 40 i = some x) : gA (tp ad s A0) [0, 12] (adr ad 132) i (.int x) := t_gA hn (c := 132) (t := 0) rfl rfl rfl (by decide) h
theorem tw_132 {ad : List Nat} {s : TS} {A0 : lMem} (hn : tOk ad) {s' : TS} {i x : Int32} (h : stI s 132 40 i x = some s') : pA (tp ad s A0) 0 (adr ad 132) i (.int (id x)) (fun A => A = tp ad s' A0) := t_pA hn (c := 132) rfl rfl (by decide) h
theorem ta_133 {ad : List Nat} {s : TS} {A0 : lMem} (hn : tOk ad) {i x : Int32} (h : rdI s 133 40 i = some x) : gA (tp ad s A0) [0, 12] (adr ad 133) i (.int x) := t_gA hn (c := 133) (t := 0) rfl rfl rfl (by decide) h
theorem tw_133 {ad : List Nat} {s : TS} {A0 : lMem} (hn : tOk ad) {s' : TS} {i x : Int32} (h : stI s 133 40 i x = some s') : pA (tp ad s A0) 0 (adr ad 133) i (.int (id x)) (fun A => A = tp ad s' A0) := t_pA hn (c := 133) rfl rfl (by decide) h
theorem ta_134 {ad : List Nat} {s : TS} {A0 : lMem} (hn : tOk ad) {i x : Int32} (h : rdI s 134 40 i = some x) : gA (tp ad s A0) [2, 3] (adr ad 134) i (.int x) := t_gA hn (c := 134) (t := 3) rfl rfl rfl (by decide) h
theorem tw_134 {ad : List Nat} {s : TS} {A0 : lMem} (hn : tOk ad) {s' : TS} {i x : Int32} (h : stI s 134 40 i (x &&& 1) = some s') : pB (tp ad s A0) (adr ad 134) i x (fun A => A = tp ad s' A0) := t_pB hn (c := 134) rfl h
theorem ta_135 {ad : List Nat} {s : TS} {A0 : lMem} (hn : tOk ad) {i x : Int32} (h : rdI s 135 40 i = some x) : gA (tp ad s A0) [0, 12] (adr ad 135) i (.int x) := t_gA hn (c := 135) (t := 0) rfl rfl rfl (by decide) h
theorem tw_135 {ad : List Nat} {s : TS} {A0 : lMem} (hn : tOk ad) {s' : TS} {i x : Int32} (h : stI s 135 40 i x = some s') : pA (tp ad s A0) 0 (adr ad 135) i (.int (id x)) (fun A => A = tp ad s' A0) := t_pA hn (c := 135) rfl rfl (by decide) h
theorem ta_136 {ad : List Nat} {s : TS} {A0 : lMem} (hn : tOk ad) {i x : Int32} (h : rdI s 136 10 i = some x) : gA (tp ad s A0) [0, 12] (adr ad 136) i (.int x) := t_gA hn (c := 136) (t := 0) rfl rfl rfl (by decide) h
theorem tw_136 {ad : List Nat} {s : TS} {A0 : lMem} (hn : tOk ad) {s' : TS} {i x : Int32} (h : stI s 136 10 i x = some s') : pA (tp ad s A0) 0 (adr ad 136) i (.int (id x)) (fun A => A = tp ad s' A0) := t_pA hn (c := 136) rfl rfl (by decide) h
theorem ta_137 {ad : List Nat} {s : TS} {A0 : lMem} (hn : tOk ad) {i x : Int32} (h : rdI s 137 40 i = some x) : gA (tp ad s A0) [0, 12] (adr ad 137) i (.int x) := t_gA hn (c := 137) (t := 0) rfl rfl rfl (by decide) h
theorem tw_137 {ad : List Nat} {s : TS} {A0 : lMem} (hn : tOk ad) {s' : TS} {i x : Int32} (h : stI s 137 40 i x = some s') : pA (tp ad s A0) 0 (adr ad 137) i (.int (id x)) (fun A => A = tp ad s' A0) := t_pA hn (c := 137) rfl rfl (by decide) h
theorem ta_138 {ad : List Nat} {s : TS} {A0 : lMem} (hn : tOk ad) {i x : Int32} (h : rdI s 138 40 i = some x) : gA (tp ad s A0) [0, 12] (adr ad 138) i (.int x) := t_gA hn (c := 138) (t := 0) rfl rfl rfl (by decide) h
theorem tw_138 {ad : List Nat} {s : TS} {A0 : lMem} (hn : tOk ad) {s' : TS} {i x : Int32} (h : stI s 138 40 i x = some s') : pA (tp ad s A0) 0 (adr ad 138) i (.int (id x)) (fun A => A = tp ad s' A0) := t_pA hn (c := 138) rfl rfl (by decide) h
theorem ta_139 {ad : List Nat} {s : TS} {A0 : lMem} (hn : tOk ad) {i x : Int32} (h : rdI s 139 40 i = some x) : gA (tp ad s A0) [2, 3] (adr ad 139) i (.int x) := t_gA hn (c := 139) (t := 3) rfl rfl rfl (by decide) h
theorem tw_139 {ad : List Nat} {s : TS} {A0 : lMem} (hn : tOk ad) {s' : TS} {i x : Int32} (h : stI s 139 40 i (x &&& 1) = some s') : pB (tp ad s A0) (adr ad 139) i x (fun A => A = tp ad s' A0) := t_pB hn (c := 139) rfl h
theorem ta_140 {ad : List Nat} {s : TS} {A0 : lMem} (hn : tOk ad) {i x : Int32} (h : rdI s 140 4 i = some x) : gA (tp ad s A0) [0, 12] (adr ad 140) i (.int x) := t_gA hn (c := 140) (t := 0) rfl rfl rfl (by decide) h
theorem tw_140 {ad : List Nat} {s : TS} {A0 : lMem} (hn : tOk ad) {s' : TS} {i x : Int32} (h : stI s 140 4 i x = some s') : pA (tp ad s A0) 0 (adr ad 140) i (.int (id x)) (fun A => A = tp ad s' A0) := t_pA hn (c := 140) rfl rfl (by decide) h
theorem ta_141 {ad : List Nat} {s : TS} {A0 : lMem} (hn : tOk ad) {i x : Int32} (h : rdI s 141 180001 i = some x) : gA (tp ad s A0) [2, 3] (adr ad 141) i (.int x) := t_gA hn (c := 141) (t := 3) rfl rfl rfl (by decide) h
theorem tw_141 {ad : List Nat} {s : TS} {A0 : lMem} (hn : tOk ad) {s' : TS} {i x : Int32} (h : stI s 141 180001 i (x &&& 1) = some s') : pB (tp ad s A0) (adr ad 141) i x (fun A => A = tp ad s' A0) := t_pB hn (c := 141) rfl h
theorem ta_142 {ad : List Nat} {s : TS} {A0 : lMem} (hn : tOk ad) {i x : Int32} (h : rdI s 142 182001 i = some x) : gA (tp ad s A0) [2, 3] (adr ad 142) i (.int x) := t_gA hn (c := 142) (t := 3) rfl rfl rfl (by decide) h
theorem tw_142 {ad : List Nat} {s : TS} {A0 : lMem} (hn : tOk ad) {s' : TS} {i x : Int32} (h : stI s 142 182001 i (x &&& 1) = some s') : pB (tp ad s A0) (adr ad 142) i x (fun A => A = tp ad s' A0) := t_pB hn (c := 142) rfl h
theorem ta_143 {ad : List Nat} {s : TS} {A0 : lMem} (hn : tOk ad) {i x : Int32} (h : rdI s 143 8 i = some x) : gA (tp ad s A0) [0, 12] (adr ad 143) i (.int x) := t_gA hn (c := 143) (t := 0) rfl rfl rfl (by decide) h
theorem tw_143 {ad : List Nat} {s : TS} {A0 : lMem} (hn : tOk ad) {s' : TS} {i x : Int32} (h : stI s 143 8 i x = some s') : pA (tp ad s A0) 0 (adr ad 143) i (.int (id x)) (fun A => A = tp ad s' A0) := t_pA hn (c := 143) rfl rfl (by decide) h
theorem ta_144 {ad : List Nat} {s : TS} {A0 : lMem} (hn : tOk ad) {i x : Int32} (h : rdI s 144 2048 i = some x) : gA (tp ad s A0) [2, 3] (adr ad 144) i (.int x) := t_gA hn (c := 144) (t := 3) rfl rfl rfl (by decide) h
theorem tw_144 {ad : List Nat} {s : TS} {A0 : lMem} (hn : tOk ad) {s' : TS} {i x : Int32} (h : stI s 144 2048 i (x &&& 1) = some s') : pB (tp ad s A0) (adr ad 144) i x (fun A => A = tp ad s' A0) := t_pB hn (c := 144) rfl h
theorem ta_145 {ad : List Nat} {s : TS} {A0 : lMem} (hn : tOk ad) {i x : Int32} (h : rdI s 145 8 i = some x) : gA (tp ad s A0) [2, 3] (adr ad 145) i (.int x) := t_gA hn (c := 145) (t := 3) rfl rfl rfl (by decide) h
theorem tw_145 {ad : List Nat} {s : TS} {A0 : lMem} (hn : tOk ad) {s' : TS} {i x : Int32} (h : stI s 145 8 i (x &&& 1) = some s') : pB (tp ad s A0) (adr ad 145) i x (fun A => A = tp ad s' A0) := t_pB hn (c := 145) rfl h
theorem ta_146 {ad : List Nat} {s : TS} {A0 : lMem} (hn : tOk ad) {i x : Int32} (h : rdI s 146 8 i = some x) : gA (tp ad s A0) [0, 12] (adr ad 146) i (.int x) := t_gA hn (c := 146) (t := 0) rfl rfl rfl (by decide) h
theorem tw_146 {ad : List Nat} {s : TS} {A0 : lMem} (hn : tOk ad) {s' : TS} {i x : Int32} (h : stI s 146 8 i x = some s') : pA (tp ad s A0) 0 (adr ad 146) i (.int (id x)) (fun A => A = tp ad s' A0) := t_pA hn (c := 146) rfl rfl (by decide) h
theorem ta_147 {ad : List Nat} {s : TS} {A0 : lMem} (hn : tOk ad) {i x : Int32} (h : rdI s 147 1152 i = some x) : gA (tp ad s A0) [0, 12] (adr ad 147) i (.int x) := t_gA hn (c := 147) (t := 0) rfl rfl rfl (by decide) h
theorem tw_147 {ad : List Nat} {s : TS} {A0 : lMem} (hn : tOk ad) {s' : TS} {i x : Int32} (h : stI s 147 1152 i x = some s') : pA (tp ad s A0) 0 (adr ad 147) i (.int (id x)) (fun A => A = tp ad s' A0) := t_pA hn (c := 147) rfl rfl (by decide) h
theorem ta_148 {ad : List Nat} {s : TS} {A0 : lMem} (hn : tOk ad) {i x : Int32} (h : rdI s 148 8 i = some x) : gA (tp ad s A0) [0, 12] (adr ad 148) i (.int x) := t_gA hn (c := 148) (t := 0) rfl rfl rfl (by decide) h
theorem tw_148 {ad : List Nat} {s : TS} {A0 : lMem} (hn : tOk ad) {s' : TS} {i x : Int32} (h : stI s 148 8 i x = some s') : pA (tp ad s A0) 0 (adr ad 148) i (.int (id x)) (fun A => A = tp ad s' A0) := t_pA hn (c := 148) rfl rfl (by decide) h
theorem ta_149 {ad : List Nat} {s : TS} {A0 : lMem} (hn : tOk ad) {i x : Int32} (h : rdI s 149 8 i = some x) : gA (tp ad s A0) [0, 12] (adr ad 149) i (.int x) := t_gA hn (c := 149) (t := 0) rfl rfl rfl (by decide) h
theorem tw_149 {ad : List Nat} {s : TS} {A0 : lMem} (hn : tOk ad) {s' : TS} {i x : Int32} (h : stI s 149 8 i x = some s') : pA (tp ad s A0) 0 (adr ad 149) i (.int (id x)) (fun A => A = tp ad s' A0) := t_pA hn (c := 149) rfl rfl (by decide) h
theorem ta_150 {ad : List Nat} {s : TS} {A0 : lMem} (hn : tOk ad) {i x : Int32} (h : rdI s 150 8 i = some x) : gA (tp ad s A0) [0, 12] (adr ad 150) i (.int x) := t_gA hn (c := 150) (t := 0) rfl rfl rfl (by decide) h
theorem tw_150 {ad : List Nat} {s : TS} {A0 : lMem} (hn : tOk ad) {s' : TS} {i x : Int32} (h : stI s 150 8 i x = some s') : pA (tp ad s A0) 0 (adr ad 150) i (.int (id x)) (fun A => A = tp ad s' A0) := t_pA hn (c := 150) rfl rfl (by decide) h
theorem ta_151 {ad : List Nat} {s : TS} {A0 : lMem} (hn : tOk ad) {i x : Int32} (h : rdI s 151 8 i = some x) : gA (tp ad s A0) [0, 12] (adr ad 151) i (.int x) := t_gA hn (c := 151) (t := 0) rfl rfl rfl (by decide) h
theorem tw_151 {ad : List Nat} {s : TS} {A0 : lMem} (hn : tOk ad) {s' : TS} {i x : Int32} (h : stI s 151 8 i x = some s') : pA (tp ad s A0) 0 (adr ad 151) i (.int (id x)) (fun A => A = tp ad s' A0) := t_pA hn (c := 151) rfl rfl (by decide) h
theorem ta_152 {ad : List Nat} {s : TS} {A0 : lMem} (hn : tOk ad) {i x : Int32} (h : rdI s 152 8 i = some x) : gA (tp ad s A0) [0, 12] (adr ad 152) i (.int x) := t_gA hn (c := 152) (t := 0) rfl rfl rfl (by decide) h
theorem tw_152 {ad : List Nat} {s : TS} {A0 : lMem} (hn : tOk ad) {s' : TS} {i x : Int32} (h : stI s 152 8 i x = some s') : pA (tp ad s A0) 0 (adr ad 152) i (.int (id x)) (fun A => A = tp ad s' A0) := t_pA hn (c := 152) rfl rfl (by decide) h
theorem ta_153 {ad : List Nat} {s : TS} {A0 : lMem} (hn : tOk ad) {i x : Int32} (h : rdI s 153 8 i = some x) : gA (tp ad s A0) [0, 12] (adr ad 153) i (.int x) := t_gA hn (c := 153) (t := 0) rfl rfl rfl (by decide) h
theorem tw_153 {ad : List Nat} {s : TS} {A0 : lMem} (hn : tOk ad) {s' : TS} {i x : Int32} (h : stI s 153 8 i x = some s') : pA (tp ad s A0) 0 (adr ad 153) i (.int (id x)) (fun A => A = tp ad s' A0) := t_pA hn (c := 153) rfl rfl (by decide) h
theorem ta_154 {ad : List Nat} {s : TS} {A0 : lMem} (hn : tOk ad) {i x : Int32} (h : rdI s 154 8 i = some x) : gA (tp ad s A0) [0, 12] (adr ad 154) i (.int x) := t_gA hn (c := 154) (t := 0) rfl rfl rfl (by decide) h
theorem tw_154 {ad : List Nat} {s : TS} {A0 : lMem} (hn : tOk ad) {s' : TS} {i x : Int32} (h : stI s 154 8 i x = some s') : pA (tp ad s A0) 0 (adr ad 154) i (.int (id x)) (fun A => A = tp ad s' A0) := t_pA hn (c := 154) rfl rfl (by decide) h
theorem ta_155 {ad : List Nat} {s : TS} {A0 : lMem} (hn : tOk ad) {i x : Int32} (h : rdI s 155 14000 i = some x) : gA (tp ad s A0) [0, 12] (adr ad 155) i (.int x) := t_gA hn (c := 155) (t := 0) rfl rfl rfl (by decide) h
theorem tw_155 {ad : List Nat} {s : TS} {A0 : lMem} (hn : tOk ad) {s' : TS} {i x : Int32} (h : stI s 155 14000 i x = some s') : pA (tp ad s A0) 0 (adr ad 155) i (.int (id x)) (fun A => A = tp ad s' A0) := t_pA hn (c := 155) rfl rfl (by decide) h
theorem ta_156 {ad : List Nat} {s : TS} {A0 : lMem} (hn : tOk ad) {i x : Int32} (h : rdI s 156 14000 i = some x) : gA (tp ad s A0) [0, 12] (adr ad 156) i (.int x) := t_gA hn (c := 156) (t := 0) rfl rfl rfl (by decide) h
theorem tw_156 {ad : List Nat} {s : TS} {A0 : lMem} (hn : tOk ad) {s' : TS} {i x : Int32} (h : stI s 156 14000 i x = some s') : pA (tp ad s A0) 0 (adr ad 156) i (.int (id x)) (fun A => A = tp ad s' A0) := t_pA hn (c := 156) rfl rfl (by decide) h
theorem ta_157 {ad : List Nat} {s : TS} {A0 : lMem} (hn : tOk ad) {i x : Int32} (h : rdI s 157 5 i = some x) : gA (tp ad s A0) [0, 12] (adr ad 157) i (.int x) := t_gA hn (c := 157) (t := 0) rfl rfl rfl (by decide) h
theorem tw_157 {ad : List Nat} {s : TS} {A0 : lMem} (hn : tOk ad) {s' : TS} {i x : Int32} (h : stI s 157 5 i x = some s') : pA (tp ad s A0) 0 (adr ad 157) i (.int (id x)) (fun A => A = tp ad s' A0) := t_pA hn (c := 157) rfl rfl (by decide) h
theorem ta_158 {ad : List Nat} {s : TS} {A0 : lMem} (hn : tOk ad) {i x : Int32} (h : rdI s 158 4 i = some x) : gA (tp ad s A0) [0, 12] (adr ad 158) i (.int x) := t_gA hn (c := 158) (t := 0) rfl rfl rfl (by decide) h
theorem tw_158 {ad : List Nat} {s : TS} {A0 : lMem} (hn : tOk ad) {s' : TS} {i x : Int32} (h : stI s 158 4 i x = some s') : pA (tp ad s A0) 0 (adr ad 158) i (.int (id x)) (fun A => A = tp ad s' A0) := t_pA hn (c := 158) rfl rfl (by decide) h
theorem ta_159 {ad : List Nat} {s : TS} {A0 : lMem} (hn : tOk ad) {i x : Int32} (h : rdI s 159 4 i = some x) : gA (tp ad s A0) [0, 12] (adr ad 159) i (.int x) := t_gA hn (c := 159) (t := 0) rfl rfl rfl (by decide) h
theorem tw_159 {ad : List Nat} {s : TS} {A0 : lMem} (hn : tOk ad) {s' : TS} {i x : Int32} (h : stI s 159 4 i x = some s') : pA (tp ad s A0) 0 (adr ad 159) i (.int (id x)) (fun A => A = tp ad s' A0) := t_pA hn (c := 159) rfl rfl (by decide) h
theorem ta_160 {ad : List Nat} {s : TS} {A0 : lMem} (hn : tOk ad) {i x : Int32} (h : rdI s 160 4 i = some x) : gA (tp ad s A0) [0, 12] (adr ad 160) i (.int x) := t_gA hn (c := 160) (t := 0) rfl rfl rfl (by decide) h
theorem tw_160 {ad : List Nat} {s : TS} {A0 : lMem} (hn : tOk ad) {s' : TS} {i x : Int32} (h : stI s 160 4 i x = some s') : pA (tp ad s A0) 0 (adr ad 160) i (.int (id x)) (fun A => A = tp ad s' A0) := t_pA hn (c := 160) rfl rfl (by decide) h
theorem ta_161 {ad : List Nat} {s : TS} {A0 : lMem} (hn : tOk ad) {i x : Int32} (h : rdI s 161 4 i = some x) : gA (tp ad s A0) [0, 12] (adr ad 161) i (.int x) := t_gA hn (c := 161) (t := 0) rfl rfl rfl (by decide) h
theorem tw_161 {ad : List Nat} {s : TS} {A0 : lMem} (hn : tOk ad) {s' : TS} {i x : Int32} (h : stI s 161 4 i x = some s') : pA (tp ad s A0) 0 (adr ad 161) i (.int (id x)) (fun A => A = tp ad s' A0) := t_pA hn (c := 161) rfl rfl (by decide) h
theorem ta_162 {ad : List Nat} {s : TS} {A0 : lMem} (hn : tOk ad) {i x : Int32} (h : rdI s 162 4 i = some x) : gA (tp ad s A0) [0, 12] (adr ad 162) i (.int x) := t_gA hn (c := 162) (t := 0) rfl rfl rfl (by decide) h
theorem tw_162 {ad : List Nat} {s : TS} {A0 : lMem} (hn : tOk ad) {s' : TS} {i x : Int32} (h : stI s 162 4 i x = some s') : pA (tp ad s A0) 0 (adr ad 162) i (.int (id x)) (fun A => A = tp ad s' A0) := t_pA hn (c := 162) rfl rfl (by decide) h
theorem ta_163 {ad : List Nat} {s : TS} {A0 : lMem} (hn : tOk ad) {i x : Int32} (h : rdI s 163 400 i = some x) : gA (tp ad s A0) [0, 12] (adr ad 163) i (.int x) := t_gA hn (c := 163) (t := 0) rfl rfl rfl (by decide) h
theorem tw_163 {ad : List Nat} {s : TS} {A0 : lMem} (hn : tOk ad) {s' : TS} {i x : Int32} (h : stI s 163 400 i x = some s') : pA (tp ad s A0) 0 (adr ad 163) i (.int (id x)) (fun A => A = tp ad s' A0) := t_pA hn (c := 163) rfl rfl (by decide) h
theorem ta_164 {ad : List Nat} {s : TS} {A0 : lMem} (hn : tOk ad) {i x : Int32} (h : rdI s 164 400 i = some x) : gA (tp ad s A0) [0, 12] (adr ad 164) i (.int x) := t_gA hn (c := 164) (t := 0) rfl rfl rfl (by decide) h
theorem tw_164 {ad : List Nat} {s : TS} {A0 : lMem} (hn : tOk ad) {s' : TS} {i x : Int32} (h : stI s 164 400 i x = some s') : pA (tp ad s A0) 0 (adr ad 164) i (.int (id x)) (fun A => A = tp ad s' A0) := t_pA hn (c := 164) rfl rfl (by decide) h
theorem ta_165 {ad : List Nat} {s : TS} {A0 : lMem} (hn : tOk ad) {i x : Int32} (h : rdI s 165 400 i = some x) : gA (tp ad s A0) [0, 12] (adr ad 165) i (.int x) := t_gA hn (c := 165) (t := 0) rfl rfl rfl (by decide) h
theorem tw_165 {ad : List Nat} {s : TS} {A0 : lMem} (hn : tOk ad) {s' : TS} {i x : Int32} (h : stI s 165 400 i x = some s') : pA (tp ad s A0) 0 (adr ad 165) i (.int (id x)) (fun A => A = tp ad s' A0) := t_pA hn (c := 165) rfl rfl (by decide) h
theorem ta_166 {ad : List Nat} {s : TS} {A0 : lMem} (hn : tOk ad) {i x : Int32} (h : rdI s 166 400 i = some x) : gA (tp ad s A0) [2, 3] (adr ad 166) i (.int x) := t_gA hn (c := 166) (t := 3) rfl rfl rfl (by decide) h
theorem tw_166 {ad : List Nat} {s : TS} {A0 : lMem} (hn : tOk ad) {s' : TS} {i x : Int32} (h : stI s 166 400 i (x &&& 1) = some s') : pB (tp ad s A0) (adr ad 166) i x (fun A => A = tp ad s' A0) := t_pB hn (c := 166) rfl h
theorem ta_167 {ad : List Nat} {s : TS} {A0 : lMem} (hn : tOk ad) {i x : Int32} (h : rdI s 167 400 i = some x) : gA (tp ad s A0) [0, 12] (adr ad 167) i (.int x) := t_gA hn (c := 167) (t := 0) rfl rfl rfl (by decide) h
theorem tw_167 {ad : List Nat} {s : TS} {A0 : lMem} (hn : tOk ad) {s' : TS} {i x : Int32} (h : stI s 167 400 i x = some s') : pA (tp ad s A0) 0 (adr ad 167) i (.int (id x)) (fun A => A = tp ad s' A0) := t_pA hn (c := 167) rfl rfl (by decide) h
theorem ta_168 {ad : List Nat} {s : TS} {A0 : lMem} (hn : tOk ad) {i x : Int32} (h : rdI s 168 6 i = some x) : gA (tp ad s A0) [0, 12] (adr ad 168) i (.int x) := t_gA hn (c := 168) (t := 0) rfl rfl rfl (by decide) h
theorem tw_168 {ad : List Nat} {s : TS} {A0 : lMem} (hn : tOk ad) {s' : TS} {i x : Int32} (h : stI s 168 6 i x = some s') : pA (tp ad s A0) 0 (adr ad 168) i (.int (id x)) (fun A => A = tp ad s' A0) := t_pA hn (c := 168) rfl rfl (by decide) h
theorem ta_169 {ad : List Nat} {s : TS} {A0 : lMem} (hn : tOk ad) {i x : Int32} (h : rdI s 169 6 i = some x) : gA (tp ad s A0) [0, 12] (adr ad 169) i (.int x) := t_gA hn (c := 169) (t := 0) rfl rfl rfl (by decide) h
theorem tw_169 {ad : List Nat} {s : TS} {A0 : lMem} (hn : tOk ad) {s' : TS} {i x : Int32} (h : stI s 169 6 i x = some s') : pA (tp ad s A0) 0 (adr ad 169) i (.int (id x)) (fun A => A = tp ad s' A0) := t_pA hn (c := 169) rfl rfl (by decide) h
theorem ta_170 {ad : List Nat} {s : TS} {A0 : lMem} (hn : tOk ad) {i : Int32} {x : Int64} (h : rdL s 170 256 i = some x) : gA (tp ad s A0) [1] (adr ad 170) i (.long x) := t_gAL hn (c := 170) rfl rfl h
theorem tw_170 {ad : List Nat} {s : TS} {A0 : lMem} (hn : tOk ad) {s' : TS} {i : Int32} {x : Int64} (h : stL s 170 256 i x = some s') : pA (tp ad s A0) 1 (adr ad 170) i (.long x) (fun A => A = tp ad s' A0) := t_pL hn (c := 170) rfl h
theorem ta_171 {ad : List Nat} {s : TS} {A0 : lMem} (hn : tOk ad) {i x : Int32} (h : rdI s 171 1536 i = some x) : gA (tp ad s A0) [0, 12] (adr ad 171) i (.int x) := t_gA hn (c := 171) (t := 0) rfl rfl rfl (by decide) h
theorem tw_171 {ad : List Nat} {s : TS} {A0 : lMem} (hn : tOk ad) {s' : TS} {i x : Int32} (h : stI s 171 1536 i x = some s') : pA (tp ad s A0) 0 (adr ad 171) i (.int (id x)) (fun A => A = tp ad s' A0) := t_pA hn (c := 171) rfl rfl (by decide) h
theorem ta_172 {ad : List Nat} {s : TS} {A0 : lMem} (hn : tOk ad) {i x : Int32} (h : rdI s 172 400 i = some x) : gA (tp ad s A0) [0, 12] (adr ad 172) i (.int x) := t_gA hn (c := 172) (t := 0) rfl rfl rfl (by decide) h
theorem tw_172 {ad : List Nat} {s : TS} {A0 : lMem} (hn : tOk ad) {s' : TS} {i x : Int32} (h : stI s 172 400 i x = some s') : pA (tp ad s A0) 0 (adr ad 172) i (.int (id x)) (fun A => A = tp ad s' A0) := t_pA hn (c := 172) rfl rfl (by decide) h
theorem ta_173 {ad : List Nat} {s : TS} {A0 : lMem} (hn : tOk ad) {i x : Int32} (h : rdI s 173 400 i = some x) : gA (tp ad s A0) [0, 12] (adr ad 173) i (.int x) := t_gA hn (c := 173) (t := 0) rfl rfl rfl (by decide) h
theorem tw_173 {ad : List Nat} {s : TS} {A0 : lMem} (hn : tOk ad) {s' : TS} {i x : Int32} (h : stI s 173 400 i x = some s') : pA (tp ad s A0) 0 (adr ad 173) i (.int (id x)) (fun A => A = tp ad s' A0) := t_pA hn (c := 173) rfl rfl (by decide) h
theorem ta_174 {ad : List Nat} {s : TS} {A0 : lMem} (hn : tOk ad) {i x : Int32} (h : rdI s 174 400 i = some x) : gA (tp ad s A0) [0, 12] (adr ad 174) i (.int x) := t_gA hn (c := 174) (t := 0) rfl rfl rfl (by decide) h
theorem tw_174 {ad : List Nat} {s : TS} {A0 : lMem} (hn : tOk ad) {s' : TS} {i x : Int32} (h : stI s 174 400 i x = some s') : pA (tp ad s A0) 0 (adr ad 174) i (.int (id x)) (fun A => A = tp ad s' A0) := t_pA hn (c := 174) rfl rfl (by decide) h
theorem ta_175 {ad : List Nat} {s : TS} {A0 : lMem} (hn : tOk ad) {i x : Int32} (h : rdI s 175 400 i = some x) : gA (tp ad s A0) [0, 12] (adr ad 175) i (.int x) := t_gA hn (c := 175) (t := 0) rfl rfl rfl (by decide) h
theorem tw_175 {ad : List Nat} {s : TS} {A0 : lMem} (hn : tOk ad) {s' : TS} {i x : Int32} (h : stI s 175 400 i x = some s') : pA (tp ad s A0) 0 (adr ad 175) i (.int (id x)) (fun A => A = tp ad s' A0) := t_pA hn (c := 175) rfl rfl (by decide) h
theorem ta_x {ad : List Nat} {s : TS} {A0 : lMem} (hn : tOk ad) {c : Nat} (hc : c = 58 ∨ c = 59) {i x : Int32} (h : rdI s c 40 i = some x) : gA (tp ad s A0) [0, 12] (adr ad c) i (.int x) := by
  rcases hc with rfl | rfl
  · exact ta_58 hn h
  · exact ta_59 hn h
theorem tw_x {ad : List Nat} {s : TS} {A0 : lMem} (hn : tOk ad) {c : Nat} (hc : c = 58 ∨ c = 59) {s' : TS} {i x : Int32} (h : stI s c 40 i x = some s') : pA (tp ad s A0) 0 (adr ad c) i (.int (id x)) (fun A => A = tp ad s' A0) := by
  rcases hc with rfl | rfl
  · exact tw_58 hn h
  · exact tw_59 hn h
/-! what is now becomes what was before: rows change their places -/
def swc (c : Nat) : Nat := if c = 58 then 61 else if c = 61 then 58 else if c = 59 then 62 else if c = 62 then 59 else if c = 60 then 63 else if c = 63 then 60 else if c = 64 then 65 else if c = 65 then 64 else c
def swp (ad : List Nat) : List Nat := (List.range tTab.length).map (fun c => adr ad (swc c))
theorem swc_swc (c : Nat) : swc (swc c) = c := by
  by_cases h : c < 58 ∨ 65 < c
  · have e : swc c = c := by
      unfold swc
      repeat' split
      all_goals omega
    rw [e, e]
  · have h2 : c = 58 ∨ c = 59 ∨ c = 60 ∨ c = 61 ∨ c = 62 ∨ c = 63 ∨ c = 64 ∨ c = 65 := by omega
    rcases h2 with rfl | rfl | rfl | rfl | rfl | rfl | rfl | rfl <;> rfl
theorem swc_lt {c : Nat} (h : c < tTab.length) : swc c < tTab.length := by
  have e : tTab.length = 176 := rfl
  rw [e] at h ⊢
  unfold swc
  repeat' split
  all_goals omega
theorem adr_inj {ad : List Nat} (hn : tOk ad) {a b : Nat} (ha : a < tTab.length) (hb : b < tTab.length) (h : adr ad a = adr ad b) : a = b := by
  have h1 := fx_of hn.2 (adr_get hn ha)
  have h2 := fx_of hn.2 (adr_get hn hb)
  rw [h, h2] at h1
  cases h1
  rfl
theorem swp_ok {ad : List Nat} (hn : tOk ad) : tOk (swp ad) := by
  refine ⟨by unfold swp; rw [List.length_map, List.length_range], ?_⟩
  unfold swp
  rw [List.nodup_iff_pairwise_ne, List.pairwise_map]
  refine List.Pairwise.imp_of_mem ?_ (List.nodup_iff_pairwise_ne.mp (List.nodup_range (n := tTab.length)))
  intro a b ha hb hab h
  rw [List.mem_range] at ha hb
  have h1 := adr_inj hn (swc_lt ha) (swc_lt hb) h
  exact hab (by rw [← swc_swc a, h1, swc_swc])
theorem adr_swp {ad : List Nat} {c : Nat} (hc : c < tTab.length) : adr (swp ad) c = adr ad (swc c) := by
  unfold adr swp
  rw [List.getD_eq_getElem?_getD, List.getElem?_map, List.getElem?_range hc]
  rfl
