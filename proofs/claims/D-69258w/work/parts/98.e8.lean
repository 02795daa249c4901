/-! operations in general: what they may throw, and what the reference tells of it -/
def thr0 (kd : Nat) (cd : Int32) : Prop := (kd = 11 ∧ cd = 1) ∨ (kd = 12 ∧ cd = 2)
def thr1 (kd : Nat) (cd : Int32) : Prop := kd = 12 ∧ cd = 1
def Rg {α : Type} (E : Nat → Int32 → Prop) (X : Nat → Prop) (Y : Nat) (RX : (Nat → lHeap) → TS → Prop) (own : Nat → Nat) (s : CS) (t : TS) (n m : Nat) (c : Option (Sum (α × CS) (Nat × CS))) (d : Option (α × TS)) : Prop :=
  (∃ x s' t' own', c = some (.inl (x, s')) ∧ d = some (x, t') ∧ t'.1 0 = 0 ∧ (∀ Z, Z ≠ Y → Z ≠ 99 → rt t' Z = rt t Z) ∧ Frm X own own' s s' ∧ RX (rs s'.1 own') t' ∧ s'.2.2.1 ≤ s.2.2.1 + n ∧ s'.2.2.2 ≤ s.2.2.2 + m)
  ∨ (∃ x kd cd s1 own1, E kd cd ∧ c = some (.inr (s1.2.1, exs s1 kd)) ∧ d = some (x, ptI t 0 cd) ∧ Frm X own own1 s s1 ∧ RX (rs s1.1 own1) t ∧ s1.2.2.1 ≤ s.2.2.1 + n ∧ s1.2.2.2 ≤ s.2.2.2 + m)
section
variable {α : Type} {E : Nat → Int32 → Prop} {X : Nat → Prop} {Y : Nat} {RX : (Nat → lHeap) → TS → Prop} {own : Nat → Nat} {s : CS} {t : TS} {n m : Nat} {c : Option (Sum (α × CS) (Nat × CS))} {d : Option (α × TS)}
theorem Res.rg (hw : wfS s) (hR : RX (rs s.1 own) t) (h : Res X Y RX own s t n m c d) : Rg thr0 X Y RX own s t n m c d := by
  rcases h with h | ⟨x, h1, h2⟩ | ⟨x, h1, h2⟩
  · exact Or.inl h
  · exact Or.inr ⟨x, 11, 1, s, own, Or.inl ⟨rfl, rfl⟩, h1, h2, Frm.refl hw, hR, Nat.le_add_right _ _, Nat.le_add_right _ _⟩
  · exact Or.inr ⟨x, 12, 2, s, own, Or.inr ⟨rfl, rfl⟩, h1, h2, Frm.refl hw, hR, Nat.le_add_right _ _, Nat.le_add_right _ _⟩
theorem Rg.arg {x : α} {a b : Nat} (hw : wfS s) (hR : RX (rs s.1 own) t) (hc : c = some (.inr (s.2.1, exs (chg s a b) 11))) (hd : d = some (x, ptI t 0 1)) (ha : a ≤ n) (hb : b ≤ m) : Rg thr0 X Y RX own s t n m c d :=
  Or.inr ⟨x, 11, 1, chg s a b, own, Or.inl ⟨rfl, rfl⟩, hc, hd, frm_chg hw, hR, by show s.2.2.1 + a ≤ _; omega, by show s.2.2.2 + b ≤ _; omega⟩
theorem Rg.sta {x : α} {a b : Nat} (hw : wfS s) (hR : RX (rs s.1 own) t) (hc : c = some (.inr (s.2.1, exs (chg s a b) 12))) (hd : d = some (x, ptI t 0 2)) (ha : a ≤ n) (hb : b ≤ m) : Rg thr0 X Y RX own s t n m c d :=
  Or.inr ⟨x, 12, 2, chg s a b, own, Or.inr ⟨rfl, rfl⟩, hc, hd, frm_chg hw, hR, by show s.2.2.1 + a ≤ _; omega, by show s.2.2.2 + b ≤ _; omega⟩
theorem Rg.same {x : α} {a b : Nat} (hw : wfS s) (hR : RX (rs s.1 own) (ptI t 0 0)) (hc : c = some (.inl (x, chg s a b))) (hd : d = some (x, ptI t 0 0)) (ha : a ≤ n) (hb : b ≤ m) : Rg E X Y RX own s t n m c d :=
  Or.inl ⟨x, chg s a b, ptI t 0 0, own, hc, hd, rfl, fun Z _ h9 => rt_ptI (by show 99 ≠ Z; exact fun e => h9 e.symm), frm_chg hw, hR, by show s.2.2.1 + a ≤ _; omega, by show s.2.2.2 + b ≤ _; omega⟩
theorem Rg.mono {n' m' : Nat} (h : Rg E X Y RX own s t n m c d) (hn : n ≤ n') (hm : m ≤ m') : Rg E X Y RX own s t n' m' c d := by
  rcases h with ⟨x, s', t', own', a1, a2, a3, a4, a5, a6, a7, a8⟩ | ⟨x, kd, cd, s1, own1, a1, a2, a3, a4, a5, a6, a7⟩
  · exact Or.inl ⟨x, s', t', own', a1, a2, a3, a4, a5, a6, by omega, by omega⟩
  · exact Or.inr ⟨x, kd, cd, s1, own1, a1, a2, a3, a4, a5, by omega, by omega⟩
end
