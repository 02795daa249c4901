/-! the library: ArrayList, the facts -/
section
variable {s : CS} {a k : Nat}
theorem cc_some {xs : List Value} (h : cc s k a = some xs) : s.1 a = some (true, false, k, xs) := by
  unfold cc at h
  split at h
  · rename_i k' ys e
    rcases iteC h with ⟨h1, h2⟩ | ⟨_, h2⟩
    · cases h2
      rw [e, h1]
    · cases h2
  · cases h
theorem alC_some {c : Int32 × List Value} (h : alC s a = some c) : s.1 a = some (true, false, 1013, .int c.1 :: c.2) := by
  obtain ⟨xs, h1, h2⟩ := bindC h
  have h1 := cc_some h1
  split at h2
  · cases h2
    exact h1
  · cases h2
theorem ccI_some {k' : Nat} {fs0 xs : List Value} {S : CS} (h : ccI s k k' a fs0 xs = some S) : s.1 a = some (true, false, k, fs0) ∧ S = cup s a (true, false, k', xs) := by
  unfold ccI at h
  split at h
  · rename_i k0 fs e
    rcases iteC h with ⟨⟨h1, h2⟩, h3⟩ | ⟨_, h3⟩
    · cases h3
      rw [e, h1, h2]
      exact ⟨rfl, rfl⟩
    · cases h3
  · cases h
end
section
variable {E : lE} {G : lHeap}
theorem relL_app {l : List Nat} {A0 : lMem} : ∀ {es rs : List Value} {e r : Value}, relL l A0 es rs → relV l A0 e r → relL l A0 (es ++ [e]) (rs ++ [r]) := by
  intro es
  induction es with
  | nil =>
    intro rs e r h k
    cases rs with
    | nil => exact ⟨k, trivial⟩
    | cons _ _ => exact h.elim
  | cons x es ih =>
    intro rs e r h k
    cases rs with
    | nil => exact h.elim
    | cons z rs => exact ⟨h.1, ih h.2 k⟩
theorem relL_len {l : List Nat} {A0 : lMem} : ∀ {es rs : List Value}, relL l A0 es rs → es.length = rs.length := by
  intro es
  induction es with
  | nil =>
    intro rs h
    cases rs with
    | nil => rfl
    | cons _ _ => exact h.elim
  | cons x es ih =>
    intro rs h
    cases rs with
    | nil => exact h.elim
    | cons z rs =>
      have e := @ih rs h.2
      rw [List.length_cons, List.length_cons, e]
theorem relL_get {l : List Nat} {A0 : lMem} : ∀ {es rs : List Value} {i : Nat} {e : Value}, relL l A0 es rs → es[i]? = some e → ∃ r, rs[i]? = some r ∧ relV l A0 e r := by
  intro es
  induction es with
  | nil => intro rs i e _ h; cases h
  | cons x es ih =>
    intro rs i e h k
    cases rs with
    | nil => exact h.elim
    | cons z rs =>
      cases i with
      | zero => cases k; exact ⟨z, rfl, h.1⟩
      | succ i =>
        obtain ⟨r, h1, h2⟩ := @ih rs i e h.2 k
        exact ⟨r, h1, h2⟩
theorem relL_real {l : List Nat} {A0 : lMem} : ∀ {es rs : List Value}, relL l A0 es rs → ∀ v ∈ rs, v = .null ∨ ∃ b, v = .ref b := by
  intro es
  induction es with
  | nil =>
    intro rs h v hv
    cases rs with
    | nil => cases hv
    | cons _ _ => exact h.elim
  | cons x es ih =>
    intro rs h v hv
    cases rs with
    | nil => cases hv
    | cons z rs =>
      rcases List.mem_cons.mp hv with rfl | hv
      · obtain ⟨o, rfl⟩ := h.1.real
        cases o with
        | none => exact Or.inl rfl
        | some b => exact Or.inr ⟨b, rfl⟩
      · exact ih h.2 v hv
theorem relC_L {l : List Nat} {A0 : lMem} {sa : Nat} {m : Int32} {es rs : List Value} (h : relC l A0 sa 1013 (.int m :: es) rs) : ∃ rs', rs = .int m :: rs' ∧ relL l A0 es rs' := by
  unfold relC at h
  rw [if_pos rfl] at h
  obtain ⟨m', es', rs', h1, h2, h3⟩ := h
  cases h1
  exact ⟨rs', h2, h3⟩
theorem relC_L' {l : List Nat} {A0 : lMem} {sa : Nat} {m : Int32} {es rs : List Value} (h : relL l A0 es rs) : relC l A0 sa 1013 (.int m :: es) (.int m :: rs) := by
  unfold relC
  rw [if_pos rfl]
  exact ⟨m, es, rs, rfl, rfl, h⟩
/-- a list found by its number -/
theorem jp_L {y : lY} {s : CS} {A0 M : lMem} {own cr : Nat → Nat} {a : Nat} {m : Int32} {es : List Value} (hW : cW E y s A0) (hA : lAbo (lJd E G) G own cr M (cp y s A0)) (hc : s.1 a = some (true, false, 1013, .int m :: es)) : ∃ rs, y.2 a = .int m :: rs ∧ relL y.1 A0 es rs ∧ JL E (.int m :: rs) (adr y.1 a) (lHp own M (adr y.1 a)) (cr (adr y.1 a)) ∧ own (adr y.1 a) = adr y.1 a ∧ adr y.1 a < M.2.1 ∧ (∀ v ∈ rs, okV M v) := by
  obtain ⟨h1, h2, q1, q2, q3, q4, q5, q6⟩ := jp_at hW hA hc (by omega)
  obtain ⟨rs, e, hL⟩ := relC_L h2
  obtain ⟨r1, r2⟩ := q5 (by dsimp only; omega)
  have r2 := lJd_L r2
  rw [e] at r2
  refine ⟨rs, e, hL, r2, q1, q2, ?_⟩
  have o := q6 (Or.inl rfl)
  rw [e] at o
  exact okVs_ok (M := M) (vs := rs) (fun b hb => o b (List.mem_cons_of_mem _ hb)) hA.2.2.2.1 (relL_real hL)
theorem jp77 (hJE : jE E G) : JP_77 (lAb (lJd E G) G) E := by
  intro y s A0 a w e0 w0 x hW hr hr0 hx M hM
  obtain ⟨own, cr, hA⟩ := hM
  obtain ⟨⟨m, es⟩, hc, hx⟩ := bindC hx
  have hc := alC_some hc
  rcases iteC hx with ⟨⟨hl, he⟩, hx⟩ | ⟨_, hx⟩
  case inr => cases hx
  cases hx
  dsimp only at hc hl ⊢
  obtain ⟨rs, ey, hL, J, ho, hla, hok⟩ := jp_L hW hA hc
  rw [hr.1]
  have hv : okV M (vR w0) := by
    rcases hr0.real with ⟨o, ho'⟩
    cases hw : w0 with
    | none => exact Or.inl rfl
    | some b =>
      obtain ⟨w', ci, fs, e⟩ := jp_ok lJd_ok hW hA hr0 he b (by rw [hw]; rfl)
      exact Or.inr ⟨b, w', ci, fs, rfl, e, (hA.2.2.2.1 b _ e).2 rfl⟩
  obtain ⟨M', k1, k2, k3, kc, k4, k5⟩ := al_add hJE (fun q c h => (hA.2.2.2.2.1 q c h).1) rfl ho hla hA.2.2.1 hA.2.2.2.1 J hok hv (by rw [← relL_len hL]; exact hl)
  refine jp_done (kc := kc) (n := s.2.2.1 + 1) (m := s.2.2.2 + 16) (f := .int (m + 1) :: (rs ++ [vR w0])) hW hA hc (by decide) (by decide) (relC_L' (relL_app hL hr0)) ?_ (Nat.le_succ _) (k1.mono (by decide)) k2 (Or.inl ⟨rfl, k4⟩) ?_ (by omega) (by omega)
  · intro q hq
    have h5 := hW.2.2.2.2.1 a _ _ _ _ hc
    rcases List.mem_cons.mp hq with z | z
    · cases z
    rcases List.mem_append.mp z with z | z
    · exact h5 q (List.mem_cons_of_mem _ z)
    · rw [List.mem_singleton] at z
      rw [← z] at hr0
      rw [← hW.1]
      exact hr0.2
  · intro _ b hb
    rcases List.mem_cons.mp hb with z | z
    · cases z
    rcases List.mem_append.mp z with z | z
    · rcases hok _ z with q | ⟨b', w', ci, fs, q, e, _⟩
      · cases q
      · cases q
        obtain ⟨w2, fs2, e2⟩ := k2.2.2.2.1 _ _ _ _ _ e
        exact ⟨w2, ci, fs2, e2⟩
    · rw [List.mem_singleton] at z
      rcases hv with q | ⟨b', w', ci, fs, q, e, _⟩
      · rw [← z] at q; cases q
      · rw [← z] at q
        cases q
        obtain ⟨w2, fs2, e2⟩ := k2.2.2.2.1 _ _ _ _ _ e
        exact ⟨w2, ci, fs2, e2⟩
end
