/-! the library's calls: what they find and leave -/
/-- how a call may change the memory, for the object at a -/
def Jw (own : Nat → Nat) (a : Nat) (M M' : lMem) : Prop := M.2.1 ≤ M'.2.1 ∧ (∀ q, M'.2.1 ≤ q → M'.1 q = none) ∧ (∀ q c, M'.1 q = some c → rk6 c) ∧ lKs M M' ∧ ∀ q, q < M.2.1 → own q ≠ a → M'.1 q = M.1 q
section
variable {J : lJ} {G : lHeap} {own cr : Nat → Nat} {M M' A : lMem} {a n m k : Nat}
theorem Jw.rf (h : lAbo J G own cr M A) : Jw own a M M := ⟨Nat.le_refl _, h.2.2.1, h.2.2.2.1, lKs.rf M, fun _ _ _ => rfl⟩
theorem Jw.upd (h : Jw own a M M') {q ci : Nat} {w w' b : Bool} {fs fs' : List Value} (e : M'.1 q = some (w, b, ci, fs)) (ho : q < M.2.1 → own q = a) : Jw own a M (lUpd M'.1 q (w', b, ci, fs'), M'.2.1, M'.2.2) := by
  obtain ⟨h1, h2, h3, h4, h5⟩ := h
  refine ⟨h1, fun p hp => ?_, fun p c hc => ?_, h4.upd e, fun p hp hn => ?_⟩
  · have z : p ≠ q := fun z => by
      have := h2 p hp
      rw [z, e] at this
      cases this
    exact (lUpd_ne _ _ z).trans (h2 p hp)
  · by_cases z : p = q
    · subst z
      have hc : lUpd M'.1 p _ p = some c := hc
      rw [lUpd_eq] at hc
      cases hc
      exact h3 p (w, b, ci, fs) e
    · have hc : lUpd M'.1 q _ p = some c := hc
      rw [lUpd_ne _ _ z] at hc
      exact h3 p c hc
  · exact (lUpd_ne _ _ (fun z => hn (by rw [z]; exact ho (by rw [← z]; exact hp)))).trans (h5 p hp hn)
theorem Jw.new (h : Jw own a M M') {c : lCell} (hk : rk6 c) (m : Nat) : Jw own a M (lUpd M'.1 M'.2.1 c, M'.2.1 + 1, m) := by
  obtain ⟨h1, h2, h3, h4, h5⟩ := h
  refine ⟨Nat.le_succ_of_le h1, fun p hp => ?_, fun p c' hc => ?_, h4.new (h2 _ (Nat.le_refl _)), fun p hp hn => ?_⟩
  · have hp : M'.2.1 + 1 ≤ p := hp
    exact (lUpd_ne _ _ (by omega)).trans (h2 p (by omega))
  · by_cases z : p = M'.2.1
    · subst z
      have hc : lUpd M'.1 M'.2.1 _ M'.2.1 = some c' := hc
      rw [lUpd_eq] at hc
      cases hc
      exact hk
    · have hc : lUpd M'.1 M'.2.1 _ p = some c' := hc
      rw [lUpd_ne _ _ z] at hc
      exact h3 p c' hc
  · exact (lUpd_ne _ _ (by omega)).trans (h5 p hp hn)
theorem Jw.cost (h : Jw own a M M') (m : Nat) : Jw own a M (M'.1, M'.2.1, m) := h
/-- the region of the changed object -/
theorem hp_old {q : Nat} (ho : own q = a) (hq : q < M.2.1) : lHp (ownN own M.2.1 a) M' a q = M'.1 q := if_pos ((ownN_lt hq).trans ho)
theorem hp_new {q : Nat} (hq : M.2.1 ≤ q) : lHp (ownN own M.2.1 a) M' a q = M'.1 q := if_pos (ownN_ge hq)
theorem hp_some {q : Nat} {c : lCell} (e : lHp own M a q = some c) : own q = a ∧ M.1 q = some c := by
  unfold lHp at e
  split at e
  · exact ⟨by assumption, e⟩
  · cases e
theorem Jw.fin (hA : lAbo J G own cr M A) (h : Jw own a M M') {c0 : lCell} (h0 : A.1 a = some c0) (hw : c0.1 = true ∨ 1000 < c0.2.2.1) {w : Bool} {kd : Nat} {f : List Value} (hk : 1000 ≤ kd) (hJ : J kd f a (lHp (ownN own M.2.1 a) M' a) k) (hE : kd = 1013 ∨ kd = 1004 ∨ kd = 1037 → okVs M' f) (hz1 : M'.2.1 + A.2.1 ≤ n + M.2.1 ∨ M'.2.1 ≤ n) (hz2 : M'.2.2 + k + A.2.2 ≤ m + M.2.2 + cr a) : lAb J G M' (lUpd A.1 a (w, false, kd, f), n, m) := by
  obtain ⟨h1, h2, h3, h4, h5⟩ := h
  obtain ⟨q1, q2, q3, q4, q5, _⟩ := hA.2.2.2.2.2 a _ h0
  refine ⟨_, _, hA.chg (k := k) h0 hw h1 h2 h3 h4 h5 ⟨(ownN_lt q2).trans q1, Nat.lt_of_lt_of_le q2 h1, fun _ => q3 hw, fun z => ?_, fun _ => ⟨rfl, ?_⟩, hE⟩ ?_ hz2⟩
  · dsimp only at z
    omega
  · rw [crdN_a]
    exact hJ
  · have := hA.1
    omega
end
section
variable {E : lE} {y : lY} {s : CS} {A0 M : lMem} {J : lJ} {G : lHeap} {own cr : Nat → Nat} {a : Nat}
/-- an object of the library, found by its number -/
theorem jp_at (hW : cW E y s A0) (hA : lAbo J G own cr M (cp y s A0)) {w b : Bool} {k : Nat} {fs : List Value} (hc : s.1 a = some (w, b, k, fs)) (hk : 1000 ≤ k) : (cp y s A0).1 (adr y.1 a) = some (w, b, k, y.2 a) ∧ relC y.1 A0 (adr y.1 a) k fs (y.2 a) ∧ lCel J G own cr M (adr y.1 a) (w, b, k, y.2 a) := by
  have h1 := hW.at (hW.2.1 a _ hc)
  rw [hc] at h1
  have h2 : (cp y s A0).1 (adr y.1 a) = some (w, b, k, y.2 a) := by
    rw [h1]
    simp only [Option.map_some, cpc]
    rw [if_pos hk]
  exact ⟨h2, hW.2.2.2.2.2.1 a w b k fs hc hk, hA.2.2.2.2.2 _ _ h2⟩
/-- a plain object, found by its number -/
theorem jp_pl (hW : cW E y s A0) (hA : lAbo J G own cr M (cp y s A0)) {w b : Bool} {k : Nat} {fs : List Value} (hc : s.1 a = some (w, b, k, fs)) (hk : k < 1000) : (cp y s A0).1 (adr y.1 a) = some (w, b, k, fs.map (rv y.1)) ∧ ∃ w', M.1 (adr y.1 a) = some (w', b, k, fs.map (rv y.1)) ∧ (w = true → w' = true) := by
  have h1 := hW.at (hW.2.1 a _ hc)
  rw [hc] at h1
  have h2 : (cp y s A0).1 (adr y.1 a) = some (w, b, k, fs.map (rv y.1)) := by
    rw [h1]
    simp only [Option.map_some, cpc]
    rw [if_neg (by omega)]
  exact ⟨h2, hA.pl h2 hk⟩
/-- an object's kind in the memory -/
theorem jp_kd (hJ : lJok J) (hW : cW E y s A0) (hA : lAbo J G own cr M (cp y s A0)) {w : Bool} {k : Nat} {fs : List Value} (hc : s.1 a = some (w, false, k, fs)) : ∃ w' fs', M.1 (adr y.1 a) = some (w', false, k % 1000, fs') := by
  by_cases hk : k < 1000
  · obtain ⟨_, w', e, _⟩ := jp_pl hW hA hc hk
    exact ⟨w', _, by rw [Nat.mod_eq_of_lt hk]; exact e⟩
  · obtain ⟨_, _, q1, q2, q3, q4, q5, _⟩ := jp_at hW hA hc (by omega)
    obtain ⟨r1, r2⟩ := q5 (by dsimp only; omega)
    obtain ⟨w', fs', e⟩ := hJ _ _ _ _ _ r2
    exact ⟨w', fs', (hp_some e).2⟩
/-- what a real value tells may lie in an array of objects -/
theorem jp_ok (hJ : lJok J) (hW : cW E y s A0) (hA : lAbo J G own cr M (cp y s A0)) {e r : Value} (hr : relV y.1 A0 e r) (he : elO s e = true) : ∀ b, r = .ref b → ∃ w ci fs, M.1 b = some (w, false, ci, fs) := by
  intro b hb
  unfold relV at hr
  split at hr
  · rename_i q _
    obtain ⟨h1, h2⟩ := hr
    unfold elO at he
    dsimp only at he
    unfold kdo at he
    split at he
    · rename_i w ci fs hs
      obtain ⟨w', fs', e⟩ := jp_kd hJ hW hA hs
      rw [h1] at hb
      cases hb
      exact ⟨w', _, fs', e⟩
    · cases he
  · rw [hr] at hb; cases hb
  · obtain ⟨q, w, h1, h2, h3⟩ := hr
    rw [h1] at hb
    cases hb
    have e2 : (cp y s A0).1 b = A0.1 b := by
      unfold cp
      dsimp only
      rw [h3]
    obtain ⟨w', e3, _⟩ := hA.pl (e2.trans h2) (by omega)
    exact ⟨w', 19, _, e3⟩
  · obtain ⟨q, w, h1, h2, h3⟩ := hr
    rw [h1] at hb
    cases hb
    have e2 : (cp y s A0).1 b = A0.1 b := by
      unfold cp
      dsimp only
      rw [h3]
    obtain ⟨w', e3, _⟩ := hA.pl (e2.trans h2) (by omega)
    exact ⟨w', 20, _, e3⟩
  · exact hr.elim
/-- a cell gets other contents, in the abstract store -/
theorem jp_wr (hW : cW E y s A0) {b : Bool} {k k' : Nat} {fs fs' f : List Value} {n m : Nat} (hc : s.1 a = some (true, b, k, fs)) (h42 : k ≠ 1042) (hk : 1000 ≤ k') (hf : relC y.1 A0 (adr y.1 a) k' fs' f) (hv : ∀ q, .ref q ∈ fs' → q < s.2.1) (hn : s.2.2.1 ≤ n) :
    cW E (y.1, fun c => if c = a then f else y.2 c) (lUpd s.1 a (true, false, k', fs'), s.2.1, n, m) A0 ∧ Ext y s A0 (y.1, fun c => if c = a then f else y.2 c) (lUpd s.1 a (true, false, k', fs'), s.2.1, n, m) A0 ∧ cp (y.1, fun c => if c = a then f else y.2 c) (lUpd s.1 a (true, false, k', fs'), s.2.1, n, m) A0 = (lUpd (cp y s A0).1 (adr y.1 a) (true, false, k', f), n, m) := by
  obtain ⟨h1, h2⟩ := hW.chg (x' := (true, false, k', fs')) (n := n) (m := m) (f := f) hc rfl hv (fun _ => hf)
  refine ⟨h1, Ext.same (fun _ _ h => h) (fun _ _ h k => ⟨h, k⟩) hn (fun c mm hm => ?_), ?_⟩
  · have hca : c ≠ a := fun z => by
      unfold mcOf at hm
      rw [z, hc] at hm
      split at hm
      · rename_i e
        cases e
        exact h42 rfl
      · cases hm
    refine ⟨?_, if_neg hca⟩
    unfold mcOf at hm ⊢
    dsimp only
    rw [show lUpd s.1 a (true, false, k', fs') c = s.1 c from lUpd_ne _ _ hca]
    exact hm
  · rw [h2]
    dsimp only
    rw [if_pos hk]
/-- the end of a call that changes one object -/
theorem jp_done {D mi : Nat} {args : List Value} {M' : lMem} {v : Option Value} {b : Bool} {k k' : Nat} {fs fs' f : List Value} {n m kc : Nat} (hW : cW E y s A0) (hA : lAbo J G own cr M (cp y s A0)) (hc : s.1 a = some (true, b, k, fs)) (h42 : k ≠ 1042) (hk : 1000 ≤ k') (hf : relC y.1 A0 (adr y.1 a) k' fs' f) (hv : ∀ q, .ref q ∈ fs' → q < s.2.1) (hn : s.2.2.1 ≤ n)
    (hsp : lSp E prog D mi args M (.inl v, M')) (hw : Jw own (adr y.1 a) M M') (hJ : J k' f (adr y.1 a) (lHp (ownN own M.2.1 (adr y.1 a)) M' (adr y.1 a)) kc) (hE : k' = 1013 ∨ k' = 1004 ∨ k' = 1037 → okVs M' f) (hz1 : M'.2.1 + s.2.2.1 ≤ n + M.2.1) (hz2 : M'.2.2 + kc + s.2.2.2 ≤ m + M.2.2 + cr (adr y.1 a)) :
    ∃ (fin : lF) (A' : lMem), lSp E prog D mi args M fin ∧ lAb J G fin.2 A' ∧ lXk A' fin.1 ∧ (fin.1 = .inl v ∧ qP E y s A0 (lUpd s.1 a (true, false, k', fs'), s.2.1, n, m) A') := by
  obtain ⟨h1, h2, h3⟩ := jp_wr (m := m) hW hc h42 hk hf hv hn
  have h0 : ∃ c0, (cp y s A0).1 (adr y.1 a) = some c0 ∧ (c0.1 = true ∨ 1000 < c0.2.2.1) := by
    have := hW.at (hW.2.1 a _ hc)
    rw [hc] at this
    exact ⟨_, this, Or.inl rfl⟩
  obtain ⟨c0, h0, hw0⟩ := h0
  refine ⟨_, _, hsp, ?_, trivial, rfl, _, _, h1, h2, rfl⟩
  rw [h3]
  exact hw.fin hA h0 hw0 hk hJ hE (Or.inl hz1) hz2
end
