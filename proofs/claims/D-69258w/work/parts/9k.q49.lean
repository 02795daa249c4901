/-! permits: clauses one after another -/
section
variable {s S : CS} {t T U V : TS} {x : List Nat} {rd rl k k' n0 nc : Nat} {dp : Int32} {F : List ClD}
def sumL : List ClD → Nat
  | [] => 0
  | d :: F => d.1.length + d.2.1.length + sumL F
theorem sumL_app (F G : List ClD) : sumL (F ++ G) = sumL F + sumL G := by
  induction F with
  | nil => show sumL G = 0 + sumL G; omega
  | cons d F ih => show d.1.length + d.2.1.length + sumL (F ++ G) = d.1.length + d.2.1.length + sumL F + sumL G; rw [ih]; omega
theorem sumL_take {c : Nat} (h : c < F.length) : sumL (F.take c) + F[c].1.length + F[c].2.1.length ≤ sumL F ∧ sumL (F.take (c + 1)) = sumL (F.take c) + F[c].1.length + F[c].2.1.length := by
  have e : F = F.take c ++ F[c] :: F.drop (c + 1) := by rw [← List.drop_eq_getElem_cons h, List.take_append_drop]
  have e2 : sumL F = sumL (F.take c) + (F[c].1.length + F[c].2.1.length + sumL (F.drop (c + 1))) := (congrArg sumL e).trans (sumL_app _ _)
  refine ⟨by omega, ?_⟩
  rw [List.take_succ_eq_append_getElem h, sumL_app]
  show _ + (F[c].1.length + F[c].2.1.length + 0) = _
  omega
/-- some cells apart from those of A stay -/
def JY (A : Nat → Prop) (s S : CS) (n : Nat) : Prop := wfS S ∧ s.2.1 ≤ S.2.1 ∧ (∀ p, p < s.2.1 → ¬ A p → S.1 p = s.1 p) ∧ S.2.2.1 ≤ s.2.2.1 + 3 * n ∧ S.2.2.2 ≤ s.2.2.2 + 9 * n
theorem JY_x {A : Nat → Prop} {n : Nat} (h : JX rd s S n) (hA : A rd) : JY A s S n := ⟨h.1, h.2.1, fun p hp hn => h.2.2.1 p hp (fun w => hn (by rw [w]; exact hA)), h.2.2.2⟩
theorem JY_tr {A : Nat → Prop} {V : CS} {n m j : Nat} (h1 : JY A s S n) (h2 : JY A S V m) (hj : n + m ≤ j) : JY A s V j := by
  obtain ⟨a1, a2, a3, a4, a5⟩ := h1
  obtain ⟨b1, b2, b3, b4, b5⟩ := h2
  exact ⟨b1, by omega, fun p hp hn => (b3 p (by omega) hn).trans (a3 p hp hn), by omega, by omega⟩
theorem JY_sub {A B : Nat → Prop} {n : Nat} (h : JY A s S n) (hs : ∀ p, p < s.2.1 → A p → B p) : JY B s S n := ⟨h.1, h.2.1, fun p hp hn => h.2.2.1 p hp (fun w => hn (hs p hp w)), h.2.2.2⟩
theorem JY_le {A : Nat → Prop} {n m : Nat} (h : JY A s S n) (hm : n ≤ m) : JY A s S m := by
  obtain ⟨a1, a2, a3, a4, a5⟩ := h
  exact ⟨a1, a2, a3, by omega, by omega⟩
theorem JY_0 {A : Nat → Prop} (hw : wfS s) : JY A s s 0 := ⟨hw, Nat.le_refl _, fun _ _ _ => rfl, by omega, by omega⟩
theorem JY_c {A : Nat → Prop} {n q : Nat} {c : lCell} (h : JY A s S n) (hq : A q ∨ s.2.1 ≤ q) (hl : q < S.2.1) : JY A s (cup S q c) n := by
  obtain ⟨a1, a2, a3, a4, a5⟩ := h
  refine ⟨wf_cup a1 hl, a2, fun p hp hn => (cup_ne (fun w => ?_)).trans (a3 p hp hn), a4, a5⟩
  rcases hq with z | z
  · rw [← w] at z; exact hn z
  · omega
theorem JY_up {A : Nat → Prop} {n : Nat} (h : JY A s S n) (hw : wfS s) {p : Nat} {c : lCell} (hn : ¬ A p) (e : s.1 p = some c) : S.1 p = some c := (h.2.2.1 p (wf_lt hw e) hn).trans e
theorem noN_jy {A : Nat → Prop} {n : Nat} (h : JY A s S n) (hw : wfS s) (hA : ∀ p c, A p → s.1 p = some c → kKp c.2.2.1 = false) : ∀ p c, noN rd s.1 p = some c → noN rd S.1 p = some c := fun p c e => by
  obtain ⟨e1, e2⟩ := noN_of e
  obtain ⟨e3, e4⟩ := noK_of e1
  refine noN_in (noK_in (JY_up h hw (fun w => ?_) e3) e4) e2
  rw [hA p c w e3] at e4
  exact absurd e4 (by decide)
/-- both readers and the clauses so far -/
def PsC (s : CS) (t : TS) (rd rl : Nat) (x : List Nat) (k : Nat) (F : List ClD) : Prop := RdC s rd rl x k (Int32.ofNat 0) ∧ RdT t x k ∧ t.1 233 = Int32.ofNat F.length ∧ t.1 234 = Int32.ofNat (sumL F) ∧ sumL F + 2 ≤ 2 * k ∧ 3 * F.length + 1 ≤ k ∧ ∀ c (h : c < F.length), RcN t c F[c] (sumL (F.take c))
/-- one clause more -/
theorem ps_clause (I : PsC s t rd rl x k F) : (∃ S T cc d k', c_939 rd s = some (.inl (cc, S)) ∧ t_742 t = some T ∧ PsC S T rd rl x k' (F ++ [d]) ∧ ClP (noN rd S.1) cc d.1 d.2.1 d.2.2 ∧ k + 3 ≤ k' ∧ JX rd s S (4 * (k' - k)) ∧ ClF F.length (sumL F) t T) ∨ ∃ S ex T, c_939 rd s = some (.inr (ex, S)) ∧ t_742 t = some T ∧ ClF F.length (sumL F) t T ∧ RdX rd s k S ex T := by
  obtain ⟨R, Q, h233, h234, B, C, hF⟩ := I
  have k12 := k121 R
  rcases rd_clause R Q h233 (by omega) h234 B with ⟨S, T, cc, d, k', c1, c2, R', Q', g233, g234, B', N, P, kk, J, Fr⟩ | bad
  rotate_left
  · exact Or.inr bad
  left
  have hlen : (F ++ [d]).length = F.length + 1 := by rw [List.length_append]; rfl
  have hsum : sumL (F ++ [d]) = sumL F + d.1.length + d.2.1.length := by rw [sumL_app]; show _ + (d.1.length + d.2.1.length + 0) = _; omega
  refine ⟨S, T, cc, d, k', c1, c2, ⟨R', Q', by rw [hlen]; exact g233, by rw [hsum]; exact g234, by rw [hsum]; exact B', ?_, fun c hc => ?_⟩, P, kk, J, Fr⟩
  · rw [hlen]; omega
  · by_cases z : c < F.length
    · have e1 : (F ++ [d])[c] = F[c] := List.getElem_append_left z
      have e2 : (F ++ [d]).take c = F.take c := List.take_append_of_le_length (by omega)
      rw [e1, e2]
      exact RcN_f Fr z (sumL_take z).1 (hF c z)
    · rw [hlen] at hc
      have ec : c = F.length := by omega
      subst ec
      have e1 : (F ++ [d])[F.length] = d := by rw [List.getElem_append_right (Nat.le_refl _)]; simp
      have e2 : (F ++ [d]).take F.length = F := List.take_left
      rw [e1, e2]
      exact N
end
