/-! permits: whether a clause holds, the component -/
section
variable {t : TS} {nf : Nat} {hq : lHeap}
/-- a clause, in the component -/
def ClP (h : lHeap) (cc : Nat) (l1 l2 : List (Int32 × Int64)) (g : Nat) : Prop := ∃ (a b gg : Nat), h cc = some (true, false, 74, [.ref a, .ref gg, .ref b]) ∧ h gg = some (true, false, 1000, txV (sgL g)) ∧ g < 5 ∧ PT h 200 a l1 ∧ PT h 200 b l2
theorem ClP_up {h h' : lHeap} (e : ∀ p c, h p = some c → h' p = some c) {cc g : Nat} {l1 l2 : List (Int32 × Int64)} (r : ClP h cc l1 l2 g) : ClP h' cc l1 l2 g := by
  obtain ⟨a, b, gg, r1, r2, r3, r4, r5⟩ := r
  exact ⟨a, b, gg, e _ _ r1, e _ _ r2, r3, PT_up e r4, PT_up e r5⟩
theorem SgK_up {s s' : CS} (e : ∀ p c, s.1 p = some c → s'.1 p = some c) (r : SgK s) : SgK s' := by
  obtain ⟨⟨w1, k1⟩, ⟨w2, k2⟩, ⟨w3, k3⟩, ⟨w4, k4⟩, ⟨w5, k5⟩⟩ := r
  exact ⟨⟨w1, e _ _ k1⟩, ⟨w2, e _ _ k2⟩, ⟨w3, e _ _ k3⟩, ⟨w4, e _ _ k4⟩, ⟨w5, e _ _ k5⟩⟩
theorem VOk_ar {S : CS} (hw : wfS S) : VOk S (exAr S) 1 := VOk_nw (S := S) hw (true, false, 33, [.null, .ref 12, .ref S.2.1, .ref 17, .int 0, .ref 18]) (j := 1) (k := 6) (by omega) (by omega)
theorem exAr_eq (S : CS) : (exAr S).1 S.2.1 = some (true, false, 33, [.null, .ref 12, .ref S.2.1, .ref 17, .int 0, .ref 18]) := if_pos rfl
/-- what came of a clause -/
def ClO (hq : lHeap) (s : CS) (n : Nat) (X : Sum (Int32 × CS) (Nat × CS)) (r : Sum (Int32 × Int64) Bool) : Prop := ∃ S', VOk s S' n ∧ ((∃ q, r = .inr q ∧ X = .inl (if q = true then 1 else 0, S')) ∨ ∃ e o nm, 0 < o ∧ r = .inl (o, nm) ∧ X = .inr (e, S') ∧ ExO hq S' e o nm)
theorem FrC_up {s s' : CS} (e : ∀ p c, s.1 p = some c → s'.1 p = some c) {f : Nat} {x y : Int64} (r : FrC s f x y) : FrC s' f x y := e _ _ r
theorem c_holO {s : CS} (hw : wfS s) {c a b g k : Nat} {x y z w : Int64} {l r : Nat} (hc : s.1 c = some (true, false, 74, [.ref l, .ref g, .ref r])) (hg : s.1 g = some (true, false, 1000, txV (sgL k))) (hk : k < 5) (K : SgK s) (h0 : FrC s a x y) (h1 : FrC s b z w) : ∃ X, c_956 c a b s = some X ∧ ClO hq s 1 X (clRes k (.inr [(x, y)]) (.inr [(z, w)])) := by
  rw [c_holX hc hg hk K h0 h1, show clRes k (.inr [(x, y)]) (.inr [(z, w)]) = if (ovM x w || ovM z y) = true then .inl (2, 0) else .inr (sgH k (x * w) (z * y)) from rfl]
  by_cases o : (ovM x w || ovM z y) = true
  · rw [if_pos o, if_pos o]
    exact ⟨_, rfl, exAr s, VOk_ar hw, Or.inr ⟨s.2.1, 2, 0, by decide, rfl, rfl, Or.inl ⟨rfl, rfl, _, exAr_eq s⟩⟩⟩
  · rw [if_neg o, if_neg o]
    exact ⟨_, rfl, s, ⟨hw, Nat.le_refl _, fun _ _ => rfl, by omega, by omega⟩, Or.inl ⟨_, rfl, rfl⟩⟩
theorem ClO_st {s S : CS} {n m k : Nat} {X : Sum (Int32 × CS) (Nat × CS)} {r : Sum (Int32 × Int64) Bool} (v : VOk s S n) (h : ClO hq S m X r) (hk : n + m ≤ k) : ClO hq s k X r := by
  obtain ⟨S', v', h⟩ := h
  exact ⟨S', VOk_tr v v' hk, h⟩
theorem c_clX {s : CS} {cc g : Nat} {l1 l2 : List (Int32 × Int64)} (hw : wfS s) (K : SgK s) (hf : R3f s.1 t nf) (hs : ∀ p c, hq p = some c → s.1 p = some c) (r : ClP hq cc l1 l2 g) : ∃ X, c_957 cc 107 s = some X ∧ ClO hq s (2 * l1.length + 2 * l2.length + 1) X (clRes g (evS t nf l1 []) (evS t nf l2 [])) := by
  obtain ⟨a, b, gg, r1, r2, r3, r4, r5⟩ := r
  obtain ⟨w91, k91⟩ := K.2.2.2.2
  have r1 := hs _ _ r1
  have r2 := hs _ _ r2
  unfold c_957
  rw [xN_o r1 rfl rfl, Option.bind_some]
  obtain ⟨X1, e1, S1, v1, o1⟩ := c_val hw k91 hf hs r4
  have e1' : (if isK s [71] a = true then c_950 a 107 s else (if isK s [72] a = true then c_952 a 107 s else (if isK s [73] a = true then c_954 200 a 107 s else none))) = some X1 := e1
  rw [e1', Option.bind_some]
  rcases o1 with ⟨x, y, f, i1, y0, rfl, F1, _⟩ | ⟨e, o, nm, o0, i1, rfl, x1⟩
  rotate_left
  · rw [Sum.elim_inr, i1]
    exact ⟨_, rfl, S1, VOk_tr v1 ⟨v1.1, Nat.le_refl _, fun _ _ => rfl, by omega, by omega⟩ (m := 0) (by omega), Or.inr ⟨e, o, nm, k_pos (evS_k i1), rfl, rfl, x1⟩⟩
  rw [Sum.elim_inl, i1]
  dsimp only
  have up1 : ∀ p c, s.1 p = some c → S1.1 p = some c := fun p c h => VOk_up v1 hw h
  rw [xN_o (up1 _ _ r1) rfl rfl, Option.bind_some]
  obtain ⟨X2, e2, S2, v2, o2⟩ := c_val (t := t) (nf := nf) v1.1 (up1 _ _ k91) (R3f_up hf (fun c => up1 107 c)) (fun p c h => up1 p c (hs p c h)) r5
  have e2' : (if isK S1 [71] b = true then c_950 b 107 S1 else (if isK S1 [72] b = true then c_952 b 107 S1 else (if isK S1 [73] b = true then c_954 200 b 107 S1 else none))) = some X2 := e2
  rw [e2', Option.bind_some]
  rcases o2 with ⟨z, u, f2, i2, u0, rfl, F2, _⟩ | ⟨e, o, nm, o0, i2, rfl, x1⟩
  rotate_left
  · rw [Sum.elim_inr, i2]
    exact ⟨_, rfl, S2, VOk_tr v1 v2 (by omega), Or.inr ⟨e, o, nm, k_pos (evS_k i2), rfl, rfl, x1⟩⟩
  rw [Sum.elim_inl, i2]
  dsimp only
  have up2 : ∀ p c, S1.1 p = some c → S2.1 p = some c := fun p c h => VOk_up v2 v1.1 h
  rw [if_pos (isK_t (up2 _ _ (up1 _ _ r1)) rfl)]
  obtain ⟨X3, e3, o3⟩ := c_holO v2.1 (up2 _ _ (up1 _ _ r1)) (up2 _ _ (up1 _ _ r2)) r3 (SgK_up (fun p c h => up2 p c (up1 p c h)) K) (FrC_up up2 F1) F2
  rw [e3, Option.bind_some]
  have o4 := ClO_st (VOk_tr v1 v2 (Nat.le_refl _)) o3 (k := 2 * l1.length + 2 * l2.length + 1) (by omega)
  obtain ⟨S3, v3, h3⟩ := id o4
  rcases h3 with ⟨q, q1, rfl⟩ | ⟨e, o, nm, _, q1, rfl, _⟩
  · rw [Sum.elim_inl]
    dsimp only
    rw [if_pos (by cases q <;> rfl)]
    exact ⟨_, rfl, o4⟩
  · rw [Sum.elim_inr]
    exact ⟨_, rfl, o4⟩
end
