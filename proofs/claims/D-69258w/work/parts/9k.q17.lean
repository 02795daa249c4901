/-! permits: the reference takes a step -/
section
variable {t T : TS} {nf : Nat} {st : StP}
def RkR (t T : TS) (r : Sum (Int32 × Int64) StP) : Prop := (∃ st', r = .inr st' ∧ T.1 240 = 0 ∧ T.2.1 241 = t.2.1 241 ∧ PiR T st') ∨ ∃ o nm, r = .inl (o, nm) ∧ o ≠ 0 ∧ T.1 240 = o ∧ T.2.1 241 = nm
theorem RkF_0 : RkF t t := ⟨fun _ _ _ => rfl, fun _ _ => rfl, rfl, fun _ _ _ => rfl⟩
theorem RkR_op {r0 : Int32 × Int64 × Int64} {r : StP} (o : OpR t T r.length r0) (h : ∀ j p, r.reverse[j]? = some p → t.2.2.2 97 j = p.1 ∧ t.2.2.2 98 j = p.2) (h2 : ∀ p ∈ r, p.2 ≠ 0) (hr : (∃ e, e.1 ≠ 0 ∧ ∀ st, pshR r0 st = .inl e) ∨ ∃ x y, y ≠ 0 ∧ ∀ st, pshR r0 st = .inr ((x, y) :: st)) : RkR t T (pshR r0 r) := by
  obtain ⟨p, o1, o2, o3⟩ := o
  by_cases z : r0.1 = 0
  · left
    refine ⟨(r0.2.1, r0.2.2) :: r, if_pos z, o1.trans z, by rw [o2, if_pos z], PiR_pu h h2 p (o3 z).1 (o3 z).2 ?_⟩
    rcases hr with ⟨e1, _, q⟩ | ⟨x, y, hy, q⟩
    · have := q []; rw [show pshR r0 [] = .inr [(r0.2.1, r0.2.2)] from if_pos z] at this; cases this
    · have := q []; rw [show pshR r0 [] = .inr [(r0.2.1, r0.2.2)] from if_pos z] at this
      have h2 := List.cons.inj (Sum.inr.inj this)
      rw [show r0.2.2 = y from (Prod.mk.inj h2.1).2]; exact hy
  · right
    exact ⟨r0.1, 0, if_neg z, z, o1, by rw [o2, if_neg z]⟩
theorem t_stp {A : Type} (g : TS → Option A) {i : Nat} (hi : i < 800) {k : Int32} {v : Int64} (e87 : t.2.2.1 87 i = k) (e88 : t.2.2.2 88 i = v) (hk : k = 0 ∨ k = 1 ∨ ((k = 2 ∨ k = 3 ∨ k = 4 ∨ k = 5) ∧ 2 ≤ st.length)) (h : PiR t st) (hl : st.length < 130) (h0 : t.1 240 = 0) (h2 : t.1 202 = Int32.ofNat nf) (h40 : nf ≤ 40) : ∃ T, Option.bind (rdI t 87 800 (Int32.ofNat i)) (fun x2 => Option.bind ((if x2 = 0 then Option.bind (rdL t 88 800 (Int32.ofNat i)) (fun x12 => Option.bind (t_756 x12 1 t) (fun x13 => some x13)) else Option.bind (rdI t 87 800 (Int32.ofNat i)) (fun x3 => (if x3 = 1 then Option.bind (rdL t 88 800 (Int32.ofNat i)) (fun x6 => Option.bind (t_750 x6 t) (fun x7 => (if x7 < 0 then Option.bind (rdL t 88 800 (Int32.ofNat i)) (fun x10 => Option.bind (t_757 1 x10 t) (fun x11 => some x11)) else Option.bind (rdI t 78 40 x7) (fun x8 => Option.bind (t_756 x8.toInt64 1 t) (fun x9 => some x9))))) else Option.bind (rdI t 87 800 (Int32.ofNat i)) (fun x4 => Option.bind (t_758 x4 t) (fun x5 => some x5)))))) g) = g T ∧ RkF t T ∧ RkR t T (stp1 t nf k v st) := by
  obtain ⟨q1, q2, q3⟩ := id h
  have push : ∀ u : Int64, ∃ T, t_756 u 1 t = some T ∧ RkF t T ∧ RkR t T (pshR (frR u 1) st) := fun u => by
    obtain ⟨T, e, r⟩ := t_pushO (OZ_0 h0) (u := u) (l := 1) q1 hl h0 (fun _ => by decide)
    exact ⟨T, e, RkF_pu RkF_0 r.1, RkR_op (r0 := frR u 1) r q2 q3 (pshR_fr (by decide))⟩
  rw [rdI_n hi (by decide), e87, Option.bind_some, rdL_n hi (by decide), e88]
  unfold stp1
  by_cases k0 : k = 0
  · rw [if_pos k0, if_pos k0, Option.bind_some]
    obtain ⟨T, e, r⟩ := push v
    rw [e]
    exact ⟨T, rfl, r⟩
  · rw [if_neg k0, if_neg k0, Option.bind_some]
    by_cases k1 : k = 1
    · rw [if_pos k1, if_pos k1, Option.bind_some, t_fcI h2 h40, Option.bind_some]
      cases f : fcI t v nf with
      | none =>
        obtain ⟨o1, o2⟩ := opnT_z (t := t) 1 v h0
        rw [show fcV none = -1 from rfl, if_pos (by decide), Option.bind_some, t_opn]
        refine ⟨_, rfl, ⟨fun c _ hc => opnT_1 _ _ c hc, fun c hc => opnT_2 _ _ c hc, by rw [opnT_3], fun c _ _ => by rw [opnT_3]⟩, Or.inr ⟨1, v, rfl, by decide, o1, o2⟩⟩
      | some j =>
        obtain ⟨hj, _⟩ := fcI_lt f
        rw [show fcV (some j) = Int32.ofNat j from rfl, if_neg (i_nlt0 (by omega)), rdI_n (show j < 40 by omega) (by decide), Option.bind_some]
        obtain ⟨T, e, r⟩ := push (t.2.2.1 78 j).toInt64
        rw [e]
        exact ⟨T, rfl, r⟩
    · rw [if_neg k1, if_neg k1, Option.bind_some]
      obtain ⟨k5, l2⟩ : (k = 2 ∨ k = 3 ∨ k = 4 ∨ k = 5) ∧ 2 ≤ st.length := by
        rcases hk with w | w | w
        · exact absurd w k0
        · exact absurd w k1
        · exact w
      match st, q1, q2, q3, l2, hl with
      | (c, d) :: (a, b) :: r, q1, q2, q3, _, hl =>
        have x1 := q2 (r.length + 1) (c, d) (by simp)
        have x2 := q2 r.length (a, b) (by simp)
        have hl' : r.length + 1 + 1 < 130 := hl
        obtain ⟨T, e, o⟩ := t_oper (t := t) k5 (n := r.length) q1 (by omega) h0 (by rw [x2.2]; exact q3 (a, b) (by simp)) (by rw [x1.2]; exact q3 (c, d) (by simp))
        rw [x1.1, x1.2, x2.1, x2.2] at o
        rw [e]
        refine ⟨T, rfl, RkF_pu RkF_0 o.1, ?_⟩
        show RkR t T (pshR (frop k a b c d) r)
        refine RkR_op o (fun j p hp => q2 j p ?_) (fun p hp => q3 p (by simp [hp])) (pshR_op k (q3 (a, b) (by simp)) (q3 (c, d) (by simp)))
        have lt : j < r.reverse.length := by
          rcases Nat.lt_or_ge j r.reverse.length with w | w
          · exact w
          · rw [List.getElem?_eq_none w] at hp; cases hp
        rw [List.reverse_cons, List.reverse_cons, List.append_assoc, List.getElem?_append_left lt]
        exact hp
end
