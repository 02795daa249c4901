/-! permits: the pile of a side, the reference -/
section
variable {t T S U : TS} {x : List Nat} {n0 : Nat} {e : List (Int32 × Int64)} {P : List Int32}
/-- what a side changes -/
def SdF (n0 : Nat) (t T : TS) : Prop := (∀ c, c ≠ 226 → c ≠ 227 → c ≠ 228 → c ≠ 230 → c ≠ 231 → c ≠ 234 → c ≠ 236 → T.1 c = t.1 c) ∧ (∀ c, c ≠ 229 → T.2.1 c = t.2.1 c) ∧ (∀ c j, (c = 96 ∨ (c = 87 ∧ 400 + n0 ≤ j)) ∨ T.2.2.1 c j = t.2.2.1 c j) ∧ ∀ c j, (c = 88 ∧ 400 + n0 ≤ j) ∨ T.2.2.2 c j = t.2.2.2 c j
theorem SdF_0 : SdF n0 t t := ⟨fun _ _ _ _ _ _ _ _ => rfl, fun _ _ => rfl, fun _ _ => Or.inr rfl, fun _ _ => Or.inr rfl⟩
theorem SdF_tr (f : SdF n0 t S) (g : SdF n0 S T) : SdF n0 t T := by
  refine ⟨fun c a1 a2 a3 a4 a5 a6 a7 => (g.1 c a1 a2 a3 a4 a5 a6 a7).trans (f.1 c a1 a2 a3 a4 a5 a6 a7), fun c a => (g.2.1 c a).trans (f.2.1 c a), fun c j => ?_, fun c j => ?_⟩
  · rcases g.2.2.1 c j with h | h
    · exact Or.inl h
    · rw [h]; exact f.2.2.1 c j
  · rcases g.2.2.2 c j with h | h
    · exact Or.inl h
    · rw [h]; exact f.2.2.2 c j
theorem SdF_st (f : StF t T) : SdF n0 t T := ⟨fun c a1 a2 a3 a4 a5 _ _ => f.1 c a1 a2 a3 a4 a5, f.2.1, fun c j => Or.inr (by rw [f.2.2]), fun c j => Or.inr (by rw [f.2.2])⟩
theorem SdF_231 (v : Int32) : SdF n0 T (ptI T 231 v) := ⟨fun c _ _ _ _ a _ _ => if_neg a, fun _ _ => rfl, fun _ _ => Or.inr rfl, fun _ _ => Or.inr rfl⟩
/-- what stands: the row of steps from n0 on, the pile -/
def StK (T : TS) (n0 : Nat) (e : List (Int32 × Int64)) (P : List Int32) : Prop := T.1 234 = Int32.ofNat (n0 + e.length) ∧ (∀ j (h : j < e.length), T.2.2.1 87 (400 + n0 + j) = e[j].1 ∧ T.2.2.2 88 (400 + n0 + j) = e[j].2) ∧ T.1 236 = Int32.ofNat P.length ∧ (∀ j (h : j < P.length), T.2.2.1 96 j = P[j])
theorem StK_eq (h : StK T n0 e P) (e1 : U.1 234 = T.1 234) (e2 : U.1 236 = T.1 236) (e3 : U.2.2 = T.2.2) : StK U n0 e P := by
  obtain ⟨h1, h2, h3, h4⟩ := h
  exact ⟨e1.trans h1, fun j hj => by rw [e3]; exact h2 j hj, e2.trans h3, fun j hj => by rw [e3]; exact h4 j hj⟩
theorem StK_f (h : StK T n0 e P) (f : StF T U) : StK U n0 e P := StK_eq h (f.1 234 (by decide) (by decide) (by decide) (by decide) (by decide)) (f.1 236 (by decide) (by decide) (by decide) (by decide) (by decide)) f.2.2
theorem RdT_eq {k : Nat} (h : RdT T x k) (e1 : ∀ c, c = 201 ∨ c = 226 ∨ c = 227 ∨ c = 228 ∨ c = 230 ∨ c = 231 → U.1 c = T.1 c) (e2 : U.2.1 229 = T.2.1 229) (e3 : U.2.2.1 76 = T.2.2.1 76) : RdT U x k := by
  obtain ⟨⟨y1, y2, y3, y4⟩, h1, h2, h3, h4, ⟨n, h5, h6⟩, h7⟩ := h
  exact ⟨⟨(e1 201 (by decide)).trans y1, y2, fun j hj => by rw [e3]; exact y3 j hj, y4⟩, (e1 226 (by decide)).trans h1, (e1 227 (by decide)).trans h2, (e1 228 (by decide)).trans h3, e2.trans h4, ⟨n, (e1 230 (by decide)).trans h5, h6⟩, (e1 231 (by decide)).trans h7⟩
/-- a change of the row and the pile alone -/
def RwF (n0 : Nat) (t T : TS) : Prop := (∀ c, c ≠ 234 → c ≠ 236 → T.1 c = t.1 c) ∧ T.2.1 = t.2.1 ∧ (∀ c j, (c = 96 ∨ (c = 87 ∧ 400 + n0 ≤ j)) ∨ T.2.2.1 c j = t.2.2.1 c j) ∧ ∀ c j, (c = 88 ∧ 400 + n0 ≤ j) ∨ T.2.2.2 c j = t.2.2.2 c j
theorem RwF_0 : RwF n0 t t := ⟨fun _ _ _ => rfl, rfl, fun _ _ => Or.inr rfl, fun _ _ => Or.inr rfl⟩
theorem RwF_tr (f : RwF n0 t S) (g : RwF n0 S T) : RwF n0 t T := by
  refine ⟨fun c a b => (g.1 c a b).trans (f.1 c a b), g.2.1.trans f.2.1, fun c j => ?_, fun c j => ?_⟩
  · rcases g.2.2.1 c j with h | h
    · exact Or.inl h
    · rw [h]; exact f.2.2.1 c j
  · rcases g.2.2.2 c j with h | h
    · exact Or.inl h
    · rw [h]; exact f.2.2.2 c j
theorem SdF_rw (f : RwF n0 t T) : SdF n0 t T := ⟨fun c _ _ _ _ _ a b => f.1 c a b, fun c _ => by rw [f.2.1], f.2.2.1, f.2.2.2⟩
theorem RdT_rw {k : Nat} (h : RdT T x k) (f : RwF n0 T U) : RdT U x k := by
  refine RdT_eq h (fun c hc => f.1 c (by omega) (by omega)) (by rw [f.2.1]) ?_
  funext j
  rcases f.2.2.1 76 j with w | w
  · omega
  · exact w
theorem t_emit (h : StK T n0 e P) (hl : n0 + e.length < 300) (v : Int32) (l : Int64) : ∃ U, t_745 v l T = some U ∧ StK U n0 (e ++ [(v, l)]) P ∧ RwF n0 T U := by
  obtain ⟨h1, h2, h3, h4⟩ := h
  unfold t_745
  rw [h1, show (400 : Int32) + Int32.ofNat (n0 + e.length) = Int32.ofNat (400 + (n0 + e.length)) from i_add 400 _, stI_n (by omega) (by decide), Option.bind_some, show (wrI T 87 (400 + (n0 + e.length)) v).1 234 = Int32.ofNat (n0 + e.length) from h1, show (400 : Int32) + Int32.ofNat (n0 + e.length) = Int32.ofNat (400 + (n0 + e.length)) from i_add 400 _, stL_n (by omega) (by decide), Option.bind_some, Option.bind_some]
  refine ⟨_, rfl, ⟨?_, fun j hj => ?_, h3, fun j hj => ?_⟩, fun c a b => if_neg a, rfl, fun c j => ?_, fun c j => ?_⟩
  · show T.1 234 + 1 = _
    rw [h1, i_suc, List.length_append]; rfl
  · rw [List.length_append, List.length_singleton] at hj
    show (if 87 = 87 ∧ 400 + n0 + j = 400 + (n0 + e.length) then v else T.2.2.1 87 (400 + n0 + j)) = _ ∧ (if 88 = 88 ∧ 400 + n0 + j = 400 + (n0 + e.length) then l else T.2.2.2 88 (400 + n0 + j)) = _
    by_cases z : j = e.length
    · subst z
      rw [if_pos ⟨rfl, by omega⟩, if_pos ⟨rfl, by omega⟩, List.getElem_append_right (Nat.le_refl _)]
      simp
    · rw [if_neg (by omega), if_neg (by omega), List.getElem_append_left (show j < e.length by omega)]
      exact h2 j (by omega)
  · exact (show (if (96 : Nat) = 87 ∧ j = 400 + (n0 + e.length) then v else T.2.2.1 96 j) = _ from (if_neg (by omega)).trans (h4 j hj))
  · by_cases z : c = 87 ∧ j = 400 + (n0 + e.length)
    · exact Or.inl (Or.inr ⟨z.1, by omega⟩)
    · exact Or.inr (if_neg z)
  · by_cases z : c = 88 ∧ j = 400 + (n0 + e.length)
    · exact Or.inl ⟨z.1, by omega⟩
    · exact Or.inr (if_neg z)
theorem t_pile {A : Type} (g : TS → Option A) (h : StK T n0 e P) (hl : P.length < 200) (v : Int32) : ∃ U, Option.bind (stI T 96 200 (T.1 236) v) (fun s4 => Option.bind (some (ptI s4 236 ((s4.1 236) + 1))) g) = g U ∧ StK U n0 e (P ++ [v]) ∧ RwF n0 T U := by
  obtain ⟨h1, h2, h3, h4⟩ := h
  rw [h3, stI_n (by omega) (by decide), Option.bind_some, Option.bind_some]
  refine ⟨_, rfl, ⟨h1, fun j hj => ?_, ?_, fun j hj => ?_⟩, fun c a b => if_neg b, rfl, fun c j => ?_, fun c j => Or.inr rfl⟩
  · exact (show (if (87 : Nat) = 96 ∧ 400 + n0 + j = P.length then v else T.2.2.1 87 (400 + n0 + j)) = _ ∧ _ from ⟨(if_neg (by omega)).trans (h2 j hj).1, (h2 j hj).2⟩)
  · show T.1 236 + 1 = _
    rw [h3, i_suc, List.length_append]; rfl
  · rw [List.length_append, List.length_singleton] at hj
    show (if 96 = 96 ∧ j = P.length then v else T.2.2.1 96 j) = _
    by_cases z : j = P.length
    · subst z
      rw [if_pos ⟨rfl, rfl⟩, List.getElem_append_right (Nat.le_refl _)]
      simp
    · rw [if_neg (by omega), List.getElem_append_left (show j < P.length by omega)]
      exact h4 j (by omega)
  · by_cases z : c = 96 ∧ j = P.length
    · exact Or.inl (Or.inl z.1)
    · exact Or.inr (if_neg z)
/-- what comes off the pile -/
def flu (Q : List Int32) : List (Int32 × Int64) := Q.reverse.map (fun q => (q, 0))
theorem flu_app (Q : List Int32) (q : Int32) : flu (Q ++ [q]) = (q, 0) :: flu Q := by unfold flu; rw [List.reverse_append]; rfl
theorem t_unp {b : Int32} {P0 Q : List Int32} (h : StK T n0 e (P0 ++ Q)) (hl : n0 + e.length + (P0 ++ Q).length < 290) (hP : (P0 ++ Q).length < 200) (hQ : ∀ q ∈ Q, 1 < q ∧ (3 < q ∨ b < 2)) (h0 : P0 = [] ∨ ∃ P1 p, P0 = P1 ++ [p] ∧ (¬ 1 < p ∨ (¬ 3 < p ∧ ¬ b < 2))) : ∃ U, t_746 b T = some U ∧ StK U n0 (e ++ flu Q) P0 ∧ RwF n0 T U := by
  have key : ∀ {m : Nat} {Q : List Int32} {T : TS} {e : List (Int32 × Int64)}, Q.length = m → StK T n0 e (P0 ++ Q) → n0 + e.length + (P0 ++ Q).length < 290 → (P0 ++ Q).length < 200 → (∀ q ∈ Q, 1 < q ∧ (3 < q ∨ b < 2)) → ∃ U, wh (S := TS) (X := TS) (fun p0 => (if 0 < (p0.1 236) then Option.bind (rdI p0 96 200 ((p0.1 236) - 1)) (fun x1 => (if 1 < x1 then Option.bind (rdI p0 96 200 ((p0.1 236) - 1)) (fun x2 => Option.bind ((if 3 < x2 then some (.inl ()) else (if b < 2 then some (.inl ()) else some (.inr (.inr p0))))) (Sum.elim (fun v24 => Option.bind (some (ptI p0 236 ((p0.1 236) - 1))) (fun s3 => Option.bind (rdI s3 96 200 (s3.1 236)) (fun x4 => Option.bind (t_745 x4 0 s3) (fun x5 => some (.inl x5))))) (fun z => some z))) else some (.inr p0))) else some (.inr p0))) T = some U ∧ StK U n0 (e ++ flu Q) P0 ∧ RwF n0 T U := by
    intro m
    induction m with
    | zero =>
      intro Q T e hm hK hl hP hQ
      rw [List.length_eq_zero_iff.mp hm] at hK hP ⊢
      rw [List.append_nil] at hK hP
      refine ⟨T, wh_inr ?_, by show StK T n0 (e ++ []) P0; rw [List.append_nil]; exact hK, RwF_0⟩
      obtain ⟨h1, h2, h3, h4⟩ := hK
      rw [h3]
      rcases h0 with rfl | ⟨P1, p, rfl, hp⟩
      · exact if_neg (by decide)
      · rw [List.length_append, List.length_singleton] at hP h3 ⊢
        have e5 := h4 P1.length (by rw [List.length_append, List.length_singleton]; omega)
        rw [List.getElem_append_right (Nat.le_refl _)] at e5
        have e6 : T.2.2.1 96 P1.length = p := by simpa using e5
        rw [if_pos (show (0 : Int32) < Int32.ofNat (P1.length + 1) from (i_lt (j := 0) (by decide) (by omega)).mpr (by omega)), show Int32.ofNat (P1.length + 1) - 1 = Int32.ofNat P1.length from i_sub (j := P1.length + 1) (k := 1) (by omega), rdI_n (by omega) (by decide), e6, Option.bind_some]
        rcases hp with hp | ⟨hp1, hp2⟩
        · rw [if_neg hp]
        · by_cases z : 1 < p
          · rw [if_pos z, Option.bind_some, if_neg hp1, if_neg hp2, Option.bind_some, Sum.elim_inr]
          · rw [if_neg z]
    | succ m ih =>
      intro Q T e hm hK hl hP hQ
      obtain ⟨Q', q, rfl⟩ : ∃ Q' q, Q = Q' ++ [q] := ⟨Q.dropLast, Q.getLast (by intro z; rw [z] at hm; simp at hm), (List.dropLast_concat_getLast _).symm⟩
      rw [← List.append_assoc] at hK hP
      rw [List.length_append, List.length_append, List.length_singleton] at hP
      have hl' : n0 + e.length + (P0.length + Q'.length + 1) < 290 := by
        rw [List.length_append, List.length_append, List.length_singleton] at hl; omega
      obtain ⟨h1, h2, h3, h4⟩ := hK
      obtain ⟨q1, q3⟩ := hQ q (List.mem_append_right _ (List.mem_singleton.mpr rfl))
      have e6 : T.2.2.1 96 (P0.length + Q'.length) = q := by
        have := h4 (P0 ++ Q').length (by simp)
        rw [List.getElem_append_right (Nat.le_refl _)] at this
        simpa using this
      have h3' : T.1 236 = Int32.ofNat (P0.length + Q'.length + 1) := by rw [h3, List.length_append, List.length_append]; rfl
      have s1 : Int32.ofNat (P0.length + Q'.length + 1) - 1 = Int32.ofNat (P0.length + Q'.length) := i_sub (j := P0.length + Q'.length + 1) (k := 1) (by omega)
      have K1 : StK (ptI T 236 (Int32.ofNat (P0.length + Q'.length))) n0 e (P0 ++ Q') := by
        refine ⟨h1, h2, ?_, fun j hj => ?_⟩
        · rw [List.length_append]; rfl
        · have := h4 j (by have := hj; rw [List.length_append] at this; simp only [List.length_append, List.length_singleton]; omega)
          rw [List.getElem_append_left hj] at this
          exact this
      obtain ⟨V, eV, KV, FV⟩ := t_emit K1 (by omega) q 0
      have F1 : RwF n0 T (ptI T 236 (Int32.ofNat (P0.length + Q'.length))) := ⟨fun c a b => if_neg b, rfl, fun _ _ => Or.inr rfl, fun _ _ => Or.inr rfl⟩
      obtain ⟨U, eU, KU, FU⟩ := ih (Q := Q') (T := V) (e := e ++ [(q, 0)]) (by rw [List.length_append, List.length_singleton] at hm; omega) KV (by rw [List.length_append, List.length_append, List.length_singleton]; omega) (by rw [List.length_append]; omega) (fun r hr => hQ r (List.mem_append_left _ hr))
      refine ⟨U, ?_, ?_, RwF_tr (RwF_tr F1 FV) FU⟩
      · refine (wh_inl ?_).trans eU
        rw [h3', if_pos (show (0 : Int32) < Int32.ofNat (P0.length + Q'.length + 1) from (i_lt (j := 0) (by decide) (by omega)).mpr (by omega)), s1, rdI_n (by omega) (by decide), e6, Option.bind_some, if_pos q1, Option.bind_some]
        have br : (if 3 < q then some (.inl ()) else (if b < 2 then some (.inl ()) else some (.inr (.inr T))) : Option (Sum Unit (Sum TS TS))) = some (.inl ()) := by
          rcases q3 with z | z
          · rw [if_pos z]
          · by_cases z' : 3 < q
            · rw [if_pos z']
            · rw [if_neg z', if_pos z]
        rw [br, Option.bind_some, Sum.elim_inl, Option.bind_some, show (ptI T 236 (Int32.ofNat (P0.length + Q'.length))).1 236 = Int32.ofNat (P0.length + Q'.length) from rfl, rdI_n (by omega) (by decide), show (ptI T 236 (Int32.ofNat (P0.length + Q'.length))).2.2.1 96 (P0.length + Q'.length) = q from e6, Option.bind_some, eV, Option.bind_some]
      · rw [flu_app]
        rw [List.append_assoc] at KU
        exact KU
  obtain ⟨U, eU, r⟩ := key rfl h hl hP hQ
  unfold t_746
  rw [eU, Option.bind_some]
  exact ⟨U, rfl, r⟩
end
