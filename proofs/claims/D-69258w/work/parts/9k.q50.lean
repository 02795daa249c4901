/-! permits: a rule's exceptions, both readers -/
section
variable {s S : CS} {t T U V : TS} {x : List Nat} {rd rl k k' n0 nc nr r ex q0 : Nat} {dp : Int32} {F : List ClD}
noncomputable def exLp (r rd : Nat) : CS → Option (Sum CS (Sum (CS) (Sum (CS) (Nat × CS)))) := fun p59 => (if isK p59 [68] rd = true then Option.bind (α := Int32) (c_938 rd 67 p59) (fun x30 => (if x30 = 0 then some (.inr (.inl p59)) else (if isK p59 [68] rd = true then Option.bind (α := Sum (CS) (Nat × CS)) (c_931 rd p59) (Sum.elim (fun x31 => Option.bind (α := Nat) (xN x31 [(70, 2)] r) (fun a33 => (if isK x31 [68] rd = true then Option.bind (α := Sum (Nat × CS) (Nat × CS)) (c_939 rd x31) (Sum.elim (fun x34 => (if isK x34.2 [13] a33 = true then Option.bind (α := CS) (alAdd x34.2 a33 (.ref x34.1)) (fun s36 => some (.inl s36)) else none)) (fun q35 => some (.inr (.inr (.inr (q35.1, q35.2)))))) else none))) (fun q32 => some (.inr (.inr (.inr (q32.1, q32.2)))))) else none))) else none)
noncomputable def exTp (ix : Int32) : TS → Option (Sum TS TS) := fun p75 => (if (p75.1 231) = 0 then (if (p75.1 228) = 33 then Option.bind (α := TS) (t_741 1 p75) (fun x11 => (if (x11.1 231) = 0 then Option.bind (α := Int32) (rdI x11 81 24 ix) (fun x12 => Option.bind (α := TS) (stI x11 81 24 ix (x12 + 1)) (fun s13 => Option.bind (α := TS) (t_742 s13) (fun x14 => some (.inl x14)))) else some (.inl x11))) else some (.inr p75)) else some (.inr p75))
/-- what a rule's clauses change -/
def RxF (nr nc n0 : Nat) (t T : TS) : Prop := (∀ c, c ≠ 226 → c ≠ 227 → c ≠ 228 → c ≠ 230 → c ≠ 231 → c ≠ 233 → c ≠ 234 → c ≠ 236 → T.1 c = t.1 c) ∧ (∀ c, c ≠ 229 → T.2.1 c = t.2.1 c) ∧ (∀ c j, (c = 96 ∨ (c = 87 ∧ 400 + n0 ≤ j) ∨ ((c = 83 ∨ c = 84 ∨ c = 85 ∨ c = 86) ∧ 60 + nc ≤ j) ∨ (c = 81 ∧ j = 12 + nr)) ∨ T.2.2.1 c j = t.2.2.1 c j) ∧ ∀ c j, (c = 88 ∧ 400 + n0 ≤ j) ∨ T.2.2.2 c j = t.2.2.2 c j
theorem RxF_tr (f : RxF nr nc n0 t V) (g : RxF nr nc n0 V T) : RxF nr nc n0 t T := by
  refine ⟨fun c a1 a2 a3 a4 a5 a6 a7 a8 => (g.1 c a1 a2 a3 a4 a5 a6 a7 a8).trans (f.1 c a1 a2 a3 a4 a5 a6 a7 a8), fun c a => (g.2.1 c a).trans (f.2.1 c a), fun c j => ?_, fun c j => ?_⟩
  · rcases g.2.2.1 c j with h | h
    · exact Or.inl h
    · rw [h]; exact f.2.2.1 c j
  · rcases g.2.2.2 c j with h | h
    · exact Or.inl h
    · rw [h]; exact f.2.2.2 c j
theorem RxF_cl {n1 c1 : Nat} (f : ClF c1 n1 t T) (h : n0 ≤ n1) (hc : nc ≤ c1) : RxF nr nc n0 t T := by
  refine ⟨f.1, f.2.1, fun c j => ?_, fun c j => ?_⟩
  · rcases f.2.2.1 c j with (h1 | h1 | h1) | h1
    · exact Or.inl (Or.inl h1)
    · exact Or.inl (Or.inr (Or.inl ⟨h1.1, by omega⟩))
    · exact Or.inl (Or.inr (Or.inr (Or.inl ⟨h1.1, by omega⟩)))
    · exact Or.inr h1
  · rcases f.2.2.2 c j with h1 | h1
    · exact Or.inl ⟨h1.1, by omega⟩
    · exact Or.inr h1
theorem RxF_st (f : StF t T) : RxF nr nc n0 t T := RxF_cl (ClF_sd (SdF_st (n0 := n0) f) (Nat.le_refl _)) (Nat.le_refl _) (Nat.le_refl nc)
theorem RxF_81 (v : Int32) : RxF nr nc n0 T (wrI T 81 (12 + nr) v) := by
  refine ⟨fun _ _ _ _ _ _ _ _ _ => rfl, fun _ _ => rfl, fun q j => ?_, fun _ _ => Or.inr rfl⟩
  by_cases z : q = 81 ∧ j = 12 + nr
  · exact Or.inl (Or.inr (Or.inr (Or.inr z)))
  · exact Or.inr (if_neg z)
theorem PsC_st (I : PsC s t rd rl x k F) (R : RdC S rd rl x k' (Int32.ofNat 0)) (Q : RdT T x k') (f : StF t T) (hk : k ≤ k') : PsC S T rd rl x k' F := by
  obtain ⟨_, _, h233, h234, B, C, hF⟩ := I
  refine ⟨R, Q, (f.1 233 (by decide) (by decide) (by decide) (by decide) (by decide)).trans h233, (f.1 234 (by decide) (by decide) (by decide) (by decide) (by decide)).trans h234, by omega, by omega, fun c hc => ?_⟩
  obtain ⟨a1, a2, a3, a4, a5, a6, a7⟩ := hF c hc
  exact ⟨by rw [f.2.2]; exact a1, by rw [f.2.2]; exact a2, by rw [f.2.2]; exact a3, by rw [f.2.2]; exact a4, a5, fun j hj => by rw [f.2.2]; exact a6 j hj, fun j hj => by rw [f.2.2]; exact a7 j hj⟩
theorem PsC_w {c j : Nat} {v : Int32} (I : PsC s t rd rl x k F) (hc : c = 80 ∨ c = 81 ∨ c = 82) : PsC s (wrI t c j v) rd rl x k F := by
  obtain ⟨R, Q, h233, h234, B, C, hF⟩ := I
  refine ⟨R, RdT_eq Q (fun _ _ => rfl) rfl (wrIq _ _ _ (by omega)), h233, h234, B, C, fun c' hc' => ?_⟩
  obtain ⟨a1, a2, a3, a4, a5, a6, a7⟩ := hF c' hc'
  refine ⟨?_, ?_, ?_, ?_, a5, fun j hj => ?_, fun j hj => ?_⟩
  · rw [wrIq _ _ _ (by omega)]; exact a1
  · rw [wrIq _ _ _ (by omega)]; exact a2
  · rw [wrIq _ _ _ (by omega)]; exact a3
  · rw [wrIq _ _ _ (by omega)]; exact a4
  · rw [wrIq _ _ _ (by omega)]; exact a6 j hj
  · rw [wrIq _ _ _ (by omega)]; exact a7 j hj
theorem PsC_S (I : PsC s t rd rl x k F) (R : RdC S rd rl x k (Int32.ofNat 0)) : PsC S t rd rl x k F := ⟨R, I.2⟩
theorem RdC_put {j a n m : Nat} {w b : Bool} {fs xs : List Value} (R : RdC S rd rl x k dp) (h : S.1 a = some (w, b, j, fs)) (hj : j ≠ 68 ∧ j ≠ 1000 ∧ j ≠ 1035) : RdC (cput S 1013 a n m xs) rd rl x k dp := RdC_up (RdC_c (c' := (true, false, 1013, xs)) R h hj) (wf_chg (wf_cup R.1 (wf_lt R.1 h))) (fun p c _ e => e)
/-- a wrong word amid a rule -/
def RuX (A : Nat → Prop) (s : CS) (k : Nat) (S : CS) (e : Nat) (T : TS) : Prop := BadR S e T ∧ ∃ k', k ≤ k' ∧ k' ≤ 121 ∧ JY A s S (6 * (k' - k) + 12)
theorem RuX_of {A : Nat → Prop} {e : Nat} (h : RdX rd s k S e T) (hA : A rd) : RuX A s k S e T := by
  obtain ⟨h1, k', h2, h3, h4⟩ := h
  exact ⟨h1, k', h2, h3, JY_le (JY_x h4 hA) (by omega)⟩
theorem RuX_le {A : Nat → Prop} {s1 : CS} {k1 e : Nat} (h : RuX A s1 k1 S e T) (hk : k ≤ k1) (J : JY A s s1 (6 * (k1 - k))) : RuX A s k S e T := by
  obtain ⟨h1, k', h2, h3, h4⟩ := h
  exact ⟨h1, k', by omega, h3, JY_tr J h4 (by omega)⟩
theorem ex_rule {rc : lCell} (h70 : rc.2.1 = false ∧ rc.2.2.1 = 70 ∧ rc.2.2.2[2]? = some (.ref ex)) (hr : nr < 12) : ∀ (N : Nat) {S : CS} {T : TS} {k : Nat} {F : List ClD} {CE : List Nat} {mc : Int32}, 122 - k ≤ N → PsC S T rd rl x k F → S.1 r = some rc → S.1 ex = some (true, false, 1013, .int mc :: CE.map Value.ref) → T.2.2.1 81 (12 + nr) = Int32.ofNat CE.length → F.length = q0 + 1 + CE.length → nc ≤ F.length → n0 ≤ sumL F → (∀ i (h : i < CE.length) (h' : q0 + 1 + i < F.length), ClP (noN rd S.1) CE[i] F[q0 + 1 + i].1 F[q0 + 1 + i].2.1 F[q0 + 1 + i].2.2) → (∃ S' T' k' F' CE' mc', wh (exLp r rd) S = some (.inl S') ∧ wh (exTp (Int32.ofNat (12 + nr))) T = some T' ∧ PsC S' T' rd rl x k' (F ++ F') ∧ S'.1 r = some rc ∧ S'.1 ex = some (true, false, 1013, .int mc' :: (CE ++ CE').map Value.ref) ∧ T'.2.2.1 81 (12 + nr) = Int32.ofNat (CE ++ CE').length ∧ (F ++ F').length = q0 + 1 + (CE ++ CE').length ∧ (∀ i (h : i < (CE ++ CE').length) (h' : q0 + 1 + i < (F ++ F').length), ClP (noN rd S'.1) (CE ++ CE')[i] (F ++ F')[q0 + 1 + i].1 (F ++ F')[q0 + 1 + i].2.1 (F ++ F')[q0 + 1 + i].2.2) ∧ k ≤ k' ∧ JY (fun p => p = rd ∨ p = ex) S S' (6 * (k' - k)) ∧ RxF nr nc n0 T T') ∨ ∃ S' e T', wh (exLp r rd) S = some (.inr (.inr (e, S'))) ∧ wh (exTp (Int32.ofNat (12 + nr))) T = some T' ∧ RxF nr nc n0 T T' ∧ RuX (fun p => p = rd ∨ p = ex) S k S' e T' := by
  obtain ⟨rw0, rb, rk, rfs⟩ := rc
  obtain ⟨rfl, rfl, h70⟩ := h70
  intro N
  induction N with
  | zero =>
    intro S T k F CE mc hN I
    have := k121 I.1
    omega
  | succ N ih =>
    intro S T k F CE mc hN I hr1 hex h81 hlen hnc hn0 hcl
    have R := I.1
    have Q := I.2.1
    have k12 := k121 R
    obtain ⟨y, ey⟩ := tkW_y R
    have ok : tkO (tkC y) = true := by rw [← ey]; exact R.2.2.2.2.1
    have k33 := kd_1 ok (c := 33) (by decide)
    have kl := (kd_lt ok).1
    rw [← ey] at k33 kl
    have q231 : T.1 231 = 0 := Q.2.2.2.2.2.2
    have q228 : T.1 228 = Int32.ofNat (tkK (tkW x k)) := Q.2.2.2.1
    have n33 : Int32.ofNat (tkK (tkW x k)) = 33 ↔ tkW x k = [33] := (i_inj (j := tkK (tkW x k)) (k := 33) (by omega) (by decide)).trans k33
    have is := c_isT R (v := 67) (ys := [33]) (by decide)
    have A1 : (fun p => p = rd ∨ p = ex) rd := Or.inl rfl
    by_cases z : tkW x k = [33]
    rotate_left
    · left
      refine ⟨S, T, k, [], [], mc, wh_inr ?_, wh_inr ?_, by rw [List.append_nil]; exact I, hr1, by rw [List.append_nil]; exact hex, by rw [List.append_nil]; exact h81, by rw [List.append_nil, List.append_nil]; exact hlen, fun i h h' => ?_, Nat.le_refl _, JY_le (JY_0 R.1) (by omega), ⟨fun _ _ _ _ _ _ _ _ _ => rfl, fun _ _ => rfl, fun _ _ => Or.inr rfl, fun _ _ => Or.inr rfl⟩⟩
      · unfold exLp
        rw [if_pos (RdC_68 R), is, Option.bind_some, if_neg z, if_pos rfl]
      · unfold exTp
        rw [q231, if_pos rfl, q228, if_neg (fun w => z (n33.mp w))]
      · simp only [List.append_nil] at h h' ⊢
        exact hcl i h h'
    have eo : ∀ {o}, Option.bind (c_931 rd S) (Sum.elim (fun x31 => Option.bind (xN x31 [(70, 2)] r) (fun a33 => (if isK x31 [68] rd = true then Option.bind (c_939 rd x31) (Sum.elim (fun x34 => (if isK x34.2 [13] a33 = true then Option.bind (alAdd x34.2 a33 (.ref x34.1)) (fun s36 => some (.inl s36)) else none)) (fun q35 => some (.inr (.inr (.inr (q35.1, q35.2)))))) else none))) (fun q32 => some (.inr (.inr (.inr (q32.1, q32.2)))))) = o → exLp r rd S = o := by
      intro o ho
      unfold exLp
      rw [if_pos (RdC_68 R), is, Option.bind_some, if_pos z, if_neg (by decide), if_pos (RdC_68 R)]
      exact ho
    have et : exTp (Int32.ofNat (12 + nr)) T = Option.bind (t_741 1 T) (fun x11 => (if (x11.1 231) = 0 then Option.bind (rdI x11 81 24 (Int32.ofNat (12 + nr))) (fun x12 => Option.bind (stI x11 81 24 (Int32.ofNat (12 + nr)) (x12 + 1)) (fun s13 => Option.bind (t_742 s13) (fun x14 => some (.inl x14)))) else some (.inl x11))) := by
      unfold exTp
      rw [q231, if_pos rfl, q228, if_pos (n33.mpr z)]
    have tout : ∀ {T' : TS}, T'.1 231 = 1 → wh (exTp (Int32.ofNat (12 + nr))) T' = some T' := fun {T'} h => wh_inr (by
      unfold exTp
      rw [h, if_neg (by decide)])
    rcases rd_step R Q (by rw [z]; simp) with ⟨S1, T1, eC, eT, R1, Q1, J1, F1⟩ | ⟨S1, e, T1, eC, eT, b1, J1, F1⟩
    rotate_left
    · right
      rw [eT, Option.bind_some, b1.1, if_neg (by decide)] at et
      have e2 := eo (o := some (.inr (.inr (.inr (e, S1))))) (by rw [eC, Option.bind_some, Sum.elim_inr])
      exact ⟨S1, e, T1, wh_inr e2, (wh_inl et).trans (tout b1.1), RxF_st F1, b1, k, Nat.le_refl _, k12, JY_le (JY_x J1 A1) (by omega)⟩
    obtain ⟨fsS, hrd⟩ := RdC_rd R
    have hr2 : S1.1 r = some (rw0, false, 70, rfs) := JX_ne J1 R.1 hrd (by show 70 ≠ 68; decide) hr1
    have hex1 := JX_ne J1 R.1 hrd (by show 1013 ≠ 68; decide) hex
    have I1 : PsC S1 T1 rd rl x (k + 1) F := PsC_st I R1 Q1 F1 (by omega)
    have t81 : T1.2.2.1 81 (12 + nr) = Int32.ofNat CE.length := by rw [F1.2.2]; exact h81
    rw [eT, Option.bind_some, show T1.1 231 = 0 from Q1.2.2.2.2.2.2, if_pos rfl, rdI_n (by omega) (by decide), t81, Option.bind_some, stI_n (by omega) (by decide), Option.bind_some, i_suc] at et
    have I2 : PsC S1 (wrI T1 81 (12 + nr) (Int32.ofNat (CE.length + 1))) rd rl x (k + 1) F := PsC_w I1 (Or.inr (Or.inl rfl))
    have FT1 : RxF nr nc n0 T (wrI T1 81 (12 + nr) (Int32.ofNat (CE.length + 1))) := RxF_tr (RxF_st F1) (RxF_81 _)
    have xn : xN S1 [(70, 2)] r = some ex := xN_o hr2 rfl h70
    rcases ps_clause I2 with ⟨S3, T3, cc, d, k3, c1, c2, I3, P3, kk, J3, F3⟩ | ⟨S3, e, T3, c1, c2, F3, X3⟩
    rotate_left
    · right
      rw [c2, Option.bind_some] at et
      have e2 := eo (o := some (.inr (.inr (.inr (e, S3))))) (by rw [eC, Option.bind_some, Sum.elim_inl, xn, Option.bind_some, if_pos (RdC_68 R1), c1, Option.bind_some, Sum.elim_inr])
      exact ⟨S3, e, T3, wh_inr e2, (wh_inl et).trans (tout X3.1.1), RxF_tr FT1 (RxF_cl F3 hn0 hnc), RuX_le (RuX_of X3 A1) (by omega) (JY_le (JY_x J1 A1) (by omega))⟩
    rw [c2, Option.bind_some] at et
    have R3 := I3.1
    obtain ⟨fs1, hrd1⟩ := RdC_rd R1
    have hr3 : S3.1 r = some (rw0, false, 70, rfs) := JX_ne J3 R1.1 hrd1 (by show 70 ≠ 68; decide) hr2
    have hex3 := JX_ne J3 R1.1 hrd1 (by show 1013 ≠ 68; decide) hex1
    have CEl : CE.length < 1000 := by
      have := I.2.2.2.2.2.1
      omega
    have add : alAdd S3 ex (.ref cc) = some (cput S3 1013 ex 1 16 (.int (mc + 1) :: ((CE.map Value.ref) ++ [.ref cc]))) := alAdd_l hex3 (by rw [List.length_map]; omega) (elO_o (noK_of (noN_of P3.choose_spec.choose_spec.choose_spec.1).1).1)
    obtain ⟨S4, hS4⟩ : ∃ S4, S4 = cput S3 1013 ex 1 16 (.int (mc + 1) :: ((CE.map Value.ref) ++ [.ref cc])) := ⟨_, rfl⟩
    have e2 := eo (o := some (.inl S4)) (by rw [eC, Option.bind_some, Sum.elim_inl, xn, Option.bind_some, if_pos (RdC_68 R1), c1, Option.bind_some, Sum.elim_inl, if_pos (isK_t hex3 rfl), add, Option.bind_some, ← hS4])
    have R4 : RdC S4 rd rl x k3 (Int32.ofNat 0) := by rw [hS4]; exact RdC_put R3 hex3 (by decide)
    have lx := wf_lt R3.1 hex3
    have J4 : JY (fun p => p = rd ∨ p = ex) S3 S4 2 := by
      rw [hS4]
      refine ⟨wf_chg (wf_cup R3.1 lx), Nat.le_refl _, fun p hp hn => cup_ne (fun w => hn (Or.inr w)), ?_, ?_⟩
      · show S3.2.2.1 + 1 ≤ _; omega
      · show S3.2.2.2 + 16 ≤ _; omega
    have J14 : JY (fun p => p = rd ∨ p = ex) S S4 (6 * (k3 - k)) := JY_tr (JY_tr (JY_x J1 A1) (JY_x J3 A1) (Nat.le_refl _)) J4 (by omega)
    have hr4 : S4.1 r = some (rw0, false, 70, rfs) := JY_up J4 R3.1 (fun w => by
      rcases w with w | w
      · obtain ⟨fs3, hrd3⟩ := RdC_rd R3
        rw [w, hrd3] at hr3; simp at hr3
      · rw [w, hex3] at hr3; simp at hr3) hr3
    have hex4 : S4.1 ex = some (true, false, 1013, .int (mc + 1) :: (CE ++ [cc]).map Value.ref) := by rw [hS4, List.map_append]; exact cput_eq ..
    have up4 : ∀ p c, noN rd S3.1 p = some c → noN rd S4.1 p = some c := noN_jy J4 R3.1 (fun p c w e => by
      rcases w with w | w
      · obtain ⟨fs3, hrd3⟩ := RdC_rd R3
        rw [w, hrd3] at e
        rw [← Option.some.inj e]; rfl
      · rw [w, hex3] at e
        rw [← Option.some.inj e]; rfl)
    have upS : ∀ p c, noN rd S.1 p = some c → noN rd S4.1 p = some c := fun p c h => up4 _ _ (noN_jx R1.1 hrd1 J3 _ _ (noN_jx R.1 hrd J1 _ _ h))
    have I4 : PsC S4 T3 rd rl x k3 (F ++ [d]) := PsC_S I3 R4
    have h81' : T3.2.2.1 81 (12 + nr) = Int32.ofNat (CE ++ [cc]).length := by
      rw [List.length_append]
      rcases F3.2.2.1 81 (12 + nr) with w | w
      · omega
      · rw [w]; exact if_pos ⟨rfl, rfl⟩
    have fl : (F ++ [d]).length = F.length + 1 := by rw [List.length_append]; rfl
    have cl : (CE ++ [cc]).length = CE.length + 1 := by rw [List.length_append]; rfl
    have res := ih (S := S4) (T := T3) (k := k3) (F := F ++ [d]) (CE := CE ++ [cc]) (mc := mc + 1) (by omega) I4 hr4 hex4 h81' (by omega) (by omega) (by rw [sumL_app]; omega) (fun i h h' => by
      by_cases zi : i < CE.length
      · have e1 : (CE ++ [cc])[i] = CE[i] := List.getElem_append_left zi
        have e3 : (F ++ [d])[q0 + 1 + i] = F[q0 + 1 + i] := List.getElem_append_left (by omega)
        rw [e1, e3]
        exact ClP_up upS (hcl i zi (by omega))
      · have ei : i = CE.length := by omega
        subst ei
        have e1 : (CE ++ [cc])[CE.length] = cc := by rw [List.getElem_append_right (Nat.le_refl _)]; simp
        have e3 : (F ++ [d])[q0 + 1 + CE.length] = d := by
          rw [List.getElem_append_right (by omega)]
          simp [hlen]
        rw [e1, e3]
        exact ClP_up up4 P3)
    rw [wh_inl e2, wh_inl et]
    rcases res with ⟨S', T', k', F', CE', mc', r1, r2, r3, r4, r5, r6, r7, r8, r9, r10, r11⟩ | ⟨S', e, T', r1, r2, r3, r4⟩
    · left
      simp only [List.append_assoc] at r3 r5 r6 r7 r8
      exact ⟨S', T', k', [d] ++ F', [cc] ++ CE', mc', r1, r2, r3, r4, r5, r6, r7, r8, by omega, JY_tr J14 r10 (by omega), RxF_tr FT1 (RxF_tr (RxF_cl F3 hn0 hnc) r11)⟩
    · right
      exact ⟨S', e, T', r1, r2, RxF_tr FT1 (RxF_tr (RxF_cl F3 hn0 hnc) r3), RuX_le r4 (by omega) J14⟩
end
