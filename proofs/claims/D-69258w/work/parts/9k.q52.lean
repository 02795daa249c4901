/-! permits: a rule's end, both readers -/
section
variable {s S : CS} {t T U V : TS} {x : List Nat} {rd rl k k' n0 nc nr r ex q0 : Nat} {dp : Int32} {F : List ClD}
noncomputable def ruT (ix : Int32) (v75 : TS) : Option TS := Option.bind (wh (exTp ix) v75) (fun v99 => (if (v99.1 231) = 0 then (if (v99.1 228) = 64 then Option.bind (t_741 1 v99) (fun x15 => Option.bind (stI x15 82 24 ix ((x15.2.1 229).toInt32)) (fun s16 => Option.bind ((if (s16.1 228) = 1 then some 1 else some 0)) (fun v124 => Option.bind (t_741 v124 s16) (fun x17 => some x17)))) else some v99) else some v99))
noncomputable def ruC (r rd : Nat) (s29 : CS) : Option (Sum (CS) (Nat × CS)) := Option.bind (wh (exLp r rd) s29) (Sum.elim (fun v72 => (if isK v72 [68] rd = true then Option.bind (c_938 rd 68 v72) (fun x37 => (if x37 = 0 then some (.inl v72) else (if isK v72 [68] rd = true then Option.bind (c_931 rd v72) (Sum.elim (fun x38 => (if isK x38 [68] rd = true then Option.bind (c_944 rd x38) (Sum.elim (fun x40 => Option.bind (xP x40.2 [(70, 3)] r (.int x40.1)) (fun s42 => some (.inl s42))) (fun q41 => some (.inr (q41.1, q41.2)))) else none)) (fun q39 => some (.inr (q39.1, q39.2)))) else none))) else none)) (fun z => some z))
/-- what a rule changes -/
def RzF (nr nc n0 : Nat) (t T : TS) : Prop := (∀ c, c ≠ 226 → c ≠ 227 → c ≠ 228 → c ≠ 230 → c ≠ 231 → c ≠ 232 → c ≠ 233 → c ≠ 234 → c ≠ 236 → T.1 c = t.1 c) ∧ (∀ c, c ≠ 229 → T.2.1 c = t.2.1 c) ∧ (∀ c j, (c = 96 ∨ (c = 87 ∧ 400 + n0 ≤ j) ∨ ((c = 83 ∨ c = 84 ∨ c = 85 ∨ c = 86) ∧ 60 + nc ≤ j) ∨ ((c = 80 ∨ c = 81 ∨ c = 82) ∧ 12 + nr ≤ j)) ∨ T.2.2.1 c j = t.2.2.1 c j) ∧ ∀ c j, ((c = 88 ∧ 400 + n0 ≤ j) ∨ (c = 79 ∧ 12 + nr ≤ j)) ∨ T.2.2.2 c j = t.2.2.2 c j
theorem RzF_tr (f : RzF nr nc n0 t V) (g : RzF nr nc n0 V T) : RzF nr nc n0 t T := by
  refine ⟨fun c a1 a2 a3 a4 a5 a6 a7 a8 a9 => (g.1 c a1 a2 a3 a4 a5 a6 a7 a8 a9).trans (f.1 c a1 a2 a3 a4 a5 a6 a7 a8 a9), fun c a => (g.2.1 c a).trans (f.2.1 c a), fun c j => ?_, fun c j => ?_⟩
  · rcases g.2.2.1 c j with h | h
    · exact Or.inl h
    · rw [h]; exact f.2.2.1 c j
  · rcases g.2.2.2 c j with h | h
    · exact Or.inl h
    · rw [h]; exact f.2.2.2 c j
theorem RzF_rx (f : RxF nr nc n0 t T) : RzF nr nc n0 t T := by
  refine ⟨fun c a1 a2 a3 a4 a5 _ a7 a8 a9 => f.1 c a1 a2 a3 a4 a5 a7 a8 a9, f.2.1, fun c j => ?_, fun c j => ?_⟩
  · rcases f.2.2.1 c j with (h1 | h1 | h1 | h1) | h1
    · exact Or.inl (Or.inl h1)
    · exact Or.inl (Or.inr (Or.inl h1))
    · exact Or.inl (Or.inr (Or.inr (Or.inl h1)))
    · exact Or.inl (Or.inr (Or.inr (Or.inr ⟨by omega, by omega⟩)))
    · exact Or.inr h1
  · rcases f.2.2.2 c j with h1 | h1
    · exact Or.inl (Or.inl h1)
    · exact Or.inr h1
theorem RzF_st (f : StF t T) : RzF nr nc n0 t T := RzF_rx (RxF_st f)
theorem RzF_w {c : Nat} (hc : c = 80 ∨ c = 81 ∨ c = 82) (v : Int32) : RzF nr nc n0 T (wrI T c (12 + nr) v) := by
  refine ⟨fun _ _ _ _ _ _ _ _ _ _ => rfl, fun _ _ => rfl, fun q j => ?_, fun _ _ => Or.inr rfl⟩
  by_cases z : q = c ∧ j = 12 + nr
  · exact Or.inl (Or.inr (Or.inr (Or.inr ⟨by omega, by omega⟩)))
  · exact Or.inr (if_neg z)
theorem RzF_231 (v : Int32) : RzF nr nc n0 T (ptI T 231 v) := ⟨fun c _ _ _ _ a _ _ _ _ => if_neg a, fun _ _ => rfl, fun _ _ => Or.inr rfl, fun _ _ => Or.inr rfl⟩
theorem ruT_out (ix : Int32) (h : T.1 231 = 1) : ruT ix T = some T := by
  unfold ruT
  have e : wh (exTp ix) T = some T := wh_inr (by
    unfold exTp
    rw [h, if_neg (by decide)])
  rw [e, Option.bind_some, h, if_neg (by decide)]
/-- the end of a rule: exceptions, the day -/
theorem rd_rend {nm cc : Nat} {CE : List Nat} {mc : Int32} (hr : nr < 12) (I : PsC S T rd rl x k F) (h1 : S.1 r = some (true, false, 70, [.ref nm, .ref cc, .ref ex, .int 0, .null, .null, .null, .int 0, .null])) (hex : S.1 ex = some (true, false, 1013, .int mc :: CE.map Value.ref)) (h81 : T.2.2.1 81 (12 + nr) = Int32.ofNat CE.length) (h82 : T.2.2.1 82 (12 + nr) = 0) (hlen : F.length = q0 + 1 + CE.length) (hnc : nc ≤ F.length) (hn0 : n0 ≤ sumL F) (hcl : ∀ i (h : i < CE.length) (h' : q0 + 1 + i < F.length), ClP (noN rd S.1) CE[i] F[q0 + 1 + i].1 F[q0 + 1 + i].2.1 F[q0 + 1 + i].2.2) : (∃ S' T' k' F' CE' mc' day, ruC r rd S = some (.inl S') ∧ ruT (Int32.ofNat (12 + nr)) T = some T' ∧ PsC S' T' rd rl x k' (F ++ F') ∧ S'.1 r = some (true, false, 70, [.ref nm, .ref cc, .ref ex, .int day, .null, .null, .null, .int 0, .null]) ∧ S'.1 ex = some (true, false, 1013, .int mc' :: (CE ++ CE').map Value.ref) ∧ T'.2.2.1 81 (12 + nr) = Int32.ofNat (CE ++ CE').length ∧ T'.2.2.1 82 (12 + nr) = day ∧ (F ++ F').length = q0 + 1 + (CE ++ CE').length ∧ (∀ i (h : i < (CE ++ CE').length) (h' : q0 + 1 + i < (F ++ F').length), ClP (noN rd S'.1) (CE ++ CE')[i] (F ++ F')[q0 + 1 + i].1 (F ++ F')[q0 + 1 + i].2.1 (F ++ F')[q0 + 1 + i].2.2) ∧ k ≤ k' ∧ JY (fun p => p = rd ∨ p = ex ∨ p = r) S S' (6 * (k' - k)) ∧ RzF nr nc n0 T T' ∧ T'.1 232 = T.1 232 ∧ T'.2.2.2 79 = T.2.2.2 79 ∧ T'.2.2.1 80 = T.2.2.1 80) ∨ ∃ S' e T', ruC r rd S = some (.inr (e, S')) ∧ ruT (Int32.ofNat (12 + nr)) T = some T' ∧ RzF nr nc n0 T T' ∧ RuX (fun p => p = rd ∨ p = ex ∨ p = r) S k S' e T' := by
  have R0 := I.1
  obtain ⟨fs0, hrd0⟩ := RdC_rd R0
  have sub : ∀ {S' : CS} {n : Nat}, JY (fun p => p = rd ∨ p = ex) S S' n → JY (fun p => p = rd ∨ p = ex ∨ p = r) S S' n := fun h => JY_sub h (fun p _ w => w.elim Or.inl (fun w => Or.inr (Or.inl w)))
  rcases ex_rule (rc := (true, false, 70, [.ref nm, .ref cc, .ref ex, .int 0, .null, .null, .null, .int 0, .null])) (x := x) (rd := rd) (rl := rl) (nc := nc) (n0 := n0) (r := r) (q0 := q0) ⟨rfl, rfl, rfl⟩ hr (122 - k) (Nat.le_refl _) I h1 hex h81 hlen hnc hn0 hcl with ⟨S1, T1, k1, F', CE', mc', c1, c2, I1, g1, g2, g3, g4, g5, g6, J1, Fr⟩ | ⟨S1, e, T1, c1, c2, Fr, X⟩
  rotate_left
  · right
    refine ⟨S1, e, T1, ?_, ?_, RzF_rx Fr, X.1, ?_⟩
    · unfold ruC
      rw [c1, Option.bind_some, Sum.elim_inr]
    · unfold ruT
      rw [c2, Option.bind_some, X.1.1, if_neg (by decide)]
    · obtain ⟨_, k', a, b, J⟩ := X
      exact ⟨k', a, b, sub J⟩
  have R1 := I1.1
  have Q1 := I1.2.1
  have k12 := k121 R1
  obtain ⟨y, ey⟩ := tkW_y R1
  have ok : tkO (tkC y) = true := by rw [← ey]; exact R1.2.2.2.2.1
  have k64 := kd_1 ok (c := 64) (by decide)
  have kl := (kd_lt ok).1
  rw [← ey] at k64 kl
  have q231 : T1.1 231 = 0 := Q1.2.2.2.2.2.2
  have q228 : T1.1 228 = Int32.ofNat (tkK (tkW x k1)) := Q1.2.2.2.1
  have n64 : Int32.ofNat (tkK (tkW x k1)) = 64 ↔ tkW x k1 = [64] := (i_inj (j := tkK (tkW x k1)) (k := 64) (by omega) (by decide)).trans k64
  have s232 : T1.1 232 = T.1 232 := Fr.1 232 (by decide) (by decide) (by decide) (by decide) (by decide) (by decide) (by decide) (by decide)
  have s79 : T1.2.2.2 79 = T.2.2.2 79 := by
    funext j
    rcases Fr.2.2.2 79 j with w | w
    · omega
    · exact w
  have s80 : ∀ c, c = 80 ∨ c = 82 → T1.2.2.1 c = T.2.2.1 c := fun c hc => by
    funext j
    rcases Fr.2.2.1 c j with w | w
    · omega
    · exact w
  unfold ruC ruT
  rw [c1, c2, Option.bind_some, Option.bind_some, Sum.elim_inl, if_pos (RdC_68 R1), c_isT R1 (v := 68) (ys := [64]) (by decide), Option.bind_some, q231, if_pos rfl, q228]
  by_cases z : tkW x k1 = [64]
  rotate_left
  · left
    rw [if_neg z, if_pos rfl, if_neg (fun w => z (n64.mp w))]
    exact ⟨S1, T1, k1, F', CE', mc', 0, rfl, rfl, I1, g1, g2, g3, by rw [s80 82 (Or.inr rfl)]; exact h82, g4, g5, g6, sub J1, RzF_rx Fr, s232, s79, s80 80 (Or.inl rfl)⟩
  rw [if_pos z, if_neg (by decide), if_pos (RdC_68 R1), if_pos (n64.mpr z)]
  obtain ⟨fs1, hrd1⟩ := RdC_rd R1
  rcases rd_step R1 Q1 (by rw [z]; simp) with ⟨S2, T2, eC, eT, R2, Q2, J2, F2⟩ | ⟨S2, e, T2, eC, eT, b2, J2, F2⟩
  rotate_left
  · right
    rw [eC, Option.bind_some, Sum.elim_inr, eT, Option.bind_some, stI_n (by omega) (by decide), Option.bind_some]
    have tk : ∀ v, t_741 v (wrI T2 82 (12 + nr) ((T2.2.1 229).toInt32)) = some (ptI (wrI T2 82 (12 + nr) ((T2.2.1 229).toInt32)) 231 1) := fun v => t_takeW v b2.1
    have br : ∀ {v : Int32}, ∃ u : Int32, (if v = 1 then some (1 : Int32) else some 0) = some u := fun {v} => by
      by_cases q : v = 1
      · exact ⟨1, if_pos q⟩
      · exact ⟨0, if_neg q⟩
    obtain ⟨u, hu⟩ := br (v := (wrI T2 82 (12 + nr) ((T2.2.1 229).toInt32)).1 228)
    rw [hu, Option.bind_some, tk, Option.bind_some]
    exact ⟨S2, e, _, rfl, rfl, RzF_tr (RzF_tr (RzF_rx Fr) (RzF_st F2)) (RzF_tr (RzF_w (Or.inr (Or.inr rfl)) _) (RzF_231 1)), ⟨rfl, b2.2⟩, k1, by omega, k12, JY_tr (sub J1) (JY_x J2 (Or.inl rfl)) (by omega)⟩
  have k12b := k121 R2
  have I2 : PsC S2 T2 rd rl x (k1 + 1) (F ++ F') := PsC_st I1 R2 Q2 F2 (by omega)
  obtain ⟨y2, ey2⟩ := tkW_y R2
  have ok2 : tkO (tkC y2) = true := by rw [← ey2]; exact R2.2.2.2.2.1
  have kl2 := (kd_lt ok2).1
  rw [← ey2] at kl2
  have r231 : T2.1 231 = 0 := Q2.2.2.2.2.2.2
  have r228 : T2.1 228 = Int32.ofNat (tkK (tkW x (k1 + 1))) := Q2.2.2.2.1
  have r229 : T2.2.1 229 = tkV (tkW x (k1 + 1)) := Q2.2.2.2.2.1
  have hr2 := JX_ne J2 R1.1 hrd1 (by show 70 ≠ 68; decide) g1
  have hex2 := JX_ne J2 R1.1 hrd1 (by show 1013 ≠ 68; decide) g2
  rw [eC, Option.bind_some, Sum.elim_inl, if_pos (RdC_68 R2), c_numb R2, eT, Option.bind_some, stI_n (by omega) (by decide), Option.bind_some, show (wrI T2 82 (12 + nr) ((T2.2.1 229).toInt32)).1 228 = Int32.ofNat (tkK (tkW x (k1 + 1))) from r228]
  have n1 : Int32.ofNat (tkK (tkW x (k1 + 1))) = 1 ↔ tkK (tkW x (k1 + 1)) = 1 := i_inj (j := tkK (tkW x (k1 + 1))) (k := 1) (by omega) (by decide)
  have I3 : PsC S2 (wrI T2 82 (12 + nr) ((T2.2.1 229).toInt32)) rd rl x (k1 + 1) (F ++ F') := PsC_w I2 (Or.inr (Or.inr rfl))
  have Fr3 : RzF nr nc n0 T (wrI T2 82 (12 + nr) ((T2.2.1 229).toInt32)) := RzF_tr (RzF_tr (RzF_rx Fr) (RzF_st F2)) (RzF_w (Or.inr (Or.inr rfl)) _)
  have J02 : JY (fun p => p = rd ∨ p = ex ∨ p = r) S S2 (6 * (k1 - k) + 2) := JY_tr (sub J1) (JY_x J2 (Or.inl rfl)) (by omega)
  by_cases z1 : tkK (tkW x (k1 + 1)) = 1
  rotate_left
  · right
    rw [if_neg z1, Option.bind_some, Sum.elim_inr, if_neg (fun w => z1 (n1.mp w)), Option.bind_some, t_take0 (show (wrI T2 82 (12 + nr) ((T2.2.1 229).toInt32)).1 231 = 0 from r231), Option.bind_some]
    obtain ⟨bb, JB⟩ := rd_badR (T := ptI (wrI T2 82 (12 + nr) ((T2.2.1 229).toInt32)) 231 1) R2 Q2.2.1 rfl
    exact ⟨_, _, _, rfl, rfl, RzF_tr Fr3 (RzF_231 1), bb, k1 + 1, by omega, k12b, JY_tr J02 (JY_x JB (Or.inl rfl)) (by omega)⟩
  rw [if_pos z1, if_pos (n1.mpr z1), Option.bind_some]
  have wn : tkW x (k1 + 1) ≠ [] := fun w => by rw [w] at z1; exact absurd z1 (by show ¬ 0 = 1; decide)
  rcases rd_step R2 I3.2.1 wn with ⟨S4, T4, eC4, eT4, R4, Q4, J4, F4⟩ | ⟨S4, e, T4, eC4, eT4, b4, J4, F4⟩
  · left
    rw [eC4, Option.bind_some, Sum.elim_inl, Option.bind_some, Sum.elim_inl, eT4, Option.bind_some]
    obtain ⟨fs2, hrd2⟩ := RdC_rd R2
    have hr4 := JX_ne J4 R2.1 hrd2 (by show 70 ≠ 68; decide) hr2
    have hex4 := JX_ne J4 R2.1 hrd2 (by show 1013 ≠ 68; decide) hex2
    rw [xP_c hr4 rfl (by show 3 < 9; decide) (show List.set _ 3 _ = [.ref nm, .ref cc, .ref ex, .int (Int32.ofNat (vN (tkW x (k1 + 1)))), .null, .null, .null, .int 0, .null] from rfl), Option.bind_some]
    have lr4 := wf_lt R4.1 hr4
    have R5 := RdC_c (c' := (true, false, 70, [.ref nm, .ref cc, .ref ex, .int (Int32.ofNat (vN (tkW x (k1 + 1)))), .null, .null, .null, .int 0, .null])) R4 hr4 (by decide)
    have I4 := PsC_S (PsC_st I3 R4 Q4 F4 (by omega)) R5
    have J05 : JY (fun p => p = rd ∨ p = ex ∨ p = r) S (cup S4 r (true, false, 70, [.ref nm, .ref cc, .ref ex, .int (Int32.ofNat (vN (tkW x (k1 + 1)))), .null, .null, .null, .int 0, .null])) (6 * (k1 + 2 - k)) := JY_c (JY_tr J02 (JY_x J4 (Or.inl rfl)) (by omega)) (Or.inl (Or.inr (Or.inr rfl))) lr4
    have up : ∀ p c, noN rd S1.1 p = some c → noN rd (cup S4 r (true, false, 70, [.ref nm, .ref cc, .ref ex, .int (Int32.ofNat (vN (tkW x (k1 + 1)))), .null, .null, .null, .int 0, .null])).1 p = some c := fun p c h => noN_fill hr4 rfl _ _ (noN_jx R2.1 hrd2 J4 _ _ (noN_jx R1.1 hrd1 J2 _ _ h))
    have nex : ex ≠ r := fun w => by rw [w, hr4] at hex4; simp at hex4
    refine ⟨_, T4, k1 + 2, F', CE', mc', Int32.ofNat (vN (tkW x (k1 + 1))), rfl, rfl, I4, cup_eq .., (cup_ne nex).trans hex4, ?_, ?_, g4, fun i h h' => ClP_up up (g5 i h h'), by omega, J05, RzF_tr Fr3 (RzF_st F4), ?_, ?_, ?_⟩
    · rw [F4.2.2, wrIq _ _ _ (by decide), F2.2.2]; exact g3
    · rw [F4.2.2, wrIe]
      show (if 12 + nr = 12 + nr then _ else _) = _
      rw [if_pos rfl, r229, tkV_1 R2 z1]
      exact Int32.toInt32_toInt64 _
    · rw [F4.1 232 (by decide) (by decide) (by decide) (by decide) (by decide)]
      show T2.1 232 = _
      rw [F2.1 232 (by decide) (by decide) (by decide) (by decide) (by decide)]; exact s232
    · rw [F4.2.2]
      show T2.2.2.2 79 = _
      rw [F2.2.2]; exact s79
    · rw [F4.2.2, wrIq _ _ _ (by decide), F2.2.2]; exact s80 80 (Or.inl rfl)
  · right
    rw [eC4, Option.bind_some, Sum.elim_inr, Option.bind_some, Sum.elim_inr, eT4, Option.bind_some]
    exact ⟨S4, e, T4, rfl, rfl, RzF_tr Fr3 (RzF_st F4), b4, k1 + 1, by omega, k12b, JY_tr J02 (JY_x J4 (Or.inl rfl)) (by omega)⟩
end
