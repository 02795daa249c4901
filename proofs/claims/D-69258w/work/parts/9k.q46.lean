/-! permits: sides, both readers -/
section
variable {s S : CS} {t T U : TS} {x : List Nat} {rd rl k k' d n0 : Nat} {e : List (Int32 × Int64)} {P : List Int32} {dp : Int32}
def TerS (rd rl : Nat) (x : List Nat) (n0 m : Nat) : Prop := ∀ {s : CS} {t : TS} {e : List (Int32 × Int64)} {P : List Int32} {k d : Nat} {f : Int32}, PsI s t rd rl x k d n0 e P → P.length ≤ 3 * d + 1 → d ≤ 8 → 3 * (8 - d) + 2 ≤ m → ¬ (f ≠ 0 ∧ tkW x k = [45]) → (P = [] ∨ ∃ P1 p, P = P1 ++ [p] ∧ ¬ 3 < p) → (∃ S T a l k' f' e' Q, (c_rd m).2.1 rd s = some (.inl (a, S)) ∧ wh sdF (t, Int32.ofNat d, f, 1, 1) = wh sdF (T, Int32.ofNat d, f', 0, 1) ∧ PsI S T rd rl x k' d n0 e' (P ++ Q) ∧ e' ++ flu Q = e ++ l ∧ (∀ q ∈ Q, 3 < q) ∧ Q.length ≤ 1 ∧ (tkW x k' ≠ [42] ∧ tkW x k' ≠ [47]) ∧ PsG rd n0 s t S T a l k k') ∨ PsX rd n0 s t k ((c_rd m).2.1 rd s) (wh sdF (t, Int32.ofNat d, f, 1, 1))
theorem i31 {q : Int32} (h : 3 < q) : 1 < q := by
  rw [Int32.lt_iff_toInt_lt, show (3 : Int32).toInt = 3 from rfl] at h
  rw [Int32.lt_iff_toInt_lt, show (1 : Int32).toInt = 1 from rfl]
  omega
theorem PsX_bind {o : Option (Sum (Nat × CS) (Nat × CS))} {w : Option TS} (h : PsX rd n0 s t k o w) {g : Nat × CS → Option (Sum (Nat × CS) (Nat × CS))} : PsX rd n0 s t k (Option.bind o (Sum.elim g (fun q2 => some (.inr (q2.1, q2.2))))) w := by
  obtain ⟨S, ex, T, k', e', P', h1, h2⟩ := h
  exact ⟨S, ex, T, k', e', P', by rw [h1, Option.bind_some, Sum.elim_inr], h2⟩
theorem ter_step {m : Nat} (IH : FacS rd rl x n0 m) : TerS rd rl x n0 (m + 1) := by
  intro s t e P k d f I hP hd hm hf top
  have eq : (c_rd (m + 1)).2.1 rd s = (if isK s [68] rd = true then Option.bind ((c_rd m).2.2 rd s) (Sum.elim (fun x1 => Option.bind (wh (opL (c_rd m).2.2 76 77 rd) (x1.2, x1.1)) (Sum.elim (fun v27 => some (.inl (v27.2, v27.1))) (fun z => some z))) (fun q2 => some (.inr (q2.1, q2.2)))) else none) := rfl
  rw [eq, if_pos (RdC_68 I.1)]
  rcases IH I (by omega) hd (by omega) hf with ⟨S, T, a, l, k', f', c1, c2, I', G⟩ | bad
  rotate_left
  · exact Or.inr (PsX_bind bad)
  rw [c1, Option.bind_some, Sum.elim_inl, c2]
  have res := op_lp (s := s) (t := t) (g := (c_rd m).2.2) (i1 := 76) (i2 := 77) (c1 := 42) (c2 := 47) (mx := 0) (lo := 3) (k0 := k) (P := P) (d := d) (e := e) (n0 := n0) (x := x) (rd := rd) (rl := rl) (NX := fun _ => True) (by decide) (by decide) (by decide) (by decide) (fun c hc => by
    have o : opC (Int32.ofNat c) (Int32.ofNat (opN c)) ∧ (3 : Int32) < Int32.ofNat (opN c) ∧ 0 < opN c ∧ 3 < opN c := by
      rcases hc with rfl | rfl
      · exact ⟨Or.inr (Or.inr (Or.inl ⟨rfl, rfl⟩)), by decide, by decide, by decide⟩
      · exact ⟨Or.inr (Or.inr (Or.inr ⟨rfl, rfl⟩)), by decide, by decide, by decide⟩
    refine ⟨o.1, o.2.1, o.2.2.1, fun q hq => ⟨i31 hq, Or.inl hq⟩, ?_⟩
    rw [if_pos o.2.2.2]
    exact top.imp id (fun ⟨P1, p, h1, h2⟩ => ⟨P1, p, h1, Or.inr ⟨h2, by decide⟩⟩)) (fun q hq => hq) (by omega) hd (by omega) (fun {s2 t2 e2 k2 c} hc I2 => by
      rcases IH (f := 0) I2 (by rw [List.length_append, List.length_singleton]; omega) hd (by omega) (fun w => w.1 rfl) with ⟨S, T, a, l, k', f', d1, d2, I3, G3⟩ | bad
      · exact Or.inl ⟨S, T, a, l, k', f', e2 ++ l, [], d1, d2, by rw [List.append_nil]; exact I3, by show e2 ++ l ++ [] = _; rw [List.append_nil], fun q hq => absurd hq List.not_mem_nil, Nat.le_refl _, trivial, G3⟩
      · exact Or.inr bad) (122 - k') (S := S) (T := T) (a := a) (k := k') (l := l) (e' := e ++ l) (f' := f') (Q := []) (Nat.le_refl _) (by rw [List.append_nil]; exact I') (by show e ++ l ++ [] = _; rw [List.append_nil]) (fun q hq => absurd hq List.not_mem_nil) (Nat.zero_le _) trivial G
  rcases res with ⟨S', T', a', l', k2, f2, e2, Q2, r1, r2, r3, r4, r5, r6, _, r7, r8, r9⟩ | bad
  · exact Or.inl ⟨S', T', a', l', k2, f2, e2, Q2, r1, r2, r3, r4, r5, r6, ⟨r7, r8⟩, r9⟩
  · exact Or.inr bad
theorem sid_lp {m : Nat} (IH : TerS rd rl x n0 m) {s : CS} {t : TS} {e : List (Int32 × Int64)} {P : List Int32} {k0 d : Nat} (hP : P.length ≤ 3 * d) (hd : d ≤ 8) (hm : 3 * (8 - d) + 3 ≤ m + 1) (top : P = [] ∨ ∃ P1 p, P = P1 ++ [p] ∧ ¬ 1 < p) {S : CS} {T : TS} {a k : Nat} {l e' : List (Int32 × Int64)} {f' : Int32} {Q : List Int32} (I : PsI S T rd rl x k d n0 e' (P ++ Q)) (hE : e' ++ flu Q = e ++ l) (hQ : ∀ q ∈ Q, 1 < q) (hl : Q.length ≤ 2) (hx : tkW x k ≠ [42] ∧ tkW x k ≠ [47]) (G : PsG rd n0 s t S T a l k0 k) : (∃ S' T' a' l' k' f'' e'' Q', Option.bind (wh (opL (c_rd m).2.1 75 74 rd) (S, a)) (Sum.elim (fun v27 => some (.inl (v27.2, v27.1))) (fun z => some z)) = some (.inl (a', S')) ∧ wh sdF (T, Int32.ofNat d, f', 0, 1) = wh sdF (T', Int32.ofNat d, f'', 0, 1) ∧ PsI S' T' rd rl x k' d n0 e'' (P ++ Q') ∧ e'' ++ flu Q' = e ++ l' ∧ (∀ q ∈ Q', 1 < q) ∧ Q'.length ≤ 2 ∧ opN (tkK (tkW x k')) = 0 ∧ PsG rd n0 s t S' T' a' l' k0 k') ∨ PsX rd n0 s t k0 (Option.bind (wh (opL (c_rd m).2.1 75 74 rd) (S, a)) (Sum.elim (fun v27 => some (.inl (v27.2, v27.1))) (fun z => some z))) (wh sdF (T, Int32.ofNat d, f', 0, 1)) := by
  have res := op_lp (s := s) (t := t) (g := (c_rd m).2.1) (i1 := 75) (i2 := 74) (c1 := 43) (c2 := 45) (mx := 1) (lo := 1) (k0 := k0) (P := P) (d := d) (e := e) (n0 := n0) (x := x) (rd := rd) (rl := rl) (NX := fun w => w ≠ [42] ∧ w ≠ [47]) (by decide) (by decide) (by decide) (by decide) (fun c hc => by
    have o : opC (Int32.ofNat c) (Int32.ofNat (opN c)) ∧ (1 : Int32) < Int32.ofNat (opN c) ∧ 0 < opN c ∧ ¬ 3 < opN c := by
      rcases hc with rfl | rfl
      · exact ⟨Or.inl ⟨rfl, rfl⟩, by decide, by decide, by decide⟩
      · exact ⟨Or.inr (Or.inl ⟨rfl, rfl⟩), by decide, by decide, by decide⟩
    refine ⟨o.1, o.2.1, o.2.2.1, fun q hq => ⟨hq, Or.inr (by rw [if_neg o.2.2.2]; decide)⟩, ?_⟩
    exact top.imp id (fun ⟨P1, p, h1, h2⟩ => ⟨P1, p, h1, Or.inl h2⟩)) (fun q hq => i31 hq) (by omega) hd (by omega) (fun {s2 t2 e2 k2 c} hc I2 => by
      have o3 : ¬ (3 : Int32) < Int32.ofNat (opN c) := by rcases hc with rfl | rfl <;> decide
      exact IH (f := 0) I2 (by rw [List.length_append, List.length_singleton]; omega) hd (by omega) (fun w => w.1 rfl) (Or.inr ⟨P, _, rfl, o3⟩)) (122 - k) (S := S) (T := T) (a := a) (k := k) (l := l) (e' := e') (f' := f') (Q := Q) (Nat.le_refl _) I hE hQ hl hx G
  rcases res with ⟨S', T', a', l', k2, f2, e2, Q2, r1, r2, r3, r4, r5, r6, ⟨r7, r8⟩, r9, r10, r11⟩ | bad
  · refine Or.inl ⟨S', T', a', l', k2, f2, e2, Q2, r1, r2, r3, r4, r5, r6, ?_, r11⟩
    obtain ⟨y, ey⟩ := tkW_y r3.1
    have ok : tkO (tkC y) = true := by rw [← ey]; exact r3.1.2.2.2.2.1
    unfold opN
    rw [ey] at r7 r8 r9 r10 ⊢
    rw [if_neg (fun w => r9 ((kd_1 ok (c := 43) (by decide)).mp w)), if_neg (fun w => r10 ((kd_1 ok (c := 45) (by decide)).mp w)), if_neg (fun w => r7 ((kd_1 ok (c := 42) (by decide)).mp w)), if_neg (fun w => r8 ((kd_1 ok (c := 47) (by decide)).mp w))]
  · exact Or.inr bad
theorem sid_step {m : Nat} (IH : TerS rd rl x n0 m) : SidS rd rl x n0 (m + 1) := by
  intro s t e P k d I hP hd hm top
  obtain ⟨R, Q, K, B⟩ := id I
  have k12 := k121 R
  have hw := R.1
  have eq : (c_rd (m + 1)).1 rd s = (if isK s [68] rd = true then Option.bind (c_938 rd 74 s) (fun x1 => Option.bind ((if x1 = 0 then some (.inl s) else (if isK s [68] rd = true then Option.bind (c_931 rd s) (Sum.elim (fun x2 => some (.inl x2)) (fun q3 => some (.inr (.inr (q3.1, q3.2))))) else none)) : Option (Sum (CS) (Sum (Nat × CS) (Nat × CS)))) (Sum.elim (fun v8 => (if isK v8 [68] rd = true then Option.bind ((c_rd m).2.1 rd v8) (Sum.elim (fun x4 => Option.bind ((if x1 = 0 then some (x4.2, x4.1) else Option.bind (some (nw x4.2 73 [.int 0, .null, .null])) (fun n6 => Option.bind (some (nw n6.2 71 [.int 0])) (fun n7 => (if isK n7.2 [71] n7.1 = true then Option.bind (c_949 n7.1 0 n7.2) (fun x8 => (if isK x8 [73] n6.1 = true then Option.bind (c_953 n6.1 45 n7.1 x4.1 x8) (fun x9 => some (x9, n6.1)) else none)) else none)))) : Option (CS × Nat)) (fun v24 => Option.bind (wh (opL (c_rd m).2.1 75 74 rd) (v24.1, v24.2)) (Sum.elim (fun v49 => some (.inl (v49.2, v49.1))) (fun z => some z)))) (fun q5 => some (.inr (q5.1, q5.2)))) else none)) (fun z => some z))) else none) := rfl
  rw [eq, if_pos (RdC_68 R), c_isT R (v := 74) (ys := [45]) (by decide), Option.bind_some]
  have t3 : P = [] ∨ ∃ P1 p, P = P1 ++ [p] ∧ ¬ 3 < p := top.imp id (fun ⟨P1, p, h1, h2⟩ => ⟨P1, p, h1, fun w => h2 (i31 w)⟩)
  by_cases z : tkW x k = [45]
  rotate_left
  · rw [if_neg z, if_pos rfl, Option.bind_some, Sum.elim_inl, if_pos (RdC_68 R)]
    rcases IH (f := 1) I (by omega) hd (by omega) (fun w => z w.2) t3 with ⟨S, T, a, l, k', f', e', QQ, c1, c2, I', c3, c4, c5, c6, G⟩ | bad
    rotate_left
    · exact Or.inr (PsX_bind bad)
    rw [c1, Option.bind_some, Sum.elim_inl, if_pos rfl, Option.bind_some, c2]
    exact sid_lp IH hP hd hm top I' c3 (fun q hq => i31 (c4 q hq)) (by omega) c6 G
  · rw [if_pos z, if_neg (by decide), if_pos (RdC_68 R)]
    obtain ⟨y, ey⟩ := tkW_y R
    have ok : tkO (tkC y) = true := by rw [← ey]; exact R.2.2.2.2.1
    have kk : tkK (tkW x k) = 45 := by rw [ey]; rw [ey] at z; exact (kd_1 ok (by decide)).mpr z
    have q231 : t.1 231 = 0 := Q.2.2.2.2.2.2
    have q228 : t.1 228 = Int32.ofNat 45 := by rw [← kk]; exact Q.2.2.2.1
    have stp := sd_minus q231 q228 (by omega) (Int32.ofNat d) rfl
    obtain ⟨U1, eU, KU, FU⟩ := t_emit K (by omega) 0 0
    rw [eU, Option.bind_some] at stp
    obtain ⟨U2, eU2, KU2, FU2⟩ := t_pile (fun s17 => Option.bind (t_741 1 s17) (fun x18 => (some (.inl (x18, Int32.ofNat d, 0, 1, 1)) : Option (Sum (TS × Int32 × Int32 × Int32 × Int32) TS)))) KU (by omega) 3
    rw [eU2] at stp
    have F2 : RwF n0 t U2 := RwF_tr FU FU2
    have Q2 := RdT_rw Q F2
    rcases rd_step R Q2 (by rw [z]; simp) with ⟨S1, T1, eC, eT, R1, Q1, J1, F1⟩ | ⟨S1, ex, T1, eC, eT, b1, J1, F1⟩
    rotate_left
    · right
      rw [eT, Option.bind_some] at stp
      rw [eC, Option.bind_some, Sum.elim_inr, Option.bind_some, Sum.elim_inr]
      exact ⟨S1, ex, T1, k, _, _, rfl, (wh_inl stp).trans (wh_inr (sd_out _ _ _ b1.1)), b1, SdF_tr (SdF_rw F2) (SdF_st F1), StK_f KU2 F1, by rw [List.length_append, List.length_append, List.length_singleton, List.length_singleton]; omega, Nat.le_refl _, k12, JX_le J1 (by omega)⟩
    rw [eT, Option.bind_some] at stp
    rw [eC, Option.bind_some, Sum.elim_inl, Option.bind_some, Sum.elim_inl, if_pos (RdC_68 R1)]
    have I2 : PsI S1 T1 rd rl x (k + 1) d n0 (e ++ [(0, 0)]) (P ++ [3]) := ⟨R1, Q1, StK_f KU2 F1, by rw [List.length_append, List.length_append, List.length_singleton, List.length_singleton]; omega⟩
    have F12 : SdF n0 t T1 := SdF_tr (SdF_rw F2) (SdF_st F1)
    rcases IH (f := 0) I2 (by rw [List.length_append, List.length_singleton]; omega) hd (by omega) (fun w => w.1 rfl) (Or.inr ⟨P, 3, rfl, by decide⟩) with ⟨S, T, a, l, k', f', e', QQ, c1, c2, I', c3, c4, c5, c6, G⟩ | ⟨S3, ex, T3, k2, e2, P2, b1, b2, b3, b4, b5, b6, b7, b8, b9⟩
    rotate_left
    · right
      rw [b1, Option.bind_some, Sum.elim_inr]
      exact ⟨S3, ex, T3, k2, e2, P2, rfl, (wh_inl stp).trans b2, b3, SdF_tr F12 b4, b5, b6, by omega, b8, JX_tr J1 b9 (by omega)⟩
    obtain ⟨R', Q', K', B'⟩ := I'
    obtain ⟨g1, g2, g3, g4, g5⟩ := G
    rw [c1, Option.bind_some, Sum.elim_inl, if_neg (by decide), Option.bind_some, Option.bind_some]
    have v1 : VOk S (nw S 73 [.int 0, .null, .null]).2 1 := VOk_nw (j := 1) (k := 3) R'.1 _ (by omega) (by omega)
    obtain ⟨S5, hS5⟩ : ∃ S5, S5 = (nw S 73 [.int 0, .null, .null]).2 := ⟨_, rfl⟩
    have hq5 : S5.1 S.2.1 = some (true, false, 73, [.int 0, .null, .null]) := by rw [hS5]; exact nwc_eq ..
    have b5 : S5.2.1 = S.2.1 + 1 := by rw [hS5]; rfl
    rw [show (nw S 73 [.int 0, .null, .null]).1 = S.2.1 from rfl, ← hS5]
    rw [← hS5] at v1
    have R5 := RdC_v R' v1
    have v2 : VOk S5 (nw S5 71 [.int 0]).2 1 := VOk_nw (j := 1) (k := 1) R5.1 _ (by omega) (by omega)
    obtain ⟨S6, hS6⟩ : ∃ S6, S6 = (nw S5 71 [.int 0]).2 := ⟨_, rfl⟩
    have hr6 : S6.1 S5.2.1 = some (true, false, 71, [.int 0]) := by rw [hS6]; exact nwc_eq ..
    rw [show (nw S5 71 [.int 0]).1 = S5.2.1 from rfl, ← hS6]
    rw [← hS6] at v2
    have hq6 := VOk_up v2 R5.1 hq5
    have R6 := RdC_v R5 v2
    rw [if_pos (isK_t hr6 rfl)]
    unfold c_949
    rw [if_pos (isK_t hr6 rfl), xP_c hr6 rfl (by show 0 < 1; decide) (show List.set _ 0 _ = [.int 0] from rfl), cup_id hr6, Option.bind_some, Option.bind_some, if_pos (isK_t hq6 rfl), show (45 : Int32) = Int32.ofNat 45 from rfl, c_pair (u := .null) hq6 (by decide), Option.bind_some]
    have v12 : VOk S S6 2 := VOk_tr v1 v2 (Nat.le_refl _)
    have J6 : JX rd S1 S6 (4 * (k' - (k + 1)) + 2) := JX_v g4 v12 (Nat.le_refl _)
    have J7 : JX rd s S6 (4 * (k' - k)) := JX_tr J1 J6 (by omega)
    have l1 : s.2.1 ≤ S.2.1 := Nat.le_trans J1.2.1 g4.2.1
    have J8 : JX rd s (cup S6 S.2.1 (true, false, 73, [.int (Int32.ofNat 45), .ref S5.2.1, .ref a])) (4 * (k' - k)) := JX_n J7 l1 (wf_lt R6.1 hq6)
    have R8 := RdC_c (c' := (true, false, 73, [.int (Int32.ofNat 45), .ref S5.2.1, .ref a])) R6 hq6 (by decide)
    obtain ⟨fsS, hrdS⟩ := RdC_rd R'
    have ptP : PT (noN rd S6.1) (k' - k - 1) S5.2.1 [(0, 0)] := by
      rw [show k' - k - 1 = (k' - k - 2) + 1 by omega]
      unfold PT
      exact Or.inl ⟨0, noN_in (noK_in hr6 rfl) ⟨rfl, by obtain ⟨fs5, hrd5⟩ := RdC_rd R5; exact wf_lt R5.1 hrd5⟩, rfl⟩
    have PT8 := PT_pair (m := k' - k) (n := k' - k - 1) (c := Int32.ofNat 45) (op := 3) hq6 (Or.inr (Or.inl ⟨rfl, rfl⟩)) ptP (PT_le (PT_up (noN_jx R'.1 hrdS (JX_of (a := rd) R'.1 v12)) g2) (by omega)) (by omega) (wf_lt R'.1 hrdS)
    rw [(wh_inl stp).trans c2]
    have eP : P ++ 3 :: QQ = P ++ [3] ++ QQ := by simp
    exact sid_lp IH (Q := 3 :: QQ) (l := [(0, 0)] ++ l ++ [(3, 0)]) hP hd hm top ⟨R8, Q', by rw [eP]; exact K', by rw [eP]; exact B'⟩ (by
      have : flu (3 :: QQ) = flu QQ ++ [((3 : Int32), 0)] := by unfold flu; rw [List.reverse_cons, List.map_append]; rfl
      rw [this, ← List.append_assoc, c3]
      simp) (fun q hq => by
        rcases List.mem_cons.mp hq with z | z
        · rw [z]; decide
        · exact i31 (c4 q z)) (by rw [List.length_cons]; omega) c6 ⟨by omega, PT8, by rw [List.length_append, List.length_append, List.length_singleton, List.length_singleton]; omega, J8, SdF_tr F12 g5⟩
theorem rd_all (rd rl : Nat) (x : List Nat) (n0 : Nat) : ∀ m, FacS rd rl x n0 m ∧ TerS rd rl x n0 m ∧ SidS rd rl x n0 m := by
  intro m
  induction m with
  | zero => exact ⟨fun _ _ _ h _ => by omega, fun _ _ _ h _ _ => by omega, fun _ _ _ h _ => by omega⟩
  | succ m ih => exact ⟨fac_step ih.2.2, ter_step ih.1, sid_step ih.2.1⟩
end
