/-! permits: rows of operations, both sides -/
section
variable {s S : CS} {t T U : TS} {x : List Nat} {rd rl k k' d n0 : Nat} {e : List (Int32 × Int64)} {P : List Int32} {dp : Int32}
noncomputable def opL (g : Nat → CS → Option (Sum (Nat × CS) (Nat × CS))) (i1 i2 v0 : Nat) : CS × Nat → Option (Sum (CS × Nat) (Sum (CS × Nat) (Sum (Nat × CS) (Nat × CS)))) := fun p3 => (if isK p3.1 [68] v0 = true then Option.bind (α := Int32) (c_938 v0 i1 p3.1) (fun x3 => Option.bind (α := Sum (Unit) (Sum (CS × Nat) (Sum (CS × Nat) (Sum (Nat × CS) (Nat × CS))))) ((if x3 = 0 then (if isK p3.1 [68] v0 = true then Option.bind (α := Int32) (c_938 v0 i2 p3.1) (fun x4 => (if x4 = 0 then some (.inr (.inr (.inl (p3.1, p3.2)))) else some (.inl ()))) else none) else some (.inl ()))) (Sum.elim (fun v11 => Option.bind (α := Nat) (xN p3.1 [(68, 2)] v0) (fun a5 => (if isK p3.1 [0] a5 = true then Option.bind (α := Int32) (stAt p3.1 a5 0) (fun x6 => (if isK p3.1 [68] v0 = true then Option.bind (α := Sum (CS) (Nat × CS)) (c_931 v0 p3.1) (Sum.elim (fun x7 => Option.bind (α := Nat × CS) (some (nw x7 73 [.int 0, .null, .null])) (fun n9 => (if isK n9.2 [68] v0 = true then Option.bind (α := Sum (Nat × CS) (Nat × CS)) (g v0 n9.2) (Sum.elim (fun x10 => (if isK x10.2 [73] n9.1 = true then Option.bind (α := CS) (c_953 n9.1 x6 p3.2 x10.1 x10.2) (fun x12 => some (.inl (x12, n9.1))) else none)) (fun q11 => some (.inr (.inr (.inr (q11.1, q11.2)))))) else none))) (fun q8 => some (.inr (.inr (.inr (q8.1, q8.2)))))) else none)) else none))) (fun z => some z))) else none)
/-- a pair is made -/
theorem c_pair {q b1 b2 c : Nat} {u : Value} (h : S.1 q = some (true, false, 73, [.int 0, .null, .null])) (hc : c < 127) {A : Type} (g : CS → Option A) : Option.bind (c_953 q (Int32.ofNat c) b1 b2 S) g = g (cup S q (true, false, 73, [.int (Int32.ofNat c), .ref b1, .ref b2])) := by
  unfold c_953
  rw [if_pos (isK_t h rfl), if_pos (fit_c ⟨c, hc⟩), xP_c h rfl (by show 0 < 3; decide) (show List.set _ 0 _ = [.int (Int32.ofNat c), .null, .null] from rfl), Option.bind_some, xP_c (cup_eq ..) rfl (by show 1 < 3; decide) (show List.set _ 1 _ = [.int (Int32.ofNat c), .ref b1, .null] from rfl), Option.bind_some, cupU, xP_c (cup_eq ..) rfl (by show 2 < 3; decide) (show List.set _ 2 _ = [.int (Int32.ofNat c), .ref b1, .ref b2] from rfl), Option.bind_some, cupU, Option.bind_some]
/-- a new pair upon two parts -/
theorem PT_pair {q b1 b2 : Nat} {l1 l2 : List (Int32 × Int64)} {c op : Int32} {n m : Nat} (h0 : S.1 q = some (true, false, 73, [.int 0, .null, .null])) (ho : opC c op) (r1 : PT (noN rd S.1) n b1 l1) (r2 : PT (noN rd S.1) n b2 l2) (hm : n + 1 ≤ m) (hrq : rd < q) : PT (noN rd (cup S q (true, false, 73, [.int c, .ref b1, .ref b2])).1) m q (l1 ++ l2 ++ [(op, 0)]) := by
  have up := noN_fill (rd := rd) (S := S) (q := q) (c' := (true, false, 73, [.int c, .ref b1, .ref b2])) h0 rfl
  refine PT_le ?_ hm
  unfold PT
  exact Or.inr (Or.inr ⟨c, op, b1, b2, l1, l2, noN_in (noK_in (cup_eq ..) rfl) ⟨rfl, hrq⟩, ho, PT_up up r1, PT_up up r2, rfl⟩)
theorem op_lp {g : Nat → CS → Option (Sum (Nat × CS) (Nat × CS))} {i1 i2 c1 c2 mx : Nat} {lo : Int32} {k0 : Nat} {NX : List Nat → Prop} (t1 : (i1, [c1]) ∈ sTab3) (t2 : (i2, [c2]) ∈ sTab3) (s1 : c1 ∈ sgns) (s2 : c2 ∈ sgns)
    (ho : ∀ c, c = c1 ∨ c = c2 → opC (Int32.ofNat c) (Int32.ofNat (opN c)) ∧ lo < Int32.ofNat (opN c) ∧ 0 < opN c ∧ (∀ q : Int32, lo < q → 1 < q ∧ (3 < q ∨ (if 3 < opN c then (2 : Int32) else 1) < 2)) ∧ (P = [] ∨ ∃ P1 p, P = P1 ++ [p] ∧ (¬ 1 < p ∨ (¬ 3 < p ∧ ¬ (if 3 < opN c then (2 : Int32) else 1) < 2)))) (hlo : ∀ q : Int32, 3 < q → lo < q) (hP : P.length ≤ 3 * d + 1) (hd : d ≤ 8) (hmx : mx ≤ 1)
    (CAL : ∀ {s : CS} {t : TS} {e : List (Int32 × Int64)} {k c : Nat}, (c = c1 ∨ c = c2) → PsI s t rd rl x k d n0 e (P ++ [Int32.ofNat (opN c)]) → (∃ S T a l k' f' e' Q, g rd s = some (.inl (a, S)) ∧ wh sdF (t, Int32.ofNat d, 0, 1, 1) = wh sdF (T, Int32.ofNat d, f', 0, 1) ∧ PsI S T rd rl x k' d n0 e' (P ++ [Int32.ofNat (opN c)] ++ Q) ∧ e' ++ flu Q = e ++ l ∧ (∀ q ∈ Q, 3 < q) ∧ Q.length ≤ mx ∧ NX (tkW x k') ∧ PsG rd n0 s t S T a l k k') ∨ PsX rd n0 s t k (g rd s) (wh sdF (t, Int32.ofNat d, 0, 1, 1))) :
    ∀ (N : Nat) {S : CS} {T : TS} {a k : Nat} {l e' : List (Int32 × Int64)} {f' : Int32} {Q : List Int32}, 122 - k ≤ N → PsI S T rd rl x k d n0 e' (P ++ Q) → e' ++ flu Q = e ++ l → (∀ q ∈ Q, lo < q) → Q.length ≤ mx + 1 → NX (tkW x k) → PsG rd n0 s t S T a l k0 k → (∃ S' T' a' l' k' f'' e'' Q', Option.bind (wh (opL g i1 i2 rd) (S, a)) (Sum.elim (fun v27 => some (.inl (v27.2, v27.1))) (fun z => some z)) = some (.inl (a', S')) ∧ wh sdF (T, Int32.ofNat d, f', 0, 1) = wh sdF (T', Int32.ofNat d, f'', 0, 1) ∧ PsI S' T' rd rl x k' d n0 e'' (P ++ Q') ∧ e'' ++ flu Q' = e ++ l' ∧ (∀ q ∈ Q', lo < q) ∧ Q'.length ≤ mx + 1 ∧ NX (tkW x k') ∧ tkW x k' ≠ [c1] ∧ tkW x k' ≠ [c2] ∧ PsG rd n0 s t S' T' a' l' k0 k') ∨ PsX rd n0 s t k0 (Option.bind (wh (opL g i1 i2 rd) (S, a)) (Sum.elim (fun v27 => some (.inl (v27.2, v27.1))) (fun z => some z))) (wh sdF (T, Int32.ofNat d, f', 0, 1)) := by
  intro N
  induction N with
  | zero =>
    intro S T a k l e' f' Q hN I _ _ _ _ _
    have := k121 I.1
    omega
  | succ N ih =>
    intro S T a k l e' f' Q hN I hE hQ hQl hx G
    obtain ⟨R, QT, K, B⟩ := I
    have k12 := k121 R
    obtain ⟨y, ey⟩ := tkW_y R
    have ok : tkO (tkC y) = true := by rw [← ey]; exact R.2.2.2.2.1
    have is1 := c_isT R (v := i1) t1
    have is2 := c_isT R (v := i2) t2
    by_cases w12 : tkW x k = [c1] ∨ tkW x k = [c2]
    rotate_left
    · left
      have n1 : tkW x k ≠ [c1] := fun z => w12 (Or.inl z)
      have n2 : tkW x k ≠ [c2] := fun z => w12 (Or.inr z)
      have eo : opL g i1 i2 rd (S, a) = some (.inr (.inl (S, a))) := by
        unfold opL
        dsimp only
        rw [if_pos (RdC_68 R), is1, Option.bind_some, if_neg n1, if_pos rfl, if_pos (RdC_68 R), is2, Option.bind_some, if_neg n2, if_pos rfl, Option.bind_some, Sum.elim_inr]
      refine ⟨S, T, a, l, k, f', e', Q, ?_, rfl, ⟨R, QT, K, B⟩, hE, hQ, hQl, hx, n1, n2, G⟩
      rw [wh_inr eo, Option.bind_some, Sum.elim_inl]
    · obtain ⟨c, hc, wc⟩ : ∃ c, (c = c1 ∨ c = c2) ∧ tkW x k = [c] := by
        rcases w12 with z | z
        · exact ⟨c1, Or.inl rfl, z⟩
        · exact ⟨c2, Or.inr rfl, z⟩
      obtain ⟨o1, o2, o3, o4, o5⟩ := ho c hc
      have cs : c ∈ sgns := by rcases hc with rfl | rfl <;> assumption
      have c127 := (sgns_lt cs).2.1
      have kc : tkK (tkW x k) = c := by rw [ey]; rw [ey] at wc; exact (kd_1 ok cs).mpr wc
      have wn : tkW x k ≠ [] := by rw [wc]; simp
      obtain ⟨b, fl, nn, hb1, hb2, hb3⟩ := R.2.2.2.2.2
      have at0 : stAt S b 0 = some (Int32.ofNat c) := by
        rw [wc] at hb2
        exact stA_t (j := 0) hb2 (by simp) (by decide)
      have eo : ∀ {r}, Option.bind (c_931 rd S) (Sum.elim (fun x7 => Option.bind (some (nw x7 73 [.int 0, .null, .null])) (fun n9 => (if isK n9.2 [68] rd = true then Option.bind (g rd n9.2) (Sum.elim (fun x10 => (if isK x10.2 [73] n9.1 = true then Option.bind (c_953 n9.1 (Int32.ofNat c) a x10.1 x10.2) (fun x12 => some (.inl (x12, n9.1))) else none)) (fun q11 => some (.inr (.inr (.inr (q11.1, q11.2)))))) else none))) (fun q8 => some (.inr (.inr (.inr (q8.1, q8.2)))))) = r → Option.bind r (fun z => some z) = opL g i1 i2 rd (S, a) := by
        intro r hr
        unfold opL
        dsimp only
        rw [if_pos (RdC_68 R), is1, Option.bind_some]
        have mid : ∀ {A : Type} (h : Sum (Unit) (Sum (CS × Nat) (Sum (CS × Nat) (Sum (Nat × CS) (Nat × CS)))) → Option A), Option.bind ((if (if tkW x k = [c1] then (1 : Int32) else 0) = 0 then (if isK S [68] rd = true then Option.bind (c_938 rd i2 S) (fun x4 => (if x4 = 0 then some (.inr (.inr (.inl (S, a)))) else some (.inl ()))) else none) else some (.inl ())) : Option (Sum (Unit) (Sum (CS × Nat) (Sum (CS × Nat) (Sum (Nat × CS) (Nat × CS)))))) h = h (.inl ()) := by
          intro A h
          by_cases z : tkW x k = [c1]
          · rw [if_pos z, if_neg (by decide), Option.bind_some]
          · have z2 : tkW x k = [c2] := w12.resolve_left z
            rw [if_neg z, if_pos rfl, if_pos (RdC_68 R), is2, Option.bind_some, if_pos z2, if_neg (by decide), Option.bind_some]
        rw [mid, Sum.elim_inl, xN_o hb1 rfl rfl, Option.bind_some, if_pos (isK_t hb2 rfl), at0, Option.bind_some, if_pos (RdC_68 R), hr]
        cases r <;> rfl
      -- the reference
      have q231 : T.1 231 = 0 := QT.2.2.2.2.2.2
      have q228 : T.1 228 = Int32.ofNat c := by rw [← kc]; exact QT.2.2.2.1
      have stp := sd_op q231 q228 (by omega) (Int32.ofNat d) f' o3
      have PL : (P ++ Q).length = P.length + Q.length := List.length_append
      obtain ⟨U1, eU, KU, FU⟩ := t_unp (b := if 3 < opN c then (2 : Int32) else 1) (P0 := P) (Q := Q) K (by omega) (by omega) (fun q hq => o4 q (hQ q hq)) o5
      rw [hE] at KU
      rw [eU, Option.bind_some] at stp
      have EL : e'.length + Q.length = e.length + l.length := by
        have := congrArg List.length hE
        rw [List.length_append, List.length_append] at this
        unfold flu at this
        rw [List.length_map, List.length_reverse] at this
        exact this
      obtain ⟨U2, eU2, KU2, FU2⟩ := t_pile (fun s17 => Option.bind (t_741 1 s17) (fun x18 => (some (.inl (x18, Int32.ofNat d, 0, 1, 1)) : Option (Sum (TS × Int32 × Int32 × Int32 × Int32) TS)))) KU (by omega) (Int32.ofNat (opN c))
      rw [eU2] at stp
      have F2 : RwF n0 T U2 := RwF_tr FU FU2
      have Q2 := RdT_rw QT F2
      obtain ⟨G1, G2, G3, G4, G5⟩ := G
      obtain ⟨fsS, hrdS⟩ := RdC_rd R
      rcases rd_step R Q2 wn with ⟨S1, T1, eC, eT, R1, Q1, J1, F1⟩ | ⟨S1, ex, T1, eC, eT, b1, J1, F1⟩
      rotate_left
      · right
        rw [eT, Option.bind_some] at stp
        have e2 := eo (r := some (.inr (.inr (.inr (ex, S1))))) (by rw [eC, Option.bind_some, Sum.elim_inr])
        rw [Option.bind_some] at e2
        rw [wh_inr e2.symm, Option.bind_some, Sum.elim_inr]
        exact ⟨S1, ex, T1, k, _, _, rfl, (wh_inl stp).trans (wh_inr (sd_out _ _ _ b1.1)), b1, SdF_tr G5 (SdF_tr (SdF_rw F2) (SdF_st F1)), StK_f KU2 F1, by rw [List.length_append, List.length_append, List.length_singleton]; omega, by omega, k12, JX_tr G4 J1 (by omega)⟩
      rw [eT, Option.bind_some] at stp
      have v2 : VOk S1 (nw S1 73 [.int 0, .null, .null]).2 1 := VOk_nw (j := 1) (k := 3) R1.1 _ (by omega) (by omega)
      obtain ⟨S2, hS2⟩ : ∃ S2, S2 = (nw S1 73 [.int 0, .null, .null]).2 := ⟨_, rfl⟩
      have hq : S2.1 S1.2.1 = some (true, false, 73, [.int 0, .null, .null]) := by rw [hS2]; exact nwc_eq ..
      rw [← hS2] at v2
      have R2 := RdC_v R1 v2
      have J2 : JX rd S S2 3 := JX_v J1 v2 (by omega)
      have I2 : PsI S2 T1 rd rl x (k + 1) d n0 (e ++ l) (P ++ [Int32.ofNat (opN c)]) := ⟨R2, Q1, StK_f KU2 F1, by rw [List.length_append, List.length_append, List.length_singleton]; omega⟩
      have F12 : SdF n0 T T1 := SdF_tr (SdF_rw F2) (SdF_st F1)
      rcases CAL hc I2 with ⟨S3, T3, a2, l2, k2, f2, e2, QQ, c1', c2', I3, c3, c4, c5, c6, g1, g2, g3, g4, g5⟩ | ⟨S3, ex, T3, k2, e2, P2, b1, b2, b3, b4, b5, b6, b7, b8, b9⟩
      rotate_left
      · right
        have e3 := eo (r := some (.inr (.inr (.inr (ex, S3))))) (by
          rw [eC, Option.bind_some, Sum.elim_inl, Option.bind_some]
          rw [← hS2, if_pos (RdC_68 R2), b1, Option.bind_some, Sum.elim_inr])
        rw [Option.bind_some] at e3
        rw [wh_inr e3.symm, Option.bind_some, Sum.elim_inr]
        exact ⟨S3, ex, T3, k2, e2, P2, rfl, (wh_inl stp).trans b2, b3, SdF_tr G5 (SdF_tr F12 b4), b5, b6, by omega, b8, JX_tr G4 (JX_tr J2 b9 (Nat.le_refl _)) (by omega)⟩
      · obtain ⟨R3, Q3, K3, B3⟩ := I3
        obtain ⟨fs2, hrd2⟩ := RdC_rd R2
        obtain ⟨fs1, hrd1⟩ := RdC_rd R1
        have hq3 : S3.1 S1.2.1 = some (true, false, 73, [.int 0, .null, .null]) := JX_ne g4 R2.1 hrd2 (by show 73 ≠ 68; decide) hq
        have R4 := RdC_c (c' := (true, false, 73, [.int (Int32.ofNat c), .ref a, .ref a2])) R3 hq3 (by decide)
        have e3 := eo (r := some (.inl (cup S3 S1.2.1 (true, false, 73, [.int (Int32.ofNat c), .ref a, .ref a2]), S1.2.1))) (by
          rw [eC, Option.bind_some, Sum.elim_inl, Option.bind_some]
          rw [← hS2, if_pos (RdC_68 R2), c1', Option.bind_some, Sum.elim_inl, show (nw S1 73 [.int 0, .null, .null]).1 = S1.2.1 from rfl, if_pos (isK_t hq3 rfl), c_pair (u := .null) hq3 c127])
        rw [Option.bind_some] at e3
        have JS3 : JX rd S S3 (3 + 4 * (k2 - (k + 1))) := JX_tr J2 g4 (Nat.le_refl _)
        have up13 : ∀ p c, noN rd S.1 p = some c → noN rd S3.1 p = some c := noN_jx R.1 hrdS JS3
        have l1 : S.2.1 ≤ S1.2.1 := J1.2.1
        have J4 : JX rd s (cup S3 S1.2.1 (true, false, 73, [.int (Int32.ofNat c), .ref a, .ref a2])) (4 * (k2 - k0)) := JX_n (JX_tr G4 JS3 (by omega)) (Nat.le_trans G4.2.1 l1) (wf_lt R3.1 hq3)
        have PT4 := PT_pair (m := k2 - k0) (n := k2 - k0 - 1) hq3 o1 (PT_le (PT_up up13 G2) (by omega)) (PT_le g2 (by omega)) (by omega) (wf_lt R1.1 hrd1)
        have res := ih (S := cup S3 S1.2.1 (true, false, 73, [.int (Int32.ofNat c), .ref a, .ref a2])) (T := T3) (a := S1.2.1) (k := k2) (l := l ++ l2 ++ [(Int32.ofNat (opN c), 0)]) (e' := e2) (f' := f2) (Q := Int32.ofNat (opN c) :: QQ) (by omega) ⟨R4, Q3, by rw [show P ++ Int32.ofNat (opN c) :: QQ = P ++ [Int32.ofNat (opN c)] ++ QQ by simp]; exact K3, by rw [show P ++ Int32.ofNat (opN c) :: QQ = P ++ [Int32.ofNat (opN c)] ++ QQ by simp]; exact B3⟩ (by
          have : flu (Int32.ofNat (opN c) :: QQ) = flu QQ ++ [(Int32.ofNat (opN c), 0)] := by unfold flu; rw [List.reverse_cons, List.map_append]; rfl
          rw [this, ← List.append_assoc, c3]
          simp) (fun q hq => by
            rcases List.mem_cons.mp hq with z | z
            · rw [z]; exact o2
            · exact hlo q (c4 q z)) (by rw [List.length_cons]; omega) c6 ⟨by omega, PT4, by rw [List.length_append, List.length_append, List.length_singleton]; omega, J4, SdF_tr G5 (SdF_tr F12 g5)⟩
        have w1 : wh (opL g i1 i2 rd) (S, a) = wh (opL g i1 i2 rd) (cup S3 S1.2.1 (true, false, 73, [.int (Int32.ofNat c), .ref a, .ref a2]), S1.2.1) := wh_inl e3.symm
        rw [w1, (wh_inl stp).trans c2']
        exact res
end
