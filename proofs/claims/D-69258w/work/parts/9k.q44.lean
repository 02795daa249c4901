/-! permits: a factor, both sides -/
section
variable {s S : CS} {t T U : TS} {x : List Nat} {rd rl k k' d n0 : Nat} {e : List (Int32 × Int64)} {P : List Int32} {dp : Int32}
theorem PT_le {h : lHeap} {n m a : Nat} {l : List (Int32 × Int64)} (r : PT h n a l) (hn : n ≤ m) : PT h m a l := by
  induction n generalizing a l m with
  | zero => exact absurd r id
  | succ n ih =>
    obtain ⟨m', rfl⟩ : ∃ m', m = m' + 1 := ⟨m - 1, by omega⟩
    unfold PT at r ⊢
    rcases r with r | r | ⟨c, k, b1, b2, l1, l2, r1, r2, r3, r4, r5⟩
    · exact Or.inl r
    · exact Or.inr (Or.inl r)
    · exact Or.inr (Or.inr ⟨c, k, b1, b2, l1, l2, r1, r2, ih r3 (by omega), ih r4 (by omega), r5⟩)
/-- both readers, the row and the pile -/
def PsI (s : CS) (t : TS) (rd rl : Nat) (x : List Nat) (k d n0 : Nat) (e : List (Int32 × Int64)) (P : List Int32) : Prop := RdC s rd rl x k (Int32.ofNat d) ∧ RdT t x k ∧ StK t n0 e P ∧ n0 + e.length + P.length + 2 ≤ 2 * k
def PsG (rd : Nat) (n0 : Nat) (s : CS) (t : TS) (S : CS) (T : TS) (a : Nat) (l : List (Int32 × Int64)) (k k' : Nat) : Prop := k < k' ∧ PT (noN rd S.1) (k' - k) a l ∧ l.length + 1 ≤ 2 * (k' - k) ∧ JX rd s S (4 * (k' - k)) ∧ SdF n0 t T
def PsX (rd : Nat) (n0 : Nat) (s : CS) (t : TS) (k : Nat) (o : Option (Sum (Nat × CS) (Nat × CS))) (w : Option TS) : Prop := ∃ (S : CS) (ex : Nat) (T : TS) (k' : Nat) (e' : List (Int32 × Int64)) (P' : List Int32), o = some (.inr (ex, S)) ∧ w = some T ∧ BadR S ex T ∧ SdF n0 t T ∧ StK T n0 e' P' ∧ n0 + e'.length + 2 * P'.length ≤ 285 ∧ k ≤ k' ∧ k' ≤ 121 ∧ JX rd s S (4 * (k' - k) + 8)
theorem k121 (R : RdC s rd rl x k dp) : k ≤ 121 := by
  obtain ⟨_, _, _, _, _, b, fl, n, h1, h2, ⟨n1, n2, n3⟩, _⟩ := R
  by_cases z : tkW x k = []
  · have := n3 z; omega
  · have := n2 z; omega
def FacS (rd rl : Nat) (x : List Nat) (n0 m : Nat) : Prop := ∀ {s : CS} {t : TS} {e : List (Int32 × Int64)} {P : List Int32} {k d : Nat} {f : Int32}, PsI s t rd rl x k d n0 e P → P.length ≤ 3 * d + 2 → d ≤ 8 → 3 * (8 - d) + 1 ≤ m → ¬ (f ≠ 0 ∧ tkW x k = [45]) → (∃ S T a l k' f', (c_rd m).2.2 rd s = some (.inl (a, S)) ∧ wh sdF (t, Int32.ofNat d, f, 1, 1) = wh sdF (T, Int32.ofNat d, f', 0, 1) ∧ PsI S T rd rl x k' d n0 (e ++ l) P ∧ PsG rd n0 s t S T a l k k') ∨ PsX rd n0 s t k ((c_rd m).2.2 rd s) (wh sdF (t, Int32.ofNat d, f, 1, 1))
def SidS (rd rl : Nat) (x : List Nat) (n0 m : Nat) : Prop := ∀ {s : CS} {t : TS} {e : List (Int32 × Int64)} {P : List Int32} {k d : Nat}, PsI s t rd rl x k d n0 e P → P.length ≤ 3 * d → d ≤ 8 → 3 * (8 - d) + 3 ≤ m → (P = [] ∨ ∃ P1 p, P = P1 ++ [p] ∧ ¬ 1 < p) → (∃ S T a l k' f' e' Q, (c_rd m).1 rd s = some (.inl (a, S)) ∧ wh sdF (t, Int32.ofNat d, 1, 1, 1) = wh sdF (T, Int32.ofNat d, f', 0, 1) ∧ PsI S T rd rl x k' d n0 e' (P ++ Q) ∧ e' ++ flu Q = e ++ l ∧ (∀ q ∈ Q, 1 < q) ∧ Q.length ≤ 2 ∧ opN (tkK (tkW x k')) = 0 ∧ PsG rd n0 s t S T a l k k') ∨ PsX rd n0 s t k ((c_rd m).1 rd s) (wh sdF (t, Int32.ofNat d, 1, 1, 1))
theorem PsX_le {s1 : CS} {t1 : TS} {k1 : Nat} {o : Option (Sum (Nat × CS) (Nat × CS))} {w : Option TS} (h : PsX rd n0 s1 t1 k1 o w) (hk : k ≤ k1) (J : JX rd s s1 (4 * (k1 - k))) (F : SdF n0 t t1) : PsX rd n0 s t k o w := by
  obtain ⟨S, ex, T, k', e', P', h1, h2, h3, h4, h5, h6, h7, h8, h9⟩ := h
  exact ⟨S, ex, T, k', e', P', h1, h2, h3, SdF_tr F h4, h5, h6, by omega, h8, JX_tr J h9 (by omega)⟩
theorem RdC_nl (R : RdC s rd rl x k dp) (z : tkK (tkW x k) ≠ 0) : tkW x k ≠ [] := fun w => z (by rw [w]; rfl)
theorem JX_n {a n q : Nat} {c : lCell} (h : JX a s S n) (hq : s.2.1 ≤ q) (hl : q < S.2.1) : JX a s (cup S q c) n := by
  obtain ⟨a1, a2, a3, a4, a5⟩ := h
  exact ⟨wf_cup a1 hl, a2, fun p hp hn => (cup_ne (by omega)).trans (a3 p hp hn), a4, a5⟩
/-- a factor -/
theorem fac_step {m : Nat} (IH : SidS rd rl x n0 m) : FacS rd rl x n0 (m + 1) := by
  intro s t e P k d f I hP hd hm hf
  obtain ⟨R, Q, K, B⟩ := I
  have k12 := k121 R
  obtain ⟨y, ey⟩ := tkW_y R
  have ok : tkO (tkC y) = true := by rw [← ey]; exact R.2.2.2.2.1
  have hw := R.1
  obtain ⟨kl, k0, kk1, kk2⟩ := kd_lt ok
  have k40 := kd_1 ok (c := 40) (by decide)
  have k45 := kd_1 ok (c := 45) (by decide)
  rw [← ey] at kl k0 kk1 kk2 k40 k45
  obtain ⟨KK, hKK⟩ : ∃ KK, KK = tkK (tkW x k) := ⟨_, rfl⟩
  have q231 : t.1 231 = 0 := Q.2.2.2.2.2.2
  have q228 : t.1 228 = Int32.ofNat KK := by rw [hKK]; exact Q.2.2.2.1
  have q226 : t.1 226 = Int32.ofNat (tkS x k).1 := Q.2.1
  have q229 : t.2.1 229 = tkV (tkW x k) := Q.2.2.2.2.1
  rw [← hKK] at kl k0 kk1 kk2 k40 k45
  have nf45 : ¬ (f ≠ 0 ∧ KK = 45) := fun w => hf ⟨w.1, k45.mp w.2⟩
  obtain ⟨fs0, hrd⟩ := RdC_rd R
  unfold c_rd
  dsimp only
  rw [if_pos (RdC_68 R), c_isNu R, Option.bind_some, ← hKK]
  by_cases z1 : KK = 1
  · rw [if_pos z1, if_neg (by decide), Option.bind_some]
    have v1 : VOk s (nw s 71 [.int 0]).2 1 := VOk_nw (j := 1) (k := 1) hw _ (by omega) (by omega)
    have R1 := RdC_v R v1
    have hq : (nw s 71 [.int 0]).2.1 s.2.1 = some (true, false, 71, [.int 0]) := nwc_eq ..
    obtain ⟨S1, hS1⟩ : ∃ S1, S1 = (nw s 71 [.int 0]).2 := ⟨_, rfl⟩
    have hq1 : (nw s 71 [.int 0]).1 = s.2.1 := rfl
    rw [hq1, ← hS1]
    rw [← hS1] at v1 R1 hq
    rw [if_pos (RdC_68 R1), c_numb R1, ← hKK, if_pos z1]
    obtain ⟨U1, eU, KU, FU⟩ := t_emit K (by omega) 0 (tkV (tkW x k))
    have QU := RdT_rw Q FU
    have stp := sd_val q231 q228 kl (Int32.ofNat d) f nf45 (by omega)
    rw [if_pos z1, q229, eU, Option.bind_some, show U1.1 228 = Int32.ofNat KK from (FU.1 228 (by decide) (by decide)).trans q228, if_pos (show Int32.ofNat KK = 1 by rw [z1]; rfl), Option.bind_some] at stp
    have JS1 : JX rd s S1 1 := JX_of hw v1
    rcases rd_step R1 QU (RdC_nl R (by rw [← hKK]; omega)) with ⟨S2, T2, eC, eT, R2, Q2, J2, F2⟩ | ⟨S2, ex, T2, eC, eT, b2, J2, F2⟩
    · left
      rw [eT, Option.bind_some] at stp
      have hq2 : S2.1 s.2.1 = some (true, false, 71, [.int 0]) := by
        obtain ⟨fs1, hrd1⟩ := RdC_rd R1
        exact JX_ne J2 v1.1 hrd1 (by show 71 ≠ 68; decide) hq
      rw [eC, Option.bind_some, Sum.elim_inl, Option.bind_some, Sum.elim_inl, if_pos (isK_t hq2 rfl)]
      unfold c_949
      rw [if_pos (isK_t hq2 rfl), xP_c hq2 rfl (by show 0 < 1; decide) (show List.set _ 0 _ = [.int (Int32.ofNat (vN (tkW x k)))] from rfl), Option.bind_some, Option.bind_some]
      have R3 := RdC_c (c' := (true, false, 71, [.int (Int32.ofNat (vN (tkW x k)))])) R2 hq2 (by decide)
      refine ⟨_, T2, s.2.1, [(0, tkV (tkW x k))], k + 1, f, rfl, wh_inl stp, ⟨R3, Q2, StK_f KU F2, ?_⟩, by omega, ?_, ?_, ?_, SdF_tr (SdF_rw FU) (SdF_st F2)⟩
      · rw [List.length_append]; show n0 + (e.length + 1) + P.length + 2 ≤ 2 * (k + 1); omega
      · rw [show k + 1 - k = 0 + 1 by omega]
        unfold PT
        refine Or.inl ⟨Int32.ofNat (vN (tkW x k)), noN_in (noK_in (cup_eq ..) rfl) ⟨rfl, wf_lt hw hrd⟩, ?_⟩
        rw [tkV_1 R (by rw [← hKK]; exact z1)]
      · show 1 + 1 ≤ 2 * (k + 1 - k); omega
      · exact JX_le (JX_n (JX_tr JS1 J2 (Nat.le_refl _)) (Nat.le_refl _) (wf_lt R2.1 hq2)) (by omega)
    · right
      rw [eT, Option.bind_some] at stp
      rw [eC, Option.bind_some, Sum.elim_inr, Option.bind_some, Sum.elim_inr]
      have := k121 R
      exact ⟨S2, ex, T2, k, _, _, rfl, (wh_inl stp).trans (wh_inr (sd_out _ _ _ b2.1)), b2, SdF_tr (SdF_rw FU) (SdF_st F2), StK_f KU F2, by rw [List.length_append]; show n0 + (e.length + 1) + 2 * P.length ≤ 285; omega, Nat.le_refl _, this, JX_tr JS1 J2 (by omega)⟩
  rw [if_neg z1, if_pos rfl, if_pos (RdC_68 R), c_isNm R, Option.bind_some, ← hKK]
  by_cases z2 : KK = 2
  · rw [if_pos z2, if_neg (by decide), Option.bind_some]
    have v1 : VOk s (nw s 72 [.null]).2 1 := VOk_nw (j := 1) (k := 1) hw _ (by omega) (by omega)
    have R1 := RdC_v R v1
    have hq : (nw s 72 [.null]).2.1 s.2.1 = some (true, false, 72, [.null]) := nwc_eq ..
    obtain ⟨S1, hS1⟩ : ∃ S1, S1 = (nw s 72 [.null]).2 := ⟨_, rfl⟩
    have hq1 : (nw s 72 [.null]).1 = s.2.1 := rfl
    rw [hq1, ← hS1]
    rw [← hS1] at v1 R1 hq
    obtain ⟨b, fl, nn, hb1, hb2, _, hb3⟩ := R1.2.2.2.2.2
    rw [xN_o hb1 rfl rfl, Option.bind_some, if_pos (isK_t hq rfl)]
    unfold c_951
    rw [if_pos (isK_t hq rfl), xP_c hq rfl (by show 0 < 1; decide) (show List.set _ 0 _ = [.ref b] from rfl), Option.bind_some, Option.bind_some]
    have R2 := RdC_c (c' := (true, false, 72, [.ref b])) R1 hq (by decide)
    have JS1 : JX rd s S1 1 := JX_of hw v1
    have JS2 : JX rd s (cup S1 s.2.1 (true, false, 72, [.ref b])) 1 := JX_n JS1 (Nat.le_refl _) (wf_lt R1.1 hq)
    have hqb : (cup S1 s.2.1 (true, false, 72, [.ref b])).1 s.2.1 = some (true, false, 72, [.ref b]) := cup_eq ..
    have hbb : (cup S1 s.2.1 (true, false, 72, [.ref b])).1 b = some (fl, false, 1000, txV (tkW x k)) := by
      refine (cup_ne (fun w => ?_)).trans hb2
      rw [w, hq] at hb2
      simp at hb2
    rw [if_pos (RdC_68 R2)]
    obtain ⟨U1, eU, KU, FU⟩ := t_emit K (by omega) 1 (tkV (tkW x k))
    have QU := RdT_rw Q FU
    have stp := sd_val q231 q228 kl (Int32.ofNat d) f nf45 (by omega)
    rw [if_neg z1, q229, eU, Option.bind_some, show U1.1 228 = Int32.ofNat KK from (FU.1 228 (by decide) (by decide)).trans q228, if_neg (show ¬ Int32.ofNat KK = 1 by rw [z2]; decide), if_pos (show Int32.ofNat KK = 2 by rw [z2]; rfl), Option.bind_some] at stp
    rcases rd_step R2 QU (RdC_nl R (by rw [← hKK]; omega)) with ⟨S2, T2, eC, eT, R3, Q2, J2, F2⟩ | ⟨S2, ex, T2, eC, eT, b2, J2, F2⟩
    · left
      rw [eT, Option.bind_some] at stp
      obtain ⟨fs1, hrd1⟩ := RdC_rd R2
      have hq2 : S2.1 s.2.1 = some (true, false, 72, [.ref b]) := JX_ne J2 R2.1 hrd1 (by show 72 ≠ 68; decide) hqb
      have hb3' : S2.1 b = some (fl, false, 1000, txV (tkW x k)) := JX_ne J2 R2.1 hrd1 (by show 1000 ≠ 68; decide) hbb
      rw [eC, Option.bind_some, Sum.elim_inl]
      obtain ⟨n8a, n8b⟩ := tkV_2 R (by rw [← hKK]; exact z2)
      refine ⟨_, T2, s.2.1, [(1, tkV (tkW x k))], k + 1, f, rfl, wh_inl stp, ⟨R3, Q2, StK_f KU F2, ?_⟩, by omega, ?_, ?_, ?_, SdF_tr (SdF_rw FU) (SdF_st F2)⟩
      · rw [List.length_append]; show n0 + (e.length + 1) + P.length + 2 ≤ 2 * (k + 1); omega
      · rw [show k + 1 - k = 0 + 1 by omega]
        unfold PT
        refine Or.inr (Or.inl ⟨b, fl, tkW x k, noN_in (noK_in hq2 rfl) ⟨rfl, wf_lt hw hrd⟩, noN_in (noK_in hb3' rfl) ⟨?_, (hb3 (RdC_nl R (by rw [← hKK]; omega))).1⟩, by omega, ?_⟩)
        · show (txV (tkW x k)).any isNl = false
          unfold txV
          rw [List.any_map]
          exact List.any_eq_false.mpr (fun c _ => by show ¬ isNl (.int (Int32.ofNat c)) = true; exact Bool.false_ne_true)
        · rw [n8a]
      · show 1 + 1 ≤ 2 * (k + 1 - k); omega
      · exact JX_le (JX_tr JS2 J2 (Nat.le_refl _)) (by omega)
    · right
      rw [eT, Option.bind_some] at stp
      rw [eC, Option.bind_some, Sum.elim_inr]
      have := k121 R
      exact ⟨S2, ex, T2, k, _, _, rfl, (wh_inl stp).trans (wh_inr (sd_out _ _ _ b2.1)), b2, SdF_tr (SdF_rw FU) (SdF_st F2), StK_f KU F2, by rw [List.length_append]; show n0 + (e.length + 1) + 2 * P.length ≤ 285; omega, Nat.le_refl _, this, JX_tr JS2 J2 (by omega)⟩
  rw [if_neg z2, if_pos rfl, if_pos (RdC_68 R), c_isT R (v := 78) (ys := [40]) (by decide), Option.bind_some]
  obtain ⟨⟨s8, es8, R8, J8⟩, edp⟩ := RdC_dp R (Int32.ofNat d + 1)
  by_cases z40 : tkW x k = [40]
  rotate_left
  · -- no factor at all
    right
    rw [if_neg z40, if_pos rfl, Option.bind_some, if_pos (RdC_68 R), rd_bad R, if_pos rfl, Option.bind_some, Sum.elim_inr]
    obtain ⟨U1, eU, KU, FU⟩ := t_emit K (by omega) 1 (tkV (tkW x k))
    have stp := sd_val q231 q228 kl (Int32.ofNat d) f nf45 (fun w => z40 (k40.mp w))
    rw [if_neg z1, q229, eU, Option.bind_some, show U1.1 228 = Int32.ofNat KK from (FU.1 228 (by decide) (by decide)).trans q228, if_neg (show ¬ Int32.ofNat KK = 1 from fun w => z1 ((i_inj (j := KK) (k := 1) (by omega) (by decide)).mp w)), if_neg (show ¬ Int32.ofNat KK = 2 from fun w => z2 ((i_inj (j := KK) (k := 2) (by omega) (by decide)).mp w)), Option.bind_some, t_take0 ((FU.1 231 (by decide) (by decide)).trans q231), Option.bind_some] at stp
    have u226 : (ptI U1 231 1).1 226 = Int32.ofNat (tkS x k).1 := (FU.1 226 (by decide) (by decide)).trans q226
    obtain ⟨bb, JB⟩ := rd_badR R u226 rfl
    exact ⟨_, _, _, k, _, _, rfl, (wh_inl stp).trans (wh_inr (sd_out _ _ _ rfl)), bb, SdF_tr (SdF_rw FU) (SdF_231 1), StK_eq KU rfl rfl rfl, by rw [List.length_append]; show n0 + (e.length + 1) + 2 * P.length ≤ 285; omega, Nat.le_refl _, k121 R, JX_le JB (by omega)⟩
  rw [if_pos z40, if_neg (by decide), edp, Option.bind_some]
  have KK40 : KK = 40 := k40.mpr z40
  by_cases d8 : d < 8
  rotate_left
  · -- too deep
    right
    have de : d = 8 := by omega
    rw [if_neg (show ¬ Int32.ofNat d < 8 by rw [de]; decide), Option.bind_some, if_pos (RdC_68 R), rd_bad R, if_pos rfl, Option.bind_some, Sum.elim_inr]
    have stp := sd_open q231 q228 kl (Int32.ofNat d) f nf45 KK40 (v := 1) (if_pos (by rw [de]; rfl))
    have K1 : StK (ptI t 231 1) n0 e P := StK_eq K rfl rfl rfl
    obtain ⟨U1, eU, KU, FU⟩ := t_pile (fun s9 => Option.bind (t_741 1 s9) (fun x10 => (some (.inl (x10, Int32.ofNat d + 1, 1, 1, 1)) : Option (Sum (TS × Int32 × Int32 × Int32 × Int32) TS)))) K1 (by omega) 1
    have u231 : U1.1 231 = 1 := FU.1 231 (by decide) (by decide)
    rw [eU, t_takeW 1 u231, Option.bind_some] at stp
    have u226 : (ptI U1 231 1).1 226 = Int32.ofNat (tkS x k).1 := (FU.1 226 (by decide) (by decide)).trans q226
    obtain ⟨bb, JB⟩ := rd_badR R u226 rfl
    exact ⟨_, _, _, k, _, _, rfl, (wh_inl stp).trans (wh_inr (sd_out _ _ _ rfl)), bb, SdF_tr (SdF_tr (SdF_231 1) (SdF_rw FU)) (SdF_231 1), StK_eq KU rfl rfl rfl, by rw [List.length_append]; show n0 + e.length + 2 * (P.length + 1) ≤ 285; omega, Nat.le_refl _, k121 R, JX_le JB (by omega)⟩
  rw [if_pos (show Int32.ofNat d < 8 from (i_lt (k := 8) (by omega) (by decide)).mpr d8), Option.bind_some, if_pos (RdC_68 R), rd_bad R, if_neg (by decide), Option.bind_some, Sum.elim_inl, edp, Option.bind_some, es8, if_pos (RdC_68 R8)]
  rw [i_suc] at R8
  have stp := sd_open q231 q228 kl (Int32.ofNat d) f nf45 KK40 (v := 0) (if_neg (show ¬ Int32.ofNat d = 8 from fun w => by have := (i_inj (j := d) (k := 8) (by omega) (by decide)).mp w; omega))
  rw [show ptI t 231 0 = t from pt_id q231] at stp
  obtain ⟨U1, eU, KU, FU⟩ := t_pile (fun s9 => Option.bind (t_741 1 s9) (fun x10 => (some (.inl (x10, Int32.ofNat d + 1, 1, 1, 1)) : Option (Sum (TS × Int32 × Int32 × Int32 × Int32) TS)))) K (by omega) 1
  rw [eU] at stp
  have QU := RdT_rw Q FU
  rcases rd_step R8 QU (by rw [z40]; simp) with ⟨S9, T9, eC, eT, R9, Q9, J9, F9⟩ | ⟨S9, ex, T9, eC, eT, b9, J9, F9⟩
  rotate_left
  · right
    rw [eT, Option.bind_some] at stp
    rw [eC, Option.bind_some, Sum.elim_inr]
    exact ⟨S9, ex, T9, k, _, _, rfl, (wh_inl stp).trans (wh_inr (sd_out _ _ _ b9.1)), b9, SdF_tr (SdF_rw FU) (SdF_st F9), StK_f KU F9, by rw [List.length_append]; show n0 + e.length + 2 * (P.length + 1) ≤ 285; omega, Nat.le_refl _, k121 R, JX_tr J8 J9 (by omega)⟩
  rw [eT, Option.bind_some, i_suc] at stp
  rw [eC, Option.bind_some, Sum.elim_inl, if_pos (RdC_68 R9)]
  have J09 : JX rd s S9 2 := JX_tr J8 J9 (by omega)
  have F09 : SdF n0 t T9 := SdF_tr (SdF_rw FU) (SdF_st F9)
  have I9 : PsI S9 T9 rd rl x (k + 1) (d + 1) n0 e (P ++ [1]) := ⟨R9, Q9, StK_f KU F9, by rw [List.length_append, List.length_singleton]; omega⟩
  rcases IH I9 (by rw [List.length_append, List.length_singleton]; omega) (by omega) (by omega) (Or.inr ⟨P, 1, rfl, by decide⟩) with ⟨S, T, a, l, k', f', e', QQ, c1, c2, I', c3, c4, c6, c5, g1, g2, g3, g4, g5⟩ | bad
  rotate_left
  · right
    obtain ⟨S', ex, T', k2, e2, P2, b1, b2, b3, b4, b5, b6, b7, b8, b9⟩ := bad
    rw [b1, Option.bind_some, Sum.elim_inr]
    exact ⟨S', ex, T', k2, e2, P2, rfl, (wh_inl stp).trans b2, b3, SdF_tr F09 b4, b5, b6, by omega, b8, JX_tr J09 b9 (by omega)⟩
  obtain ⟨R', Q', K', B'⟩ := I'
  have k12' := k121 R'
  obtain ⟨y', ey'⟩ := tkW_y R'
  have ok' : tkO (tkC y') = true := by rw [← ey']; exact R'.2.2.2.2.1
  have k41 := kd_1 ok' (c := 41) (by decide)
  obtain ⟨kl', _⟩ := kd_lt ok'
  rw [← ey'] at k41 kl'
  have r231 : T.1 231 = 0 := Q'.2.2.2.2.2.2
  have r228 : T.1 228 = Int32.ofNat (tkK (tkW x k')) := Q'.2.2.2.1
  have r226 : T.1 226 = Int32.ofNat (tkS x k').1 := Q'.2.1
  rw [c1, Option.bind_some, Sum.elim_inl, if_pos (RdC_68 R'), c_isT R' (v := 79) (ys := [41]) (by decide), Option.bind_some, if_pos (RdC_68 R'), rd_bad R']
  have J0 : JX rd s S (2 + 4 * (k' - (k + 1))) := JX_tr J09 g4 (Nat.le_refl _)
  have F0 : SdF n0 t T := SdF_tr F09 g5
  have d0 : (0 : Int32) < Int32.ofNat (d + 1) := (i_lt (j := 0) (by decide) (by omega)).mpr (by omega)
  have PL : (P ++ [1] ++ QQ).length = P.length + 1 + QQ.length := by rw [List.length_append, List.length_append, List.length_singleton]
  by_cases z41 : tkW x k' = [41]
  rotate_left
  · right
    rw [if_neg z41, if_pos rfl, Option.bind_some, Sum.elim_inr]
    have stp2 := sd_end r231 r228 kl' (Int32.ofNat (d + 1)) f' c5 (fun w => z41 (k41.mp w.1))
    rw [if_pos d0] at stp2
    obtain ⟨bb, JB⟩ := rd_badR (T := ptI T 231 1) R' r226 rfl
    exact ⟨_, _, _, k', _, _, rfl, (wh_inl stp).trans (c2.trans ((wh_inl stp2).trans (wh_inr (sd_out0 _ _ _)))), bb, SdF_tr F0 (SdF_231 1), StK_eq K' rfl rfl rfl, by omega, by omega, k12', JX_tr J0 JB (by omega)⟩
  rw [if_pos z41, if_neg (by decide), Option.bind_some, Sum.elim_inl]
  obtain ⟨⟨s7, es7, R7, J7⟩, edp'⟩ := RdC_dp R' (Int32.ofNat (d + 1) - 1)
  rw [edp', Option.bind_some, es7, if_pos (RdC_68 R7)]
  have dd : Int32.ofNat (d + 1) - 1 = Int32.ofNat d := i_sub (j := d + 1) (k := 1) (by omega)
  rw [dd] at R7
  have stp2 := sd_close r231 r228 kl' (Int32.ofNat (d + 1)) f' c5 (k41.mpr z41) d0
  obtain ⟨U2, eU2, KU2, FU2⟩ := t_unp (b := 1) (P0 := P ++ [1]) (Q := QQ) K' (by omega) (by omega) (fun q hq => ⟨c4 q hq, Or.inr (by decide)⟩) (Or.inr ⟨P, 1, rfl, Or.inl (by decide)⟩)
  rw [c3] at KU2
  have K3 : StK (ptI U2 236 (U2.1 236 - 1)) n0 (e ++ l) P := by
    obtain ⟨h1, h2, h3, h4⟩ := KU2
    refine ⟨h1, h2, ?_, fun j hj => ?_⟩
    · show U2.1 236 - 1 = _
      rw [h3, List.length_append]
      exact i_sub (j := P.length + 1) (k := 1) (by omega)
    · have := h4 j (by rw [List.length_append]; omega)
      rw [List.getElem_append_left hj] at this
      exact this
  have F3 : RwF n0 T (ptI U2 236 (U2.1 236 - 1)) := RwF_tr FU2 ⟨fun c a b => if_neg b, rfl, fun _ _ => Or.inr rfl, fun _ _ => Or.inr rfl⟩
  have Q3 := RdT_rw Q' F3
  rw [eU2, Option.bind_some, Option.bind_some] at stp2
  have F03 : SdF n0 t (ptI U2 236 (U2.1 236 - 1)) := SdF_tr F0 (SdF_rw F3)
  have J07 : JX rd s s7 (2 + 4 * (k' - (k + 1))) := JX_tr J0 J7 (by omega)
  rcases rd_step R7 Q3 (by rw [z41]; simp) with ⟨S5, T5, eC5, eT5, R5, Q5, J5, F5⟩ | ⟨S5, ex, T5, eC5, eT5, b5, J5, F5⟩
  · left
    rw [eT5, Option.bind_some, dd] at stp2
    rw [eC5, Option.bind_some, Sum.elim_inl]
    obtain ⟨fs7, hrd7⟩ := RdC_rd R7
    obtain ⟨fsS, hrdS⟩ := RdC_rd R'
    refine ⟨S5, T5, a, l, k' + 1, f', rfl, (wh_inl stp).trans (c2.trans (wh_inl stp2)), ⟨R5, Q5, StK_f K3 F5, ?_⟩, by omega, ?_, by omega, JX_tr J07 J5 (by omega), SdF_tr F03 (SdF_st F5)⟩
    · rw [List.length_append]; omega
    · refine PT_le (PT_up (fun p c h => ?_) g2) (by omega)
      exact noN_jx R7.1 hrd7 J5 p c (noN_jx R'.1 hrdS J7 p c h)
  · right
    rw [eT5, Option.bind_some] at stp2
    rw [eC5, Option.bind_some, Sum.elim_inr]
    exact ⟨S5, ex, T5, k', _, _, rfl, (wh_inl stp).trans (c2.trans ((wh_inl stp2).trans (wh_inr (sd_out _ _ _ b5.1)))), b5, SdF_tr F03 (SdF_st F5), StK_f K3 F5, by rw [List.length_append]; omega, by omega, k12', JX_tr J07 J5 (by omega)⟩
end
