/-! permits: a whole side, both readers -/
section
variable {s S : CS} {t T U : TS} {x : List Nat} {rd rl k k' d n0 : Nat} {e : List (Int32 × Int64)} {P : List Int32} {dp : Int32}
theorem pl_split : ∀ (n : Nat) (P : List Int32), P.length = n → ∃ P0 Q, P = P0 ++ Q ∧ (∀ q ∈ Q, 1 < q) ∧ (P0 = [] ∨ ∃ P1 p, P0 = P1 ++ [p] ∧ ¬ 1 < p) := by
  intro n
  induction n with
  | zero => intro P h; exact ⟨[], [], by rw [List.length_eq_zero_iff.mp h]; rfl, fun q hq => absurd hq List.not_mem_nil, Or.inl rfl⟩
  | succ n ih =>
    intro P h
    obtain ⟨P', p, rfl⟩ : ∃ P' p, P = P' ++ [p] := ⟨P.dropLast, P.getLast (by intro z; rw [z] at h; simp at h), (List.dropLast_concat_getLast _).symm⟩
    by_cases z : 1 < p
    · obtain ⟨P0, Q, e, h1, h2⟩ := ih P' (by rw [List.length_append, List.length_singleton] at h; omega)
      refine ⟨P0, Q ++ [p], by rw [e, List.append_assoc], fun q hq => ?_, h2⟩
      rcases List.mem_append.mp hq with w | w
      · exact h1 q w
      · rw [List.mem_singleton.mp w]; exact z
    · exact ⟨P' ++ [p], [], by rw [List.append_nil], fun q hq => absurd hq List.not_mem_nil, Or.inr ⟨P', p, rfl, z⟩⟩
/-- a wrong word amid a side, a clause or a rule -/
def RdX (rd : Nat) (s : CS) (k : Nat) (S : CS) (ex : Nat) (T : TS) : Prop := BadR S ex T ∧ ∃ k', k ≤ k' ∧ k' ≤ 121 ∧ JX rd s S (4 * (k' - k) + 8)
theorem rd_side (R : RdC s rd rl x k (Int32.ofNat 0)) (Q : RdT t x k) (h234 : t.1 234 = Int32.ofNat n0) (B : n0 + 2 ≤ 2 * k) : (∃ S T a l k', (c_rd 200).1 rd s = some (.inl (a, S)) ∧ t_743 t = some T ∧ RdC S rd rl x k' (Int32.ofNat 0) ∧ RdT T x k' ∧ T.1 234 = Int32.ofNat (n0 + l.length) ∧ (∀ j (h : j < l.length), T.2.2.1 87 (400 + n0 + j) = l[j].1 ∧ T.2.2.2 88 (400 + n0 + j) = l[j].2) ∧ n0 + l.length + 2 ≤ 2 * k' ∧ PsG rd n0 s t S T a l k k') ∨ ∃ S ex T, (c_rd 200).1 rd s = some (.inr (ex, S)) ∧ t_743 t = some T ∧ SdF n0 t T ∧ RdX rd s k S ex T := by
  have F0 : RwF n0 t (ptI t 236 0) := ⟨fun c a b => if_neg b, rfl, fun _ _ => Or.inr rfl, fun _ _ => Or.inr rfl⟩
  have Q0 := RdT_rw Q F0
  have K0 : StK (ptI t 236 0) n0 [] [] := ⟨h234, fun j hj => absurd hj (Nat.not_lt_zero _), rfl, fun j hj => absurd hj (Nat.not_lt_zero _)⟩
  rw [t_743_eq, Option.bind_some]
  rcases (rd_all rd rl x n0 200).2.2 (s := s) (t := ptI t 236 0) (e := []) (P := []) (k := k) (d := 0) ⟨R, Q0, K0, by show n0 + 0 + 0 + 2 ≤ 2 * k; omega⟩ (Nat.le_refl _) (by omega) (by omega) (Or.inl rfl) with ⟨S, T, a, l, k', f', e', QQ, c1, c2, I', c3, c4, c6, c5, g1, g2, g3, g4, g5⟩ | ⟨S, ex, T, k', e', P', b1, b2, b3, b4, b5, b6, b7, b8, b9⟩
  · left
    obtain ⟨R', Q', K', B'⟩ := I'
    rw [List.nil_append] at K' B' c3
    have k12 := k121 R'
    obtain ⟨y, ey⟩ := tkW_y R'
    have ok : tkO (tkC y) = true := by rw [← ey]; exact R'.2.2.2.2.1
    have kl := (kd_lt ok).1
    rw [← ey] at kl
    have r231 : T.1 231 = 0 := Q'.2.2.2.2.2.2
    have stp := sd_end r231 Q'.2.2.2.1 kl (Int32.ofNat 0) f' c5 (fun w => absurd w.2 (by decide))
    rw [if_neg (show ¬ (0 : Int32) < Int32.ofNat 0 by decide), show ptI T 231 0 = T from pt_id r231] at stp
    have w1 : wh sdF (ptI t 236 0, 0, 1, 1, 1) = some T := c2.trans ((wh_inl stp).trans (wh_inr (sd_out0 _ _ _)))
    obtain ⟨U, eU, KU, FU⟩ := t_unp (b := 1) (P0 := []) (Q := QQ) K' (by show n0 + e'.length + QQ.length < 290; omega) (by show QQ.length < 200; omega) (fun q hq => ⟨c4 q hq, Or.inr (by decide)⟩) (Or.inl rfl)
    rw [c3] at KU
    refine ⟨S, U, a, l, k', c1, ?_, R', RdT_rw Q' FU, KU.1, KU.2.1, ?_, g1, g2, g3, g4, SdF_tr (SdF_tr (SdF_rw F0) g5) (SdF_rw FU)⟩
    · rw [w1, Option.bind_some, eU, Option.bind_some]
    · have := congrArg List.length c3
      unfold flu at this
      rw [List.length_append, List.length_map, List.length_reverse] at this
      omega
  · right
    obtain ⟨P0, QQ, rfl, h1, h2⟩ := pl_split _ P' rfl
    obtain ⟨U, eU, KU, FU⟩ := t_unp (b := 1) (P0 := P0) (Q := QQ) b5 (by omega) (by omega) (fun q hq => ⟨h1 q hq, Or.inr (by decide)⟩) (h2.imp id (fun ⟨P1, p, u, v⟩ => ⟨P1, p, u, Or.inl v⟩))
    refine ⟨S, ex, U, b1, ?_, SdF_tr (SdF_tr (SdF_rw F0) b4) (SdF_rw FU), ⟨?_, ?_⟩, k', b7, b8, b9⟩
    · have w1 : wh sdF (ptI t 236 0, 0, 1, 1, 1) = some T := b2
      rw [w1, Option.bind_some, eU, Option.bind_some]
    · exact (FU.1 231 (by decide) (by decide)).trans b3.1
    · rw [FU.1 226 (by decide) (by decide)]; exact b3.2
/-- a clause's sign -/
def relN (K : Nat) : Option Nat := if K = 60 then some 0 else if K = 316 then some 1 else if K = 61 then some 2 else if K = 318 then some 3 else if K = 62 then some 4 else none
theorem t_747g {K : Nat} (hK : K < 1000) : t_747 (Int32.ofNat K) T = some ((relN K).elim (-1) Int32.ofNat) := by
  unfold t_747 relN
  have a : Int32.ofNat K = 60 ↔ K = 60 := i_inj (j := K) (k := 60) (by omega) (by decide)
  have b : Int32.ofNat K = 316 ↔ K = 316 := i_inj (j := K) (k := 316) (by omega) (by decide)
  have c : Int32.ofNat K = 61 ↔ K = 61 := i_inj (j := K) (k := 61) (by omega) (by decide)
  have d : Int32.ofNat K = 318 ↔ K = 318 := i_inj (j := K) (k := 318) (by omega) (by decide)
  have e : Int32.ofNat K = 62 ↔ K = 62 := i_inj (j := K) (k := 62) (by omega) (by decide)
  by_cases h1 : K = 60
  · rw [if_pos (a.mpr h1), if_pos h1]; rfl
  · by_cases h2 : K = 316
    · rw [if_neg (fun w => h1 (a.mp w)), if_pos (b.mpr h2), if_neg h1, if_pos h2]; rfl
    · by_cases h3 : K = 61
      · rw [if_neg (fun w => h1 (a.mp w)), if_neg (fun w => h2 (b.mp w)), if_pos (c.mpr h3), if_neg h1, if_neg h2, if_pos h3]; rfl
      · by_cases h4 : K = 318
        · rw [if_neg (fun w => h1 (a.mp w)), if_neg (fun w => h2 (b.mp w)), if_neg (fun w => h3 (c.mp w)), if_pos (d.mpr h4), if_neg h1, if_neg h2, if_neg h3, if_pos h4]; rfl
        · by_cases h5 : K = 62
          · rw [if_neg (fun w => h1 (a.mp w)), if_neg (fun w => h2 (b.mp w)), if_neg (fun w => h3 (c.mp w)), if_neg (fun w => h4 (d.mp w)), if_pos (e.mpr h5), if_neg h1, if_neg h2, if_neg h3, if_neg h4, if_pos h5]; rfl
          · rw [if_neg (fun w => h1 (a.mp w)), if_neg (fun w => h2 (b.mp w)), if_neg (fun w => h3 (c.mp w)), if_neg (fun w => h4 (d.mp w)), if_neg (fun w => h5 (e.mp w)), if_neg h1, if_neg h2, if_neg h3, if_neg h4, if_neg h5]; rfl
theorem rel_w {y : List Nat} (h : tkO (tkC y) = true) : (∀ g, relN (tkK (tkC y)) = some g → g < 5 ∧ tkC y = sgL g) ∧ (relN (tkK (tkC y)) = none → tkC y ≠ [60] ∧ tkC y ≠ [60, 61] ∧ tkC y ≠ [61] ∧ tkC y ≠ [62, 61] ∧ tkC y ≠ [62]) := by
  have a := kd_1 h (c := 60) (by decide)
  have b := kd_2 h (c := 60) (Or.inl rfl)
  have c := kd_1 h (c := 61) (by decide)
  have d := kd_2 h (c := 62) (Or.inr rfl)
  have e := kd_1 h (c := 62) (by decide)
  unfold relN
  by_cases h1 : tkK (tkC y) = 60
  · rw [if_pos h1]; exact ⟨fun g z => by rw [← Option.some.inj z]; exact ⟨by decide, a.mp h1⟩, fun z => by cases z⟩
  · by_cases h2 : tkK (tkC y) = 316
    · rw [if_neg h1, if_pos h2]; exact ⟨fun g z => by rw [← Option.some.inj z]; exact ⟨by decide, b.mp h2⟩, fun z => by cases z⟩
    · by_cases h3 : tkK (tkC y) = 61
      · rw [if_neg h1, if_neg h2, if_pos h3]; exact ⟨fun g z => by rw [← Option.some.inj z]; exact ⟨by decide, c.mp h3⟩, fun z => by cases z⟩
      · by_cases h4 : tkK (tkC y) = 318
        · rw [if_neg h1, if_neg h2, if_neg h3, if_pos h4]; exact ⟨fun g z => by rw [← Option.some.inj z]; exact ⟨by decide, d.mp h4⟩, fun z => by cases z⟩
        · by_cases h5 : tkK (tkC y) = 62
          · rw [if_neg h1, if_neg h2, if_neg h3, if_neg h4, if_pos h5]; exact ⟨fun g z => by rw [← Option.some.inj z]; exact ⟨by decide, e.mp h5⟩, fun z => by cases z⟩
          · rw [if_neg h1, if_neg h2, if_neg h3, if_neg h4, if_neg h5]
            exact ⟨(fun g z => by cases z), fun _ => ⟨fun w => h1 (a.mpr w), fun w => h2 (b.mpr w), fun w => h3 (c.mpr w), fun w => h4 (d.mpr w), fun w => h5 (e.mpr w)⟩⟩
end
