/-! permits: a rule, both readers -/
section
variable {s S : CS} {t T U V : TS} {x : List Nat} {rd rl k k' n0 nc nr r ex q0 : Nat} {dp mc : Int32} {F : List ClD}
theorem c_936_eq (rd : Nat) (s : CS) : c_936 rd s =
  (if isK s [68] rd = true then Option.bind (α := Int32) (c_937 rd s) (fun x1 => Option.bind (α := Int32) ((if x1 = 0 then some 0 else Option.bind (α := Nat) (xN s [(68, 1)] rd) (fun a2 => (if isK s [13] a2 = true then Option.bind (α := Int32) (alSize s a2) (fun x3 => (if x3 < 12 then some 1 else some 0)) else none)))) (fun v12 => (if isK s [68] rd = true then Option.bind (α := Sum (CS) (Nat × CS)) (c_935 rd v12 s) (Sum.elim (fun x4 => Option.bind (α := Nat) (xN x4 [(68, 1)] rd) (fun a6 => (if isK x4 [13] a6 = true then Option.bind (α := Int32 × CS) (alMc x4 a6) (fun i7 => Option.bind (α := Sum (CS) (Sum (CS) (Nat × CS))) (wh (nmLp a6 i7.1 rd) (i7.2, 0)) (Sum.elim (fun v35 => Option.bind (α := Nat × CS) (some (nw v35 70 [.null, .null, .null, .int 0, .null, .null, .null, .int 0, .null])) (fun n15 => Option.bind (α := Nat) (xN n15.2 [(68, 2)] rd) (fun a16 => (if isK n15.2 [70] n15.1 = true then Option.bind (α := CS) (c_946 n15.1 a16 n15.2) (fun x17 => Option.bind (α := Nat) (xN x17 [(68, 1)] rd) (fun a18 => (if isK x17 [13] a18 = true then Option.bind (α := CS) (alAdd x17 a18 (.ref n15.1)) (fun s19 => (if isK s19 [68] rd = true then Option.bind (α := Sum (CS) (Nat × CS)) (c_931 rd s19) (Sum.elim (fun x20 => (if isK x20 [68] rd = true then Option.bind (α := Int32) (c_938 rd 66 x20) (fun x22 => (if isK x20 [68] rd = true then Option.bind (α := Sum (CS) (Nat × CS)) (c_935 rd x22 x20) (Sum.elim (fun x23 => (if isK x23 [68] rd = true then Option.bind (α := Sum (CS) (Nat × CS)) (c_931 rd x23) (Sum.elim (fun x25 => (if isK x25 [68] rd = true then Option.bind (α := Sum (Nat × CS) (Nat × CS)) (c_939 rd x25) (Sum.elim (fun x27 => Option.bind (α := CS) (xP x27.2 [(70, 1)] n15.1 (.ref x27.1)) (fun s29 => ruC n15.1 rd s29)) (fun q28 => some (.inr (q28.1, q28.2)))) else none)) (fun q26 => some (.inr (q26.1, q26.2)))) else none)) (fun q24 => some (.inr (q24.1, q24.2)))) else none)) else none)) (fun q21 => some (.inr (q21.1, q21.2)))) else none)) else none))) else none)))) (fun z => some z))) else none))) (fun q5 => some (.inr (q5.1, q5.2)))) else none))) else none) := rfl
theorem t_739_eq (s : TS) : t_739 s =
  Option.bind (α := Int32) ((if (s.1 231) = 0 then (if (s.1 228) = 2 then (if (s.1 232) = 12 then some 1 else Option.bind (α := Int32) (t_740 (s.2.1 229) s) (fun x1 => (if x1 = 0 then some 1 else some 0))) else some 1) else some 1)) (fun v20 => (if v20 = 0 ∨ v20 = 1 then Option.bind (α := TS) (some (ptI s 231 v20)) (fun s2 => (if (s2.1 231) = 0 then Option.bind (α := TS) (some (ptI s2 232 ((s2.1 232) + 1))) (fun s3 => Option.bind (α := TS) (stL s3 79 24 (12 + (s2.1 232)) (s3.2.1 229)) (fun s4 => Option.bind (α := TS) (stI s4 80 24 (12 + (s2.1 232)) (s4.1 233)) (fun s5 => Option.bind (α := TS) (stI s5 81 24 (12 + (s2.1 232)) 0) (fun s6 => Option.bind (α := TS) (stI s6 82 24 (12 + (s2.1 232)) 0) (fun s7 => Option.bind (α := TS) (t_741 1 s7) (fun x8 => Option.bind (α := Int32) ((if (x8.1 228) = 58 then some 1 else some 0)) (fun v69 => Option.bind (α := TS) (t_741 v69 x8) (fun x9 => Option.bind (α := TS) ((if (x9.1 231) = 0 then Option.bind (α := TS) (t_742 x9) (fun x10 => some x10) else some x9)) (fun v75 => ruT (12 + (s2.1 232)) v75))))))))) else some s2)) else none)) := rfl
theorem JY_tr2 {A B : Nat → Prop} {V : CS} {n m j : Nat} (h1 : JY A s S n) (h2 : JY B S V m) (hb : ∀ p, p < s.2.1 → B p → A p) (hj : n + m ≤ j) : JY A s V j := by
  obtain ⟨a1, a2, a3, a4, a5⟩ := h1
  obtain ⟨b1, b2, b3, b4, b5⟩ := h2
  exact ⟨b1, by omega, fun p hp hn => (b3 p (by omega) (fun w => hn (hb p hp w))).trans (a3 p hp hn), by omega, by omega⟩
theorem JY_v {A : Nat → Prop} {n : Nat} (v : VOk s S n) : JY A s S n := ⟨v.1, v.2.1, fun p hp _ => v.2.2.1 p hp, v.2.2.2⟩
theorem c_946g {b : Nat} (hw : wfS S) (h : S.1 r = some (true, false, 70, [.null, .null, .null, .int 0, .null, .null, .null, .int 0, .null])) : ∃ S', c_946 r b S = some S' ∧ S'.1 r = some (true, false, 70, [.ref b, .null, .ref S.2.1, .int 0, .null, .null, .null, .int 0, .null]) ∧ S'.1 S.2.1 = some (true, false, 1013, [.int 0]) ∧ S'.2.1 = S.2.1 + 1 ∧ JY (fun p => p = r) S S' 1 := by
  have lr := wf_lt hw h
  have h13 : (nw S 13 [.int 0, .null, .int 0]).2.1 S.2.1 = some (true, false, 13, [.int 0, .null, .int 0]) := nwc_eq ..
  have hr1 : (cup (nw S 13 [.int 0, .null, .int 0]).2 S.2.1 (true, false, 1013, [.int 0])).1 r = some (true, false, 70, [.null, .null, .null, .int 0, .null, .null, .null, .int 0, .null]) := (cup_ne (by omega)).trans ((nwc_ne (by omega)).trans h)
  have W1 : wfS (nw S 13 [.int 0, .null, .int 0]).2 := wf_nwc hw
  have W2 : wfS (cup (nw S 13 [.int 0, .null, .int 0]).2 S.2.1 (true, false, 1013, [.int 0])) := wf_cup W1 (wf_lt W1 h13)
  unfold c_946
  rw [Option.bind_some, show (nw S 13 [.int 0, .null, .int 0]).1 = S.2.1 from rfl, if_pos (isK_t h13 rfl), alInit_o h13, Option.bind_some, xP_c hr1 rfl (by show 2 < 9; decide) (show List.set _ 2 _ = [.null, .null, .ref S.2.1, .int 0, .null, .null, .null, .int 0, .null] from rfl), Option.bind_some, xP_c (cup_eq ..) rfl (by show 0 < 9; decide) (show List.set _ 0 _ = [.ref b, .null, .ref S.2.1, .int 0, .null, .null, .null, .int 0, .null] from rfl), Option.bind_some, cupU]
  have j1 : JY (fun p => p = r) S (nw S 13 [.int 0, .null, .int 0]).2 1 := JY_v (VOk_nw (j := 1) (k := 3) hw _ (by omega) (by omega))
  exact ⟨_, rfl, cup_eq .., (cup_ne (by omega)).trans (cup_eq ..), rfl, JY_c (JY_c j1 (Or.inr (Nat.le_refl _)) (wf_lt W1 h13)) (Or.inl rfl) (wf_lt W2 hr1)⟩
theorem PsC_h {j : Nat} {v : Int32} {w : Int64} (I : PsC s t rd rl x k F) : PsC s (wrL (ptI t 232 v) 79 j w) rd rl x k F := by
  obtain ⟨R, Q, h233, h234, B, C, hF⟩ := I
  refine ⟨R, RdT_eq Q (fun c hc => if_neg (by omega)) rfl rfl, h233, h234, B, C, fun c' hc' => ?_⟩
  obtain ⟨a1, a2, a3, a4, a5, a6, a7⟩ := hF c' hc'
  refine ⟨a1, a2, a3, a4, a5, fun j hj => ?_, fun j hj => ?_⟩
  · rw [wrLq _ _ _ (by decide)]; exact a6 j hj
  · rw [wrLq _ _ _ (by decide)]; exact a7 j hj
theorem RzF_h {v : Int32} {w : Int64} : RzF nr nc n0 t (wrL (ptI t 232 v) 79 (12 + nr) w) := by
  refine ⟨fun c _ _ _ _ _ a _ _ _ => if_neg a, fun _ _ => rfl, fun _ _ => Or.inr rfl, fun q j => ?_⟩
  by_cases z : q = 79 ∧ j = 12 + nr
  · exact Or.inl (Or.inr ⟨z.1, by omega⟩)
  · exact Or.inr (if_neg z)
/-- a rule read, or a wrong word -/
theorem rd_rule {NM : List (List Nat)} {RU NR : List Nat} (I : PsC s t rd rl x k F) (hl : s.1 rl = some (true, false, 1013, .int mc :: RU.map Value.ref)) (l1 : RU.length = NM.length) (l2 : NR.length = NM.length) (h12 : NM.length ≤ 12) (hr : ∀ j (h : j < NM.length), (∃ w fs, s.1 RU[j] = some (w, false, 70, fs) ∧ fs[0]? = some (.ref NR[j])) ∧ ∃ fl, s.1 NR[j] = some (fl, false, 1000, txV NM[j])) (ok : ∀ l ∈ NM, nmOk l) (h232 : t.1 232 = Int32.ofNat NM.length) (h79 : ∀ j (h : j < NM.length), t.2.2.2 79 (12 + j) = nmL NM[j]) : (∃ (S : CS) (T : TS) (k' : Nat) (F' : List ClD) (r nm cc ex : Nat) (w : List Nat) (CE : List Nat) (mce day : Int32), c_936 rd s = some (.inl S) ∧ t_739 t = some T ∧ PsC S T rd rl x k' (F ++ F') ∧ S.1 rl = some (true, false, 1013, .int (mc + 1) :: (RU ++ [r]).map Value.ref) ∧ (s.2.1 ≤ r ∧ r < ex ∧ rd < nm) ∧ S.1 r = some (true, false, 70, [.ref nm, .ref cc, .ref ex, .int day, .null, .null, .null, .int 0, .null]) ∧ (∃ fl, S.1 nm = some (fl, false, 1000, txV w)) ∧ nmOk w ∧ S.1 ex = some (true, false, 1013, .int mce :: CE.map Value.ref) ∧ T.1 232 = Int32.ofNat (NM.length + 1) ∧ NM.length < 12 ∧ T.2.2.2 79 (12 + NM.length) = nmL w ∧ T.2.2.1 80 (12 + NM.length) = Int32.ofNat F.length ∧ T.2.2.1 81 (12 + NM.length) = Int32.ofNat CE.length ∧ T.2.2.1 82 (12 + NM.length) = day ∧ (F ++ F').length = F.length + 1 + CE.length ∧ (∀ h : F.length < (F ++ F').length, ClP (noN rd S.1) cc (F ++ F')[F.length].1 (F ++ F')[F.length].2.1 (F ++ F')[F.length].2.2) ∧ (∀ i (h : i < CE.length) (h' : F.length + 1 + i < (F ++ F').length), ClP (noN rd S.1) CE[i] (F ++ F')[F.length + 1 + i].1 (F ++ F')[F.length + 1 + i].2.1 (F ++ F')[F.length + 1 + i].2.2) ∧ k < k' ∧ JY (fun p => p = rd ∨ p = rl) s S (6 * (k' - k)) ∧ RzF NM.length F.length (sumL F) t T) ∨ ∃ S e T, c_936 rd s = some (.inr (e, S)) ∧ t_739 t = some T ∧ RzF NM.length F.length (sumL F) t T ∧ RuX (fun p => p = rd ∨ p = rl) s k S e T := by
  have R := I.1
  have Q := I.2.1
  have hw := R.1
  have k12 := k121 R
  obtain ⟨fs0, hrd0⟩ := RdC_rd R
  obtain ⟨y, ey⟩ := tkW_y R
  have okw : tkO (tkC y) = true := by rw [← ey]; exact R.2.2.2.2.1
  have kl := (kd_lt okw).1
  rw [← ey] at kl
  have q231 : t.1 231 = 0 := Q.2.2.2.2.2.2
  have q228 : t.1 228 = Int32.ofNat (tkK (tkW x k)) := Q.2.2.2.1
  have q226 : t.1 226 = Int32.ofNat (tkS x k).1 := Q.2.1
  have q229 : t.2.1 229 = tkV (tkW x k) := Q.2.2.2.2.1
  have n2 : Int32.ofNat (tkK (tkW x k)) = 2 ↔ tkK (tkW x k) = 2 := i_inj (j := tkK (tkW x k)) (k := 2) (by omega) (by decide)
  have n12 : Int32.ofNat NM.length = 12 ↔ NM.length = 12 := i_inj (j := NM.length) (k := 12) (by omega) (by decide)
  have xrl : xN s [(68, 1)] rd = some rl := by
    obtain ⟨_, _, _, _, _, b, fl, n, h1, _⟩ := R
    exact xN_o h1 rfl rfl
  have lrl := wf_lt hw hl
  have Ard : (fun p => p = rd ∨ p = rl) rd := Or.inl rfl
  -- a wrong word at hand
  have bad : ∀ {S : CS} {n : Nat}, RdC S rd rl x k (Int32.ofNat 0) → JY (fun p => p = rd ∨ p = rl) s S n → n ≤ 5 → t_739 t = some (ptI t 231 1) → c_936 rd s = some (.inr (S.2.1, exWr S (Int32.ofNat (tkS x k).1))) → ∃ S e T, c_936 rd s = some (.inr (e, S)) ∧ t_739 t = some T ∧ RzF NM.length F.length (sumL F) t T ∧ RuX (fun p => p = rd ∨ p = rl) s k S e T := by
    intro S n RS J hn e1 e2
    obtain ⟨bb, JB⟩ := rd_badR (T := ptI t 231 1) RS q226 rfl
    exact ⟨_, _, _, e2, e1, RzF_231 1, bb, k, Nat.le_refl _, k12, JY_tr J (JY_x JB Ard) (by omega)⟩
  have tA : (¬ (tkK (tkW x k) = 2 ∧ NM.length < 12 ∧ tkW x k ∉ NM)) → t_739 t = some (ptI t 231 1) := by
    intro hn
    have v : (if (t.1 231) = 0 then (if (t.1 228) = 2 then (if (t.1 232) = 12 then some (1 : Int32) else Option.bind (t_740 (t.2.1 229) t) (fun x1 => (if x1 = 0 then some 1 else some 0))) else some 1) else some 1) = some 1 := by
      rw [q231, if_pos rfl, q228, h232]
      by_cases z2 : tkK (tkW x k) = 2
      · rw [if_pos (n2.mpr z2)]
        by_cases z12 : NM.length = 12
        · rw [if_pos (n12.mpr z12)]
        · rw [if_neg (fun w => z12 (n12.mp w)), q229, (tkV_2 R z2).1, t_new h232 h12 h79 ok (nmOk_w R z2), Option.bind_some]
          have m : tkW x k ∈ NM := Decidable.byContradiction (fun w => hn ⟨z2, by omega, w⟩)
          rw [if_pos m, if_pos rfl]
      · rw [if_neg (fun w => z2 (n2.mp w))]
    rw [t_739_eq, v, Option.bind_some, n01 (Or.inr rfl), Option.bind_some]
    exact if_neg (show ¬ (1 : Int32) = 0 by decide)
  by_cases z2 : tkK (tkW x k) = 2 ∧ NM.length < 12
  rotate_left
  · right
    refine bad (n := 0) R (JY_0 hw) (by omega) (tA (fun w => z2 ⟨w.1, w.2.1⟩)) ?_
    rw [c_936_eq, if_pos (RdC_68 R), c_isNm R, Option.bind_some]
    have v : (if (if tkK (tkW x k) = 2 then (1 : Int32) else 0) = 0 then some (0 : Int32) else Option.bind (xN s [(68, 1)] rd) (fun a2 => (if isK s [13] a2 = true then Option.bind (alSize s a2) (fun x3 => (if x3 < 12 then some 1 else some 0)) else none))) = some 0 := by
      by_cases z : tkK (tkW x k) = 2
      · rw [if_pos z, if_neg (by decide), xrl, Option.bind_some, if_pos (isK_t hl rfl), alSize_l hl, Option.bind_some, List.length_map, l1, if_neg (show ¬ Int32.ofNat NM.length < 12 from fun w => z2 ⟨z, (i_lt (k := 12) (by omega) (by decide)).mp w⟩)]
      · rw [if_neg z, if_pos rfl]
    rw [v, Option.bind_some, if_pos (RdC_68 R), rd_bad R, if_pos rfl, Option.bind_some, Sum.elim_inr]
  obtain ⟨z2, z12⟩ := z2
  -- the head of the component's part
  have v1 : VOk s (chg s 1 4) 1 := VOk_ch hw (by omega) (by omega)
  obtain ⟨s1, hs1⟩ : ∃ s1, s1 = chg s 1 4 := ⟨_, rfl⟩
  rw [← hs1] at v1
  have R1 := RdC_v R v1
  have hl1 := VOk_up v1 hw hl
  have b1 : s1.2.1 = s.2.1 := by rw [hs1]; rfl
  have cA : ∀ {o}, Option.bind (wh (nmLp rl mc rd) (s1, 0)) (Sum.elim (fun v35 => Option.bind (some (nw v35 70 [.null, .null, .null, .int 0, .null, .null, .null, .int 0, .null])) (fun n15 => Option.bind (xN n15.2 [(68, 2)] rd) (fun a16 => (if isK n15.2 [70] n15.1 = true then Option.bind (c_946 n15.1 a16 n15.2) (fun x17 => Option.bind (xN x17 [(68, 1)] rd) (fun a18 => (if isK x17 [13] a18 = true then Option.bind (alAdd x17 a18 (.ref n15.1)) (fun s19 => (if isK s19 [68] rd = true then Option.bind (c_931 rd s19) (Sum.elim (fun x20 => (if isK x20 [68] rd = true then Option.bind (c_938 rd 66 x20) (fun x22 => (if isK x20 [68] rd = true then Option.bind (c_935 rd x22 x20) (Sum.elim (fun x23 => (if isK x23 [68] rd = true then Option.bind (c_931 rd x23) (Sum.elim (fun x25 => (if isK x25 [68] rd = true then Option.bind (c_939 rd x25) (Sum.elim (fun x27 => Option.bind (xP x27.2 [(70, 1)] n15.1 (.ref x27.1)) (fun s29 => ruC n15.1 rd s29)) (fun q28 => some (.inr (q28.1, q28.2)))) else none)) (fun q26 => some (.inr (q26.1, q26.2)))) else none)) (fun q24 => some (.inr (q24.1, q24.2)))) else none)) else none)) (fun q21 => some (.inr (q21.1, q21.2)))) else none)) else none))) else none)))) (fun z => some z)) = o → c_936 rd s = o := by
    intro o ho
    rw [c_936_eq, if_pos (RdC_68 R), c_isNm R, Option.bind_some, if_pos z2, if_neg (show ¬ (1 : Int32) = 0 by decide), xrl, Option.bind_some, if_pos (isK_t hl rfl), alSize_l hl, Option.bind_some, List.length_map, l1, if_pos (show Int32.ofNat NM.length < 12 from (i_lt (k := 12) (by omega) (by decide)).mpr z12), Option.bind_some, if_pos (RdC_68 R), rd_bad R, if_neg (show ¬ (1 : Int32) = 0 by decide), Option.bind_some, Sum.elim_inl, xrl, Option.bind_some, if_pos (isK_t hl rfl), alMc_l hl, Option.bind_some, ← hs1]
    exact ho
  have cn := c_new (NM := NM) (RU := RU) (NR := NR) R1 hl1 l1 l2 h12 (fun j hj => by
    obtain ⟨⟨w, fs, a, b⟩, fl, c⟩ := hr j hj
    exact ⟨⟨w, fs, VOk_up v1 hw a, b⟩, fl, VOk_up v1 hw c⟩) ok
  by_cases zm : tkW x k ∈ NM
  · right
    rw [if_pos zm] at cn
    refine bad (n := 1) R1 (JY_v v1) (by omega) (tA (fun w => w.2.2 zm)) (cA ?_)
    rw [cn, Option.bind_some, Sum.elim_inr]
  rw [if_neg zm] at cn
  -- the new rule
  have blank : (nw s1 70 [.null, .null, .null, .int 0, .null, .null, .null, .int 0, .null]).2.1 s1.2.1 = some (true, false, 70, [.null, .null, .null, .int 0, .null, .null, .null, .int 0, .null]) := nwc_eq ..
  have v2 : VOk s1 (nw s1 70 [.null, .null, .null, .int 0, .null, .null, .null, .int 0, .null]).2 1 := VOk_nw (j := 1) (k := 9) R1.1 _ (by omega) (by omega)
  obtain ⟨s2, hs2⟩ : ∃ s2, s2 = (nw s1 70 [.null, .null, .null, .int 0, .null, .null, .null, .int 0, .null]).2 := ⟨_, rfl⟩
  have b2 : s2.2.1 = s.2.1 + 1 := by rw [hs2]; show s1.2.1 + 1 = _; rw [b1]
  rw [← hs2] at v2 blank
  rw [b1] at blank
  have R2 := RdC_v R1 v2
  have hl2 := VOk_up v2 R1.1 hl1
  obtain ⟨b, fl, nn, hb1, hb2, _, hbr⟩ := R2.2.2.2.2.2
  have lb : b < s.2.1 := by
    obtain ⟨b', fl', nn', hb1', hb2', _⟩ := R.2.2.2.2.2
    have e := VOk_up v2 R1.1 (VOk_up v1 hw hb1')
    rw [e] at hb1
    have : b' = b := by
      unfold rdCell at hb1
      simp only [Option.some.injEq, Prod.mk.injEq, List.cons.injEq, Value.ref.injEq] at hb1
      exact hb1.2.2.2.2.2.1
    rw [← this]; exact wf_lt hw hb2'
  obtain ⟨s3, e3, hr3, hx3, b3, J3⟩ := c_946g (b := b) R2.1 blank
  rw [b2] at hr3 hx3 b3
  have R3 : RdC s3 rd rl x k (Int32.ofNat 0) := RdC_up R2 J3.1 (fun p c hc e => JY_up J3 R2.1 (fun w => by
    rw [w, blank] at e
    rw [← Option.some.inj e] at hc
    have : (70 : Nat) = 68 ∨ (70 : Nat) = 1000 ∨ (70 : Nat) = 1035 := hc
    omega) e)
  have hl3 : s3.1 rl = some (true, false, 1013, .int mc :: RU.map Value.ref) := JY_up J3 R2.1 (by omega) hl2
  have xrl3 : xN s3 [(68, 1)] rd = some rl := by
    obtain ⟨_, _, _, _, _, b, fl, n, h1, _⟩ := R3
    exact xN_o h1 rfl rfl
  have add : alAdd s3 rl (.ref s.2.1) = some (cput s3 1013 rl 1 16 (.int (mc + 1) :: (RU.map Value.ref ++ [.ref s.2.1]))) := alAdd_l hl3 (by rw [List.length_map]; omega) (elO_o hr3)
  obtain ⟨s4, hs4⟩ : ∃ s4, s4 = cput s3 1013 rl 1 16 (.int (mc + 1) :: (RU.map Value.ref ++ [.ref s.2.1])) := ⟨_, rfl⟩
  have R4 : RdC s4 rd rl x k (Int32.ofNat 0) := by rw [hs4]; exact RdC_put R3 hl3 (by decide)
  have hl4 : s4.1 rl = some (true, false, 1013, .int (mc + 1) :: (RU ++ [s.2.1]).map Value.ref) := by rw [hs4, List.map_append]; exact cput_eq ..
  have hr4 : s4.1 s.2.1 = some (true, false, 70, [.ref b, .null, .ref (s.2.1 + 1), .int 0, .null, .null, .null, .int 0, .null]) := by rw [hs4]; exact (cput_ne (by omega)).trans hr3
  have hx4 : s4.1 (s.2.1 + 1) = some (true, false, 1013, [.int 0]) := by rw [hs4]; exact (cput_ne (by omega)).trans hx3
  have J34 : JY (fun p => p = rd ∨ p = rl) s3 s4 2 := by
    rw [hs4]
    refine ⟨wf_chg (wf_cup R3.1 (wf_lt R3.1 hl3)), Nat.le_refl _, fun p hp hn => cup_ne (fun w => hn (Or.inr w)), ?_, ?_⟩
    · show s3.2.2.1 + 1 ≤ _; omega
    · show s3.2.2.2 + 16 ≤ _; omega
  have J04 : JY (fun p => p = rd ∨ p = rl) s s4 5 := JY_tr (JY_tr2 (JY_tr (JY_v v1) (JY_v v2) (Nat.le_refl _)) J3 (fun p hp w => by omega) (Nat.le_refl _)) J34 (by omega)
  obtain ⟨fs4, hrd4⟩ := RdC_rd R4
  have hb4 : s4.1 b = some (fl, false, 1000, txV (tkW x k)) := by
    obtain ⟨b', fl', nn', hb1', hb2', _⟩ := R4.2.2.2.2.2
    have e := JY_up (JY_tr (JY_sub J3 (fun p _ w => w)) (JY_0 J3.1) (Nat.le_refl _)) R2.1 (show ¬ b = s.2.1 by omega) hb2
    rw [hs4]
    refine (cput_ne (fun w => ?_)).trans e
    rw [w, hl2] at hb2
    simp at hb2
  -- the reference's part
  have v20 : (if (t.1 231) = 0 then (if (t.1 228) = 2 then (if (t.1 232) = 12 then some (1 : Int32) else Option.bind (t_740 (t.2.1 229) t) (fun x1 => (if x1 = 0 then some 1 else some 0))) else some 1) else some 1) = some 0 := by
    rw [q231, if_pos rfl, q228, if_pos (n2.mpr z2), h232, if_neg (fun w => by have := n12.mp w; omega), q229, (tkV_2 R z2).1, t_new h232 h12 h79 ok (nmOk_w R z2), Option.bind_some, if_neg zm, if_neg (show ¬ (1 : Int32) = 0 by decide)]
  obtain ⟨s7, hs7⟩ : ∃ s7, s7 = wrI (wrI (wrI (wrL (ptI t 232 (Int32.ofNat (NM.length + 1))) 79 (12 + NM.length) (nmL (tkW x k))) 80 (12 + NM.length) (Int32.ofNat F.length)) 81 (12 + NM.length) 0) 82 (12 + NM.length) 0 := ⟨_, rfl⟩
  have tB : t_739 t = Option.bind (t_741 1 s7) (fun x8 => Option.bind ((if (x8.1 228) = 58 then some 1 else some 0)) (fun v69 => Option.bind (t_741 v69 x8) (fun x9 => Option.bind ((if (x9.1 231) = 0 then Option.bind (t_742 x9) (fun x10 => some x10) else some x9)) (fun v75 => ruT (Int32.ofNat (12 + NM.length)) v75)))) := by
    rw [t_739_eq, v20, Option.bind_some, n01 (Or.inl rfl), Option.bind_some, show ptI t 231 0 = t from pt_id q231, q231, if_pos rfl, h232, show (12 : Int32) + Int32.ofNat NM.length = Int32.ofNat (12 + NM.length) from i_add 12 _, Option.bind_some, stL_n (by omega) (by decide), Option.bind_some, stI_n (by omega) (by decide), Option.bind_some, stI_n (by omega) (by decide), Option.bind_some, stI_n (by omega) (by decide), Option.bind_some, i_suc, show (ptI t 232 (Int32.ofNat (NM.length + 1))).2.1 229 = nmL (tkW x k) from q229.trans (tkV_2 R z2).1, show (wrL (ptI t 232 (Int32.ofNat (NM.length + 1))) 79 (12 + NM.length) (nmL (tkW x k))).1 233 = Int32.ofNat F.length from I.2.2.1, ← hs7]
  have I7 : PsC s4 s7 rd rl x k F := by
    rw [hs7]
    exact PsC_w (PsC_w (PsC_w (PsC_h (PsC_S I R4)) (Or.inl rfl)) (Or.inr (Or.inl rfl))) (Or.inr (Or.inr rfl))
  have F7 : RzF NM.length F.length (sumL F) t s7 := by
    rw [hs7]
    exact RzF_tr (RzF_tr (RzF_tr RzF_h (RzF_w (Or.inl rfl) _)) (RzF_w (Or.inr (Or.inl rfl)) _)) (RzF_w (Or.inr (Or.inr rfl)) _)
  have a80 : s7.2.2.1 80 (12 + NM.length) = Int32.ofNat F.length := by rw [hs7, wrIq _ _ _ (by decide), wrIq _ _ _ (by decide)]; exact if_pos ⟨rfl, rfl⟩
  have a81 : s7.2.2.1 81 (12 + NM.length) = 0 := by rw [hs7, wrIq _ _ _ (by decide)]; exact if_pos ⟨rfl, rfl⟩
  have a82 : s7.2.2.1 82 (12 + NM.length) = 0 := by rw [hs7]; exact if_pos ⟨rfl, rfl⟩
  have a79 : s7.2.2.2 79 (12 + NM.length) = nmL (tkW x k) := by rw [hs7]; exact if_pos ⟨rfl, rfl⟩
  have a232 : s7.1 232 = Int32.ofNat (NM.length + 1) := by rw [hs7]; rfl
  have br : ∀ (v : Int32), ∃ u : Int32, (if v = 58 then some (1 : Int32) else some 0) = some u := fun v => by
    by_cases q : v = 58
    · exact ⟨1, if_pos q⟩
    · exact ⟨0, if_neg q⟩
  -- once wrong
  have tout : ∀ {X : TS}, X.1 231 = 1 → ∃ Y, Option.bind ((if (X.1 228) = 58 then some 1 else some 0)) (fun v69 => Option.bind (t_741 v69 X) (fun x9 => Option.bind ((if (x9.1 231) = 0 then Option.bind (t_742 x9) (fun x10 => some x10) else some x9)) (fun v75 => ruT (Int32.ofNat (12 + NM.length)) v75))) = some Y ∧ Y.1 231 = 1 ∧ Y.1 226 = X.1 226 ∧ RzF NM.length F.length (sumL F) X Y := by
    intro X hX
    obtain ⟨u, hu⟩ := br (X.1 228)
    refine ⟨ptI X 231 1, ?_, rfl, rfl, RzF_231 1⟩
    rw [hu, Option.bind_some, t_takeW u hX, Option.bind_some, if_neg (show ¬ (ptI X 231 1).1 231 = 0 from (by decide : ¬ (1 : Int32) = 0)), Option.bind_some]
    exact ruT_out _ rfl
  have cB : ∀ {o}, Option.bind (c_931 rd s4) (Sum.elim (fun x20 => (if isK x20 [68] rd = true then Option.bind (c_938 rd 66 x20) (fun x22 => (if isK x20 [68] rd = true then Option.bind (c_935 rd x22 x20) (Sum.elim (fun x23 => (if isK x23 [68] rd = true then Option.bind (c_931 rd x23) (Sum.elim (fun x25 => (if isK x25 [68] rd = true then Option.bind (c_939 rd x25) (Sum.elim (fun x27 => Option.bind (xP x27.2 [(70, 1)] s.2.1 (.ref x27.1)) (fun s29 => ruC s.2.1 rd s29)) (fun q28 => some (.inr (q28.1, q28.2)))) else none)) (fun q26 => some (.inr (q26.1, q26.2)))) else none)) (fun q24 => some (.inr (q24.1, q24.2)))) else none)) else none)) (fun q21 => some (.inr (q21.1, q21.2)))) = o → c_936 rd s = o := by
    intro o ho
    refine cA ?_
    rw [cn, Option.bind_some, Sum.elim_inl, Option.bind_some, show (nw s1 70 [.null, .null, .null, .int 0, .null, .null, .null, .int 0, .null]).1 = s.2.1 from b1, ← hs2, xN_o hb1 rfl rfl, Option.bind_some, if_pos (isK_t blank rfl), e3, Option.bind_some, xrl3, Option.bind_some, if_pos (isK_t hl3 rfl), add, Option.bind_some, ← hs4, if_pos (RdC_68 R4)]
    exact ho
  rw [tB]
  have wn : tkW x k ≠ [] := fun w => by rw [w] at z2; exact absurd z2 (by show ¬ 0 = 2; decide)
  rcases rd_step R4 I7.2.1 wn with ⟨S5, T5, eC, eT, R5, Q5, J5, F5⟩ | ⟨S5, e, T5, eC, eT, bd, J5, F5⟩
  rotate_left
  · right
    obtain ⟨Y, eY, y1, y2, y3⟩ := tout bd.1
    rw [eT, Option.bind_some, eY]
    exact ⟨S5, e, Y, cB (by rw [eC, Option.bind_some, Sum.elim_inr]), rfl, RzF_tr (RzF_tr F7 (RzF_st F5)) y3, ⟨y1, by rw [y2]; exact bd.2⟩, k, Nat.le_refl _, k12, JY_tr J04 (JY_x J5 Ard) (by omega)⟩
  have I5 : PsC S5 T5 rd rl x (k + 1) F := PsC_st I7 R5 Q5 F5 (by omega)
  have k12b := k121 R5
  obtain ⟨y5, ey5⟩ := tkW_y R5
  have ok5 : tkO (tkC y5) = true := by rw [← ey5]; exact R5.2.2.2.2.1
  have kl5 := (kd_lt ok5).1
  have k58 := kd_1 ok5 (c := 58) (by decide)
  rw [← ey5] at kl5 k58
  have n58 : Int32.ofNat (tkK (tkW x (k + 1))) = 58 ↔ tkW x (k + 1) = [58] := (i_inj (j := tkK (tkW x (k + 1))) (k := 58) (by omega) (by decide)).trans k58
  have J05 : JY (fun p => p = rd ∨ p = rl) s S5 7 := JY_tr J04 (JY_x J5 Ard) (by omega)
  have F05 : RzF NM.length F.length (sumL F) t T5 := RzF_tr F7 (RzF_st F5)
  rw [eT, Option.bind_some, show T5.1 228 = Int32.ofNat (tkK (tkW x (k + 1))) from Q5.2.2.2.1]
  by_cases z58 : tkW x (k + 1) = [58]
  rotate_left
  · right
    rw [if_neg (fun w => z58 (n58.mp w)), Option.bind_some, t_take0 Q5.2.2.2.2.2.2, Option.bind_some, if_neg (show ¬ (ptI T5 231 1).1 231 = 0 from (by decide : ¬ (1 : Int32) = 0)), Option.bind_some, ruT_out _ rfl]
    obtain ⟨bb, JB⟩ := rd_badR (T := ptI T5 231 1) R5 Q5.2.1 rfl
    exact ⟨_, _, _, cB (by rw [eC, Option.bind_some, Sum.elim_inl, if_pos (RdC_68 R5), c_isT R5 (v := 66) (ys := [58]) (by decide), Option.bind_some, if_pos (RdC_68 R5), rd_bad R5, if_neg z58, if_pos rfl, Option.bind_some, Sum.elim_inr]), rfl, RzF_tr F05 (RzF_231 1), bb, k + 1, by omega, k12b, JY_tr J05 (JY_x JB Ard) (by omega)⟩
  have cC : ∀ {o}, Option.bind (c_931 rd S5) (Sum.elim (fun x25 => (if isK x25 [68] rd = true then Option.bind (c_939 rd x25) (Sum.elim (fun x27 => Option.bind (xP x27.2 [(70, 1)] s.2.1 (.ref x27.1)) (fun s29 => ruC s.2.1 rd s29)) (fun q28 => some (.inr (q28.1, q28.2)))) else none)) (fun q26 => some (.inr (q26.1, q26.2)))) = o → c_936 rd s = o := by
    intro o ho
    refine cB ?_
    rw [eC, Option.bind_some, Sum.elim_inl, if_pos (RdC_68 R5), c_isT R5 (v := 66) (ys := [58]) (by decide), Option.bind_some, if_pos (RdC_68 R5), rd_bad R5, if_pos z58, if_neg (show ¬ (1 : Int32) = 0 by decide), Option.bind_some, Sum.elim_inl, if_pos (RdC_68 R5), ho]
  rw [if_pos (n58.mpr z58), Option.bind_some]
  rcases rd_step R5 Q5 (by rw [z58]; simp) with ⟨S6, T6, eC6, eT6, R6, Q6, J6, F6⟩ | ⟨S6, e, T6, eC6, eT6, bd, J6, F6⟩
  rotate_left
  · right
    rw [eT6, Option.bind_some, bd.1, if_neg (show ¬ (1 : Int32) = 0 by decide), Option.bind_some, ruT_out _ bd.1]
    exact ⟨S6, e, T6, cC (by rw [eC6, Option.bind_some, Sum.elim_inr]), rfl, RzF_tr F05 (RzF_st F6), bd, k + 1, by omega, k12b, JY_tr J05 (JY_x J6 Ard) (by omega)⟩
  have I6 : PsC S6 T6 rd rl x (k + 2) F := PsC_st I5 R6 Q6 F6 (by omega)
  have F06 : RzF NM.length F.length (sumL F) t T6 := RzF_tr F05 (RzF_st F6)
  have J06 : JY (fun p => p = rd ∨ p = rl) s S6 9 := JY_tr J05 (JY_x J6 Ard) (by omega)
  obtain ⟨fs5, hrd5⟩ := RdC_rd R5
  obtain ⟨fs6, hrd6⟩ := RdC_rd R6
  rw [eT6, Option.bind_some, show T6.1 231 = 0 from Q6.2.2.2.2.2.2, if_pos rfl]
  rcases ps_clause I6 with ⟨S7, T7, cc, d, k3, c1, c2, I7', P7, kk, J7, Fr7⟩ | ⟨S7, e, T7, c1, c2, Fr7, X7⟩
  rotate_left
  · right
    rw [c2, Option.bind_some, Option.bind_some, ruT_out _ X7.1.1]
    have e9 := cC (o := some (.inr (e, S7))) (by rw [eC6, Option.bind_some, Sum.elim_inl, if_pos (RdC_68 R6), c1, Option.bind_some, Sum.elim_inr])
    exact ⟨S7, e, T7, e9, rfl, RzF_tr F06 (RzF_rx (RxF_cl Fr7 (Nat.le_refl _) (Nat.le_refl _))), RuX_le (RuX_of X7 Ard) (by omega) (JY_le J06 (by omega))⟩
  rw [c2, Option.bind_some, Option.bind_some]
  have R7 := I7'.1
  have up47 : ∀ {p : Nat} {c : lCell}, c.2.2.1 ≠ 68 → s4.1 p = some c → S7.1 p = some c := fun {p c} hc h => JX_ne J7 R6.1 hrd6 hc (JX_ne J6 R5.1 hrd5 hc (JX_ne J5 R4.1 hrd4 hc h))
  have hr7 := up47 (by show 70 ≠ 68; decide) hr4
  have hx7 := up47 (by show 1013 ≠ 68; decide) hx4
  have hl7 := up47 (by show 1013 ≠ 68; decide) hl4
  have hb7 := up47 (by show 1000 ≠ 68; decide) hb4
  obtain ⟨S8, hS8⟩ : ∃ S8, S8 = cup S7 s.2.1 (true, false, 70, [.ref b, .ref cc, .ref (s.2.1 + 1), .int 0, .null, .null, .null, .int 0, .null]) := ⟨_, rfl⟩
  have hr8 : S8.1 s.2.1 = some (true, false, 70, [.ref b, .ref cc, .ref (s.2.1 + 1), .int 0, .null, .null, .null, .int 0, .null]) := by rw [hS8]; exact cup_eq ..
  have hx8 : S8.1 (s.2.1 + 1) = some (true, false, 1013, .int 0 :: ([] : List Nat).map Value.ref) := by rw [hS8]; exact (cup_ne (by omega)).trans hx7
  have hl8 : S8.1 rl = some (true, false, 1013, .int (mc + 1) :: (RU ++ [s.2.1]).map Value.ref) := by rw [hS8]; exact (cup_ne (by omega)).trans hl7
  have hb8 : S8.1 b = some (fl, false, 1000, txV (tkW x k)) := by rw [hS8]; exact (cup_ne (by omega)).trans hb7
  have R8 : RdC S8 rd rl x k3 (Int32.ofNat 0) := by rw [hS8]; exact RdC_c R7 hr7 (by decide)
  have I8 := PsC_S I7' R8
  have J08 : JY (fun p => p = rd ∨ p = rl) s S8 (9 + 4 * (k3 - (k + 2))) := by rw [hS8]; exact JY_c (JY_tr J06 (JY_x J7 Ard) (Nat.le_refl _)) (Or.inr (Nat.le_refl _)) (wf_lt R7.1 hr7)
  have up78 : ∀ p c, noN rd S7.1 p = some c → noN rd S8.1 p = some c := by rw [hS8]; exact noN_fill hr7 rfl
  have F07 : RzF NM.length F.length (sumL F) t T7 := RzF_tr F06 (RzF_rx (RxF_cl Fr7 (Nat.le_refl _) (Nat.le_refl _)))
  have t7 : ∀ c, (c = 80 ∨ c = 81 ∨ c = 82) → T7.2.2.1 c (12 + NM.length) = s7.2.2.1 c (12 + NM.length) := fun c hc => by
    rcases Fr7.2.2.1 c (12 + NM.length) with w | w
    · omega
    · rw [w, F6.2.2, F5.2.2]
  have t79 : T7.2.2.2 79 (12 + NM.length) = nmL (tkW x k) := by
    rcases Fr7.2.2.2 79 (12 + NM.length) with w | w
    · omega
    · rw [w, F6.2.2, F5.2.2]; exact a79
  have t232 : T7.1 232 = Int32.ofNat (NM.length + 1) := by
    rw [Fr7.1 232 (by decide) (by decide) (by decide) (by decide) (by decide) (by decide) (by decide) (by decide), F6.1 232 (by decide) (by decide) (by decide) (by decide) (by decide), F5.1 232 (by decide) (by decide) (by decide) (by decide) (by decide)]
    exact a232
  have flen : (F ++ [d]).length = F.length + 1 := by rw [List.length_append]; rfl
  have e9 : ∀ {o}, ruC s.2.1 rd S8 = o → c_936 rd s = o := fun {o} ho => cC (by rw [eC6, Option.bind_some, Sum.elim_inl, if_pos (RdC_68 R6), c1, Option.bind_some, Sum.elim_inl, xP_c hr7 rfl (by show 1 < 9; decide) (show List.set _ 1 _ = [.ref b, .ref cc, .ref (s.2.1 + 1), .int 0, .null, .null, .null, .int 0, .null] from rfl), Option.bind_some, ← hS8, ho])
  rcases rd_rend (q0 := F.length) (nc := F.length) (n0 := sumL F) (CE := []) z12 I8 hr8 hx8 (by rw [t7 81 (by decide)]; exact a81) (by rw [t7 82 (by decide)]; exact a82) (by rw [flen]; rfl) (by omega) (by rw [sumL_app]; omega) (fun i h => absurd h (Nat.not_lt_zero _)) with ⟨S', T', k', F', CE', mc', day, r1, r2, r3, r4, r5, r6, r7, r8, r9, r10, r11, r12, r13, r14, r15⟩ | ⟨S', e, T', r1, r2, r3, r4⟩
  · left
    have eF : F ++ [d] ++ F' = F ++ ([d] ++ F') := List.append_assoc ..
    rw [eF] at r3 r8
    rw [List.nil_append] at r5 r6 r8
    have J8' : JY (fun p => p = rd ∨ p = rl) s S' (6 * (k' - k)) := JY_tr2 J08 r11 (fun p hp w => by
      rcases w with w | w | w
      · exact Or.inl w
      · omega
      · omega) (by omega)
    have ndif : ∀ {p : Nat} {c : lCell}, p < s.2.1 → c.2.2.1 ≠ 68 → S8.1 p = some c → S'.1 p = some c := fun {p c} hp hc h => JY_up r11 R8.1 (fun w => by
      rcases w with w | w | w
      · obtain ⟨fs8, hrd8⟩ := RdC_rd R8
        rw [w, hrd8] at h
        rw [← Option.some.inj h] at hc
        exact hc rfl
      · omega
      · omega) h
    have up8 : ∀ p c, noN rd S8.1 p = some c → noN rd S'.1 p = some c := noN_jy r11 R8.1 (fun p c w h => by
      rcases w with w | w | w
      · obtain ⟨fs8, hrd8⟩ := RdC_rd R8
        rw [w, hrd8] at h
        rw [← Option.some.inj h]; rfl
      · rw [w, hx8] at h
        rw [← Option.some.inj h]; rfl
      · rw [w, hr8] at h
        rw [← Option.some.inj h]; rfl)
    refine ⟨S', T', k', [d] ++ F', s.2.1, b, cc, s.2.1 + 1, tkW x k, CE', mc', day, e9 r1, r2, r3, ndif lrl (by show 1013 ≠ 68; decide) hl8, ⟨Nat.le_refl _, Nat.lt_succ_self _, (hbr wn).1⟩, r4, ⟨fl, ndif lb (by show 1000 ≠ 68; decide) hb8⟩, nmOk_w R z2, r5, r13.trans t232, z12, by rw [r14]; exact t79, by rw [r15, t7 80 (by decide)]; exact a80, r6, r7, r8, fun h => ?_, fun i h h' => ?_, by omega, J8', RzF_tr F07 r12⟩
    · have e1 : (F ++ ([d] ++ F'))[F.length] = d := by
        rw [List.getElem_append_right (Nat.le_refl _)]
        simp
      rw [e1]
      exact ClP_up (fun p c h => up8 _ _ (up78 _ _ h)) P7
    · have := r9 i (by rw [List.nil_append]; exact h) (by rw [eF]; exact h')
      simp only [List.nil_append, eF] at this
      exact this
  · right
    refine ⟨S', e, T', e9 r1, r2, RzF_tr F07 r3, r4.1, ?_⟩
    obtain ⟨_, k', a, c, J⟩ := r4
    exact ⟨k', by omega, c, JY_tr2 J08 J (fun p hp w => by
      rcases w with w | w | w
      · exact Or.inl w
      · omega
      · omega) (by omega)⟩
end
