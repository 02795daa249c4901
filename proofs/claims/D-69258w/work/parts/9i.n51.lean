/-! the plan: a finding in the component: spaces are found -/
section
variable {L : PLn} {nl nr : Nat} {st ln : Nat → Nat} {lab : Int → Int → Int} {LC LD : Nat → Nat} {s : CS} {ml : Int32}
theorem c_fnd (hg : gdL L nl) (hR : RF L nl nr st ln) (hL : LabN L nl nr st ln lab) (hw : wfS s) (hc : s.2.2.1 + 100000 < 4000000000) {v0 : Nat} {pf : List Value} (hLn : lnH s.1 L nl LC LD ml) (hv : s.1 v0 = some (true, false, 67, .ref 103 :: pf)) {A : Type} (g : Nat → CS → Option A) :
    ∃ S pid nid aid si rc rl sp sl, Option.bind (some (nw s 61 [.null, .null, .null, .int 0])) (fun n7 => (if isK n7.2 [61] n7.1 = true then Option.bind (c_872 n7.1 n7.2) (fun x8 => Option.bind (some (nw x8 13 [.int 0, .null, .int 0])) (fun n9 => (if isK n9.2 [13] n9.1 = true then Option.bind (alInit n9.2 n9.1) (fun s10 => Option.bind (xN s10 [(67, 0)] v0) (fun a11 => (if isK s10 [13] a11 = true then Option.bind (alMc s10 a11) (fun i12 => Option.bind (wh (S := CS × Int32) (X := CS) (fun p29 => Option.bind (alHas p29.1 a11 p29.2) (fun x13 => (if x13 = 0 then some (.inr p29.1) else Option.bind (alNext p29.1 a11 i12.1 p29.2) (fun e14 => Option.bind (toN p29.1 [59] e14) (fun a15 => (if isK p29.1 [67] v0 = true then Option.bind (c_897 v0 n7.1 a15 n9.1 p29.1) (fun x16 => some (.inl (x16, p29.2 + 1))) else none)))))) (i12.2, 0)) (fun v42 => Option.bind (some (nw v42 13 [.int 0, .null, .int 0])) (fun n17 => (if isK n17.2 [13] n17.1 = true then Option.bind (alInit n17.2 n17.1) (fun s18 => (if isK s18 [13] n9.1 = true then Option.bind (alMc s18 n9.1) (fun i19 => Option.bind (wh (S := CS × Int32) (X := CS) (fun p49 => Option.bind (alHas p49.1 n9.1 p49.2) (fun x20 => (if x20 = 0 then some (.inr p49.1) else Option.bind (alNext p49.1 n9.1 i19.1 p49.2) (fun e21 => Option.bind (toN p49.1 [65] e21) (fun a22 => Option.bind (xR p49.1 [(65, 5)] a22) (fun r23 => Option.bind ((if r23 = none then Option.bind (some (nw p49.1 66 [.null, .null, .int 0, .null])) (fun n24 => (if isK n24.2 [66] n24.1 = true then Option.bind (c_885 n24.1 a22 n24.2) (fun x25 => (if isK x25 [13] n17.1 = true then Option.bind (alAdd x25 n17.1 (.ref n24.1)) (fun s26 => some s26) else none)) else none)) else some p49.1)) (fun v66 => some (.inl (v66, p49.2 + 1))))))))) (i19.2, 0)) (fun v67 => (if isK v67 [67] v0 = true then Option.bind (c_899 v0 n7.1 n17.1 v67) (fun x27 => g n7.1 x27) else none))) else none)) else none)))) else none))) else none))) else none)) = g s.2.1 S ∧ wfS S ∧ s.2.1 ≤ S.2.1 ∧ (∀ a, a < s.2.1 → S.1 a = s.1 a) ∧ FD s.2.1 S.1 L nl nr st ln LC s.2.1 (s.2.1 + 1) (s.2.1 + 2) (s.2.1 + 3) (s.2.1 + 4) pid nid aid si rc rl sp sl (fun k => if lfB L nl st ln k = true then .ref (sp (spn L nl st ln k)) else .ref (spo (s.2.1 + 2) sp (fcS L nl st lab k))) (fun _ => 0) (inF L nl st lab (KRs L nl nr st ln)) ∧ S.2.2.1 ≤ s.2.2.1 + 6600 ∧ S.2.2.2 ≤ s.2.2.2 + 75100 := by
  have n120 := nr_120 hg hR hL.1
  have hN := nP_le hg
  have ns1 := spn_100 hg hR hL.1
  have n20 := hg.1
  obtain ⟨l1, l2, l3⟩ := hLn
  have ltv := wf_lt hw hv
  have ltL := wf_lt hw l1
  have ltl : ∀ l, l < nl → LC l < s.2.1 := fun l hl => wf_lt hw (l2 l hl)
  obtain ⟨S1, e1, a1, a2, a3, a4, a5, a6, a7, a8, a9, a10⟩ := c_foundN hw (fun F x8 => Option.bind (some (nw x8 13 [.int 0, .null, .int 0])) (fun n9 => (if isK n9.2 [13] n9.1 = true then Option.bind (alInit n9.2 n9.1) (fun s10 => Option.bind (xN s10 [(67, 0)] v0) (fun a11 => (if isK s10 [13] a11 = true then Option.bind (alMc s10 a11) (fun i12 => Option.bind (wh (S := CS × Int32) (X := CS) (fun p29 => Option.bind (alHas p29.1 a11 p29.2) (fun x13 => (if x13 = 0 then some (.inr p29.1) else Option.bind (alNext p29.1 a11 i12.1 p29.2) (fun e14 => Option.bind (toN p29.1 [59] e14) (fun a15 => (if isK p29.1 [67] v0 = true then Option.bind (c_897 v0 F a15 n9.1 p29.1) (fun x16 => some (.inl (x16, p29.2 + 1))) else none)))))) (i12.2, 0)) (fun v42 => Option.bind (some (nw v42 13 [.int 0, .null, .int 0])) (fun n17 => (if isK n17.2 [13] n17.1 = true then Option.bind (alInit n17.2 n17.1) (fun s18 => (if isK s18 [13] n9.1 = true then Option.bind (alMc s18 n9.1) (fun i19 => Option.bind (wh (S := CS × Int32) (X := CS) (fun p49 => Option.bind (alHas p49.1 n9.1 p49.2) (fun x20 => (if x20 = 0 then some (.inr p49.1) else Option.bind (alNext p49.1 n9.1 i19.1 p49.2) (fun e21 => Option.bind (toN p49.1 [65] e21) (fun a22 => Option.bind (xR p49.1 [(65, 5)] a22) (fun r23 => Option.bind ((if r23 = none then Option.bind (some (nw p49.1 66 [.null, .null, .int 0, .null])) (fun n24 => (if isK n24.2 [66] n24.1 = true then Option.bind (c_885 n24.1 a22 n24.2) (fun x25 => (if isK x25 [13] n17.1 = true then Option.bind (alAdd x25 n17.1 (.ref n24.1)) (fun s26 => some s26) else none)) else none)) else some p49.1)) (fun v66 => some (.inl (v66, p49.2 + 1))))))))) (i19.2, 0)) (fun v67 => (if isK v67 [67] v0 = true then Option.bind (c_899 v0 F n17.1 v67) (fun x27 => g F x27) else none))) else none)) else none)))) else none))) else none)))
  rw [e1]
  obtain ⟨S2, z2, w2⟩ := nw_o (s := S1) 13 [.int 0, .null, .int 0] a8
  rw [z2, Option.bind_some]
  dsimp only
  rw [if_pos (isK_t w2.1 rfl), alInit_o w2.1, Option.bind_some]
  obtain ⟨S3, hS3⟩ : ∃ S3, S3 = cup S2 S1.2.1 (true, false, 1013, [.int 0]) := ⟨_, rfl⟩
  rw [← hS3]
  have t3 : ∀ a, a ≠ S1.2.1 → S3.1 a = S1.1 a := fun a ha => by rw [hS3, cup_ne ha, w2.2.1 a ha]
  have wS3 : wfS S3 := by rw [hS3]; exact wf_cup w2.2.2.2.1 (by rw [w2.2.2.1]; omega)
  have c3 : S3.2.1 = s.2.1 + 6 ∧ S3.2.2.1 = s.2.2.1 + 6 ∧ S3.2.2.2 = s.2.2.2 + 26 := by
    rw [hS3]
    refine ⟨?_, ?_, ?_⟩
    · show S2.2.1 = _; rw [w2.2.2.1, a7]
    · show S2.2.2.1 = _; rw [w2.2.2.2.2.1, a9]
    · show S2.2.2.2 = _; rw [w2.2.2.2.2.2, a10]; rfl
  have hSL : S3.1 S1.2.1 = some (true, false, 1013, [.int 0]) := by rw [hS3, cup_eq]
  have old : ∀ a, a < s.2.1 → S3.1 a = s.1 a := fun a ha => by rw [t3 a (by omega), a6 a ha]
  have hv3 : S3.1 v0 = _ := (old _ ltv).trans hv
  have h1033 : S3.1 103 = _ := (old _ ltL).trans l1
  rw [xN_o (b := 103) hv3 rfl rfl, Option.bind_some, if_pos (isK_t h1033 rfl), alMc_l h1033, Option.bind_some]
  dsimp only
  have ct0 : CT s.2.1 s.1 S3 L nl LC s.2.1 (s.2.1 + 1) (s.2.1 + 2) (s.2.1 + 4) S1.2.1 (off L nl 0) (VL L nl 0) 0 (fun _ _ => 0) (fun _ _ => 0) (fun _ _ => 0) (fun _ => 0) := CT_0 wS3 (by rw [t3 _ (by omega)]; exact a1) (by rw [t3 _ (by omega)]; exact a5) hSL ⟨Nat.le_refl _, by omega, by omega⟩ old
  -- lines
  have kL : Tr (wh (S := CS × Int32) (X := CS) (fun p29 => Option.bind (alHas p29.1 103 p29.2) (fun x13 => (if x13 = 0 then some (.inr p29.1) else Option.bind (alNext p29.1 103 ml p29.2) (fun e14 => Option.bind (toN p29.1 [59] e14) (fun a15 => (if isK p29.1 [67] v0 = true then Option.bind (c_897 v0 s.2.1 a15 S1.2.1 p29.1) (fun x16 => some (.inl (x16, p29.2 + 1))) else none)))))) (chg S3 1 4, 0)) (fun s' => ∃ ms pid nid aid si, CT s.2.1 s.1 s' L nl LC s.2.1 (s.2.1 + 1) (s.2.1 + 2) (s.2.1 + 4) S1.2.1 (off L nl nl) (VL L nl nl) ms pid nid aid si ∧ s'.2.2.1 ≤ s.2.2.1 + 7 + 171 * nl ∧ s'.2.2.2 ≤ s.2.2.2 + 30 + 1226 * nl ∧ s.2.1 ≤ s'.2.1 ∧ ∀ a d, S3.1 a = some d → d.2.2.1 ≠ 7 ∧ d.2.2.1 ≠ 61 ∧ d.2.2.1 ≠ 1042 → a ≠ S1.2.1 → s'.1 a = some d) := by
    refine wh_cnt nl (fun i a => a.2 = Int32.ofNat i ∧ ∃ ms pid nid aid si, CT s.2.1 s.1 a.1 L nl LC s.2.1 (s.2.1 + 1) (s.2.1 + 2) (s.2.1 + 4) S1.2.1 (off L nl i) (VL L nl i) ms pid nid aid si ∧ a.1.2.2.1 ≤ s.2.2.1 + 7 + 171 * i ∧ a.1.2.2.2 ≤ s.2.2.2 + 30 + 1226 * i ∧ s.2.1 ≤ a.1.2.1 ∧ ∀ b d, S3.1 b = some d → d.2.2.1 ≠ 7 ∧ d.2.2.1 ≠ 61 ∧ d.2.2.1 ≠ 1042 → b ≠ S1.2.1 → a.1.1 b = some d) ?_ ?_ ⟨rfl, 0, fun _ _ => 0, fun _ _ => 0, fun _ _ => 0, fun _ => 0, ct0, by show S3.2.2.1 + 1 ≤ _; omega, by show S3.2.2.2 + 4 ≤ _; omega, by show s.2.1 ≤ S3.2.1; omega, fun b d h _ _ => h⟩
    · rintro i ⟨U, _⟩ hi ⟨rfl, ms, pid, nid, aid, si, ct, uc, us, un, uF⟩
      right
      dsimp only at ct uc us un uF ⊢
      have h103U : U.1 103 = _ := (ct.2.2.1 103 ltL).trans l1
      have hlU : U.1 (LC i) = _ := (ct.2.2.1 _ (ltl i hi)).trans (l2 i hi)
      have hvU : U.1 v0 = _ := (ct.2.2.1 _ ltv).trans hv
      rw [alHas_r h103U (by omega) (by omega), if_neg (by omega)]; repeat (first | rw [Option.bind_some] | rw [Sum.elim_inl] | rw [Sum.elim_inr])
      rw [if_neg (by decide), alNext_r h103U hi (by omega)]; repeat (first | rw [Option.bind_some] | rw [Sum.elim_inl] | rw [Sum.elim_inr])
      rw [toN_o hlU rfl]; repeat (first | rw [Option.bind_some] | rw [Sum.elim_inl] | rw [Sum.elim_inr])
      rw [if_pos (isK_t hvU rfl), i_suc]
      obtain ⟨U', ms', pid', nid', aid', si', f1, f2, f3, f4, f5, f6⟩ := c_cut hg ⟨l1, l2, l3⟩ ltl ltL hv ltv hi ct
      have cl := cts_len hg hi
      rw [f1]; repeat (first | rw [Option.bind_some] | rw [Sum.elim_inl] | rw [Sum.elim_inr])
      refine ⟨_, rfl, rfl, ms', pid', nid', aid', si', f2, by dsimp only; omega, by dsimp only; omega, by dsimp only; omega, fun b d h1 h2 h3 => ?_⟩
      exact f6 b d (uF b d h1 h2 h3) h2 h3
    · rintro ⟨U, _⟩ ⟨rfl, ms, pid, nid, aid, si, ct, uc, us, un, uF⟩
      dsimp only at ct uc us un uF ⊢
      have h103U : U.1 103 = _ := (ct.2.2.1 103 ltL).trans l1
      exact ⟨U, by rw [alHas_r h103U (by omega) (by omega), if_pos rfl, Option.bind_some, if_pos rfl], ms, pid, nid, aid, si, ct, uc, us, un, uF⟩
  obtain ⟨S4, e4, ms, pid, nid, aid, si, ct, b1, b2, b3, b4⟩ := kL
  rw [e4, Option.bind_some]
  have gs0 := CT_GSt hg ct
  obtain ⟨r1, r2, r3, r4, r5, r6, r7, r8, r9, r10⟩ := ct
  -- the list of rings
  obtain ⟨S5, z5, w5⟩ := nw_o (s := S4) 13 [.int 0, .null, .int 0] r1
  rw [z5, Option.bind_some]
  dsimp only
  rw [if_pos (isK_t w5.1 rfl), alInit_o w5.1, Option.bind_some]
  obtain ⟨S6, hS6⟩ : ∃ S6, S6 = cup S5 S4.2.1 (true, false, 1013, [.int 0]) := ⟨_, rfl⟩
  rw [← hS6]
  have t6 : ∀ a, a ≠ S4.2.1 → S6.1 a = S4.1 a := fun a ha => by rw [hS6, cup_ne ha, w5.2.1 a ha]
  have k6 : ∀ a d, S4.1 a = some d → S6.1 a = some d := fun a d h => by rw [t6 a (by have := wf_lt r1 h; omega)]; exact h
  have wS6 : wfS S6 := by rw [hS6]; exact wf_cup w5.2.2.2.1 (by rw [w5.2.2.1]; omega)
  have c6 : S6.2.1 = S4.2.1 + 1 ∧ S6.2.2.1 = S4.2.2.1 + 1 ∧ S6.2.2.2 = S4.2.2.2 + 3 := by
    rw [hS6]; exact ⟨w5.2.2.1, w5.2.2.2.2.1, w5.2.2.2.2.2⟩
  have hSL6 := k6 _ _ r6
  have ltSL := wf_lt r1 r6
  rw [if_pos (isK_t hSL6 rfl), alMc_l hSL6, Option.bind_some]
  dsimp only
  have cF := r5
  have cfL := b4 _ _ (show S3.1 (s.2.1 + 1) = _ from (t3 _ (by omega)).trans a2) ⟨by show ¬ (1013 : Nat) = 7; decide, by show ¬ (1013 : Nat) = 61; decide, by show ¬ (1013 : Nat) = 1042; decide⟩ (by omega)
  have cou := b4 _ _ (show S3.1 (s.2.1 + 2) = _ from (t3 _ (by omega)).trans a3) ⟨by show ¬ (62 : Nat) = 7; decide, by show ¬ (62 : Nat) = 61; decide, by show ¬ (62 : Nat) = 1042; decide⟩ (by omega)
  have col := b4 _ _ (show S3.1 (s.2.1 + 3) = _ from (t3 _ (by omega)).trans a4) ⟨by show ¬ (1013 : Nat) = 7; decide, by show ¬ (1013 : Nat) = 61; decide, by show ¬ (1013 : Nat) = 1042; decide⟩ (by omega)
  have fe : off L nl nl = nP L nl := rfl
  rw [fe] at cF r6
  let K1 : Nat → lCell → Prop := fun a c => (a = s.2.1 ∧ c = (true, false, 61, [.ref (s.2.1 + 1), .ref (s.2.1 + 2), .ref (s.2.1 + 4), .int (Int32.ofNat (nP L nl))])) ∨ (a = s.2.1 + 2 ∧ c = (true, false, 62, [.int (-1), .null, .ref (s.2.1 + 3), .int 0])) ∨ (a = s.2.1 + 1 ∧ c = (true, false, 1013, [.int 0])) ∨ (a = s.2.1 + 3 ∧ c = (true, false, 1013, [.int 0]))
  have k1 : ∀ a c, K1 a c → S4.1 a = some c := by
    rintro a c (⟨rfl, rfl⟩ | ⟨rfl, rfl⟩ | ⟨rfl, rfl⟩ | ⟨rfl, rfl⟩)
    · exact cF
    · exact cou
    · exact cfL
    · exact col
  have s4n : s.2.1 + 6 ≤ S4.2.1 := by omega
  have hK1 : ∀ a c, K1 a c → a ≠ S4.2.1 ∧ c.2.2.1 ≠ 65 ∧ c.2.2.1 ≠ 66 := by
    rintro a c (⟨rfl, rfl⟩ | ⟨rfl, rfl⟩ | ⟨rfl, rfl⟩ | ⟨rfl, rfl⟩)
    · exact ⟨by omega, by show ¬ (61 : Nat) = 65; decide, by show ¬ (61 : Nat) = 66; decide⟩
    · exact ⟨by omega, by show ¬ (62 : Nat) = 65; decide, by show ¬ (62 : Nat) = 66; decide⟩
    · exact ⟨by omega, by show ¬ (1013 : Nat) = 65; decide, by show ¬ (1013 : Nat) = 66; decide⟩
    · exact ⟨by omega, by show ¬ (1013 : Nat) = 65; decide, by show ¬ (1013 : Nat) = 66; decide⟩
  have rg0 : RgT s.2.1 s.1 K1 (chg S6 1 4) L nl nr st ln LC (s.2.1 + 4) S1.2.1 S4.2.1 ms pid nid aid si [] (fun _ => 0) (fun _ => 0) (fun _ => 0) := by
    refine ⟨wS6, by show s.2.1 ≤ S6.2.1; omega, fun a ha => ?_, fun a c hc => k6 _ _ (k1 a c hc), ⟨fun _ => .null, GSt_ex gs0 (fun a c h _ => k6 _ _ h) ?_ (fun k hk => k6 _ _ (gs0.2.1 k hk).2), fun j => ⟨fun k hk => (by cases hk), fun _ => rfl⟩⟩, ⟨List.nodup_nil, fun k hk => (by cases hk), fun k hk => (by cases hk), fun k hk => (by cases hk)⟩, hSL6, ⟨0, ?_⟩, fun k hk => (by cases hk)⟩
    · show S6.1 a = _; rw [t6 a (by omega)]; exact r3 a ha
    · show S6.1 (s.2.1 + 4) = _; exact t6 _ (by omega)
    · show S6.1 S4.2.1 = _; rw [hS6, cup_eq]; rfl
  obtain ⟨S7, e7, od, rc, rl, q, i1, i2, i3, i4, i5⟩ := c_rings hg hR hK1 (by omega) (by omega) (by omega) rg0
  have i4 : S7.2.2.1 ≤ S6.2.2.1 + 1 + 3 * nr + 2 * nP L nl := i4
  have i5 : S7.2.2.2 ≤ S6.2.2.2 + 4 + 23 * nr + 32 * nP L nl := i5
  rw [e7, Option.bind_some]
  obtain ⟨j1, j2, j3, j4, ⟨rv, j5, j6⟩, j7, j8, ⟨mr, j9⟩, j10⟩ := i1
  let K2 : Nat → lCell → Prop := fun a c => (a = s.2.1 ∧ c = (true, false, 61, [.ref (s.2.1 + 1), .ref (s.2.1 + 2), .ref (s.2.1 + 4), .int (Int32.ofNat (nP L nl))])) ∨ (a = s.2.1 + 2 ∧ c = (true, false, 62, [.int (-1), .null, .ref (s.2.1 + 3), .int 0]))
  have k2 : ∀ a c, K2 a c → K1 a c := by
    rintro a c (h | h)
    · exact Or.inl h
    · exact Or.inr (Or.inl h)
  have so : SOt s.2.1 s.1 K2 S7 L nl nr st ln LC (s.2.1 + 4) S4.2.1 mr pid nid aid si od rc rl q (fun _ => .null) := ⟨j1, j2, j3, fun a c h => j4 a c (k2 a c h), ⟨rv, j5, j6⟩, j7, j9, by omega, fun k hk => ⟨(j10 k hk).1, fun a c h => (j10 k hk).2.2 a c (k2 a c h)⟩, i2⟩
  have hv7 : S7.1 v0 = _ := (j3 v0 ltv).trans hv
  rw [if_pos (isK_t hv7 rfl)]
  obtain ⟨S8, e8, sp, sl, o8, fd8, x1, x2, x3⟩ := c_sorP hg hR hL v0 so (fL := s.2.1 + 1) (ol := s.2.1 + 3) (fd := s.2.1) (ou := s.2.1 + 2) (by
    rintro a c (⟨rfl, rfl⟩ | ⟨rfl, rfl⟩)
    · exact ⟨by show ¬ (61 : Nat) = 66; decide, by omega, by omega⟩
    · exact ⟨by show ¬ (62 : Nat) = 66; decide, by omega, by omega⟩) (Or.inl ⟨rfl, rfl⟩) (Or.inr ⟨rfl, rfl⟩) ⟨Nat.le_refl _, by omega, by omega⟩ ⟨by omega, by omega, by omega, fun k hk => (j10 k hk).2.2 _ _ (Or.inr (Or.inr (Or.inl ⟨rfl, rfl⟩))), by rintro c (⟨h, _⟩ | ⟨h, _⟩) <;> omega⟩ ⟨by omega, by omega, by omega, fun k hk => (j10 k hk).2.2 _ _ (Or.inr (Or.inr (Or.inr ⟨rfl, rfl⟩))), by rintro c (⟨h, _⟩ | ⟨h, _⟩) <;> omega⟩ (j4 _ _ (Or.inr (Or.inr (Or.inl ⟨rfl, rfl⟩)))) (j4 _ _ (Or.inr (Or.inr (Or.inr ⟨rfl, rfl⟩)))) (by omega) (by omega)
  rw [e8, Option.bind_some]
  refine ⟨S8, pid, nid, aid, si, rc, rl, sp, sl, rfl, o8.1, o8.2.1, o8.2.2.1, fd8, by omega, by omega⟩
end
