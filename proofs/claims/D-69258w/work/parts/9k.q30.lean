/-! permits: all rules are asked -/
section
variable {s : CS} {t : TS} {own : Nat → Nat} {nf n nr rl : Nat} {mc : Int32} {ru q bb : Nat → Nat} {D : Nat → ClD}
noncomputable def QA (t : TS) (nf : Nat) (D : Nat → ClD) (q : Nat → Nat) (on : Int32) (j : Nat) : Nat × Int32 × Int64 := askR on (t.2.2.1 82 j) (ruA (fun c => clA t nf (D c)) (q j) (q (j + 1) - q j - 1))
noncomputable def QL (t : TS) (nf : Nat) (D : Nat → ClD) (q : Nat → Nat) (on : Int32) (j : Nat) : Int64 × Int64 := if on < t.2.2.1 82 j then (0, 0) else kpL (evS t nf (D (q j)).1 [])
noncomputable def QR (t : TS) (nf : Nat) (D : Nat → ClD) (q : Nat → Nat) (on : Int32) (j : Nat) : Int64 × Int64 := if on < t.2.2.1 82 j then (0, 0) else kpQ (evS t nf (D (q j)).1 []) (evS t nf (D (q j)).2.1 [])
/-- a rule that was asked -/
def DoneR (hq : lHeap) (s S : CS) (t b : TS) (nf : Nat) (D : Nat → ClD) (q : Nat → Nat) (on : Int32) (j a : Nat) : Prop := ∃ (nm cc ex : Nat) (o1 o2 o3 o4 o5 sr lf rf ms : Value) (wy : Int32), s.1 a = some (true, false, 70, [.ref nm, .ref cc, .ref ex, .int (t.2.2.1 82 j), o1, o2, o3, o4, o5]) ∧ S.1 a = some (true, false, 70, [.ref nm, .ref cc, .ref ex, .int (t.2.2.1 82 j), sr, lf, rf, .int wy, ms]) ∧ RuA hq s.2.1 S sr lf rf wy ms (QA t nf D q on j) (QL t nf D q on j) (QR t nf D q on j) ∧ AnsR b j (QA t nf D q on j) (QL t nf D q on j) (QR t nf D q on j)
theorem sid_ne : ∀ k : Fin 5, k.val ≠ 1 → sid k.val ≠ 85 := by decide
theorem ask_lp {hq : lHeap} {t1 : TS} {on : Int32} (E : EnvA t nf s) (h81 : s.1 81 = some (false, false, 1000, txV [])) (hst : ∀ k, k ≤ 4 → s.1 (sid k) = some (false, false, 131, [.int (Int32.ofNat k)])) (hs : Sub hq s) (hl : s.1 rl = some (true, false, 1013, .int mc :: rowC (fun k => .ref (ru k)) nr)) (h104 : ∃ x y z, s.1 104 = some (true, false, 78, [x, y, .ref 107, z])) (e205 : t.1 205 = Int32.ofNat nr) (hnr : nr ≤ 12) (q60 : q nr < 60) (hR : ∀ k, k < nr → ∃ (nm cc ex : Nat) (o1 o2 o3 o4 o5 : Value) (mc' : Int32) (m : Nat) (CE : Nat → Nat), s.1 (ru k) = some (true, false, 70, [.ref nm, .ref cc, .ref ex, .int (t.2.2.1 82 k), o1, o2, o3, o4, o5]) ∧ s.1 ex = some (true, false, 1013, .int mc' :: rowC (fun j => .ref (CE j)) m) ∧ ClP hq cc (D (q k)).1 (D (q k)).2.1 (D (q k)).2.2 ∧ (∀ j, j < m → ClP hq (CE j) (D (q k + 1 + j)).1 (D (q k + 1 + j)).2.1 (D (q k + 1 + j)).2.2) ∧ t.2.2.1 80 k = Int32.ofNat (q k) ∧ t.2.2.1 81 k = Int32.ofNat m ∧ q (k + 1) = q k + 1 + m) (inj : ∀ j k, j < nr → k < nr → ru j = ru k → j = k) (hc : ∀ c, c < q nr → RcS t c (D c) (bb c) ∧ bb (c + 1) = bb c + (D c).1.length + (D c).2.1.length) (f1 : TF t t1) (h40 : nf ≤ 40) (h2 : t.1 202 = Int32.ofNat nf) : ∃ x y, wh (S := CS × Int32 × Int32) (X := CS × Int32) (fun p18 => Option.bind (alHas p18.1 rl p18.2.2) (fun x6 => (if x6 = 0 then some (.inr (p18.1, p18.2.1)) else Option.bind (alNext p18.1 rl mc p18.2.2) (fun e7 => Option.bind (toN p18.1 [70] e7) (fun a8 => Option.bind (xN p18.1 [(78, 2)] 104) (fun a9 => (if isK p18.1 [70] a8 = true then Option.bind (c_947 a8 on a9 p18.1) (fun x10 => Option.bind (xR x10 [(70, 4)] a8) (fun r11 => Option.bind ((if r11 = some 85 then some 1 else (if nst x10 (vR r11) = true then some 0 else none))) (fun v38 => some (.inl (x10, p18.2.1 + v38, p18.2.2 + 1))))) else none))))))) (s, 0, 0) = some x ∧ wh (S := TS × Int32 × Int32) (X := TS × Int32) (fun p7 => (if p7.2.2 < (p7.1.1 205) then Option.bind (stL p7.1 90 12 p7.2.2 0) (fun s2 => Option.bind (stL s2 91 12 p7.2.2 0) (fun s3 => Option.bind (stL s3 92 12 p7.2.2 0) (fun s4 => Option.bind (stL s4 93 12 p7.2.2 0) (fun s5 => Option.bind (t_753 p7.2.2 on 1 s5) (fun x6 => Option.bind (stI x6.2 89 12 p7.2.2 x6.1) (fun s7 => Option.bind (stI s7 94 12 p7.2.2 (s7.1 240)) (fun s8 => Option.bind (stL s8 95 12 p7.2.2 (s8.2.1 241)) (fun s9 => Option.bind (rdI s9 89 12 p7.2.2) (fun x10 => Option.bind ((if x10 = 1 then some 1 else some 0)) (fun v62 => some (.inl (s9, p7.2.1 + v62, p7.2.2 + 1)))))))))))) else some (.inr (p7.1, p7.2.1)))) (t1, 0, 0) = some y ∧ x.2 = y.2 ∧ wfS x.1 ∧ s.2.1 ≤ x.1.2.1 ∧ (∀ p, p < s.2.1 → (∀ j, j < nr → p ≠ ru j) → x.1.1 p = s.1 p) ∧ x.1.2.2.1 ≤ s.2.2.1 + 3 * (2 * bb (q nr) + q nr + nr) ∧ x.1.2.2.2 ≤ s.2.2.2 + 9 * (2 * bb (q nr) + q nr + nr) ∧ TF t y.1 ∧ ∀ j, j < nr → DoneR hq s x.1 t y.1 nf D q on j (ru j) := by
  refine wh_two nr (fun k (a : CS × Int32 × Int32) (b : TS × Int32 × Int32) => a.2.2 = Int32.ofNat k ∧ b.2.2 = Int32.ofNat k ∧ a.2.1 = b.2.1 ∧ wfS a.1 ∧ s.2.1 ≤ a.1.2.1 ∧ (∀ p, p < s.2.1 → (∀ j, j < k → p ≠ ru j) → a.1.1 p = s.1 p) ∧ a.1.2.2.1 + 3 * (2 * bb (q 0) + q 0) ≤ s.2.2.1 + 3 * (2 * bb (q k) + q k + k) ∧ a.1.2.2.2 + 9 * (2 * bb (q 0) + q 0) ≤ s.2.2.2 + 9 * (2 * bb (q k) + q k + k) ∧ TF t b.1 ∧ ∀ j, j < k → DoneR hq s a.1 t b.1 nf D q on j (ru j)) ?_ ?_ ⟨rfl, rfl, rfl, E.1, Nat.le_refl _, fun _ _ _ => rfl, by dsimp only; omega, by dsimp only; omega, f1, fun j hj => absurd hj (Nat.not_lt_zero _)⟩
  · rintro k ⟨S, x, _⟩ ⟨b, _, _⟩ hk ⟨rfl, rfl, rfl, g1, g2, g3, g4, g5, g6, g7⟩
    right
    dsimp only at g1 g2 g3 g4 g5 g6 g7 ⊢
    have k70 : ∀ j, j < nr → ∃ w fs, s.1 (ru j) = some (w, false, 70, fs) := fun j hj => by
      obtain ⟨_, _, _, _, _, _, _, _, _, _, _, h, _⟩ := hR j hj
      exact ⟨_, _, h⟩
    have up : ∀ p c, c.2.2.1 ≠ 70 → s.1 p = some c → S.1 p = some c := fun p c z e => by
      rw [g3 p (wf_lt E.1 e) (fun j hj w => ?_)]
      · exact e
      · obtain ⟨w', fs, h⟩ := k70 j (by omega)
        rw [w, h] at e
        rw [← Option.some.inj e] at z
        exact z rfl
    obtain ⟨nm, cc, ex, o1, o2, o3, o4, o5, mc', m, CE, r1, r2, r3, r4, r5, r6, r7⟩ := hR k hk
    have ha : S.1 (ru k) = some (true, false, 70, [.ref nm, .ref cc, .ref ex, .int (t.2.2.1 82 k), o1, o2, o3, o4, o5]) := by
      rw [g3 _ (wf_lt E.1 r1) (fun j hj w => by have := inj k j hk (by omega) w; omega)]
      exact r1
    have hl' := up _ _ (by show 1013 ≠ 70; decide) hl
    obtain ⟨x1, x2, x3, h104⟩ := h104
    have h104' := up _ _ (by show 78 ≠ 70; decide) h104
    rw [alHas_r hl' (by omega) (by omega), Option.bind_some, if_neg (by rw [if_neg (by omega)]; decide), alNext_r hl' hk (by omega), Option.bind_some, toN_o ha rfl, Option.bind_some, xN_o h104' rfl rfl, Option.bind_some, if_pos (isK_t ha rfl)]
    have qm : q k < q nr := by
      have := q_mono (q := q) (nr := nr) (fun j hj => by obtain ⟨_, _, _, _, _, _, _, _, _, mm, _, _, _, _, _, _, _, hh⟩ := hR j hj; omega) (show k + 1 ≤ nr by omega) (Nat.le_refl _)
      omega
    have qk : q (k + 1) ≤ q nr := q_mono (q := q) (nr := nr) (fun j hj => by obtain ⟨_, _, _, _, _, _, _, _, _, mm, _, _, _, _, _, _, _, hh⟩ := hR j hj; omega) (show k + 1 ≤ nr by omega) (Nat.le_refl _)
    have sub : Sub hq S := fun p c e => by
      obtain ⟨w1, w2⟩ := noK_of (hs p c e)
      exact noK_in (up _ _ (kKp_ne w2 rfl) w1) w2
    have ES : EnvA t nf S := by
      refine ⟨g1, ?_, R3f_up E.2.2 (fun c hc => ?_)⟩
      · obtain ⟨⟨w1, k1⟩, ⟨w2, k2⟩, ⟨w3, k3⟩, ⟨w4, k4⟩, ⟨w5, k5⟩⟩ := E.2.1
        exact ⟨⟨w1, up _ _ (by show 1000 ≠ 70; decide) k1⟩, ⟨w2, up _ _ (by show 1000 ≠ 70; decide) k2⟩, ⟨w3, up _ _ (by show 1000 ≠ 70; decide) k3⟩, ⟨w4, up _ _ (by show 1000 ≠ 70; decide) k4⟩, ⟨w5, up _ _ (by show 1000 ≠ 70; decide) k5⟩⟩
      · obtain ⟨mc, es, h1, _⟩ := id E.2.2
        refine up _ _ ?_ hc
        rw [h1] at hc
        rw [← Option.some.inj hc]
        show 1042 ≠ 70
        decide
    have m60 : m < 60 := by omega
    obtain ⟨S', sr, lf, rf, wy, ms, e1, J, c1, A1⟩ := c_ask (t := t) (nf := nf) (on := on) (c0 := q k) (D := D) ES ⟨_, up _ _ (by show 1000 ≠ 70; decide) h81⟩ ha (up _ _ (by show 1013 ≠ 70; decide) r2) (by omega) sub r3 r4
    rw [e1, Option.bind_some]
    have mq : q (k + 1) - q k - 1 = m := by omega
    have QAe : QA t nf D q on k = askR on (t.2.2.1 82 k) (ruA (fun c => clA t nf (D c)) (q k) m) := by unfold QA; rw [mq]
    rw [← QAe] at A1
    have A1' : RuA hq S.2.1 S' sr lf rf wy ms (QA t nf D q on k) (QL t nf D q on k) (QR t nf D q on k) := A1
    obtain ⟨sre, s4, _⟩ := id A1
    rw [xR_o (b := sid (QA t nf D q on k).1) c1 rfl (by rw [← sre]; rfl), Option.bind_some]
    -- the reference
    have e205' : b.1 205 = Int32.ofNat nr := (g6.1 205 (by decide) (by decide)).trans e205
    rw [e205', if_pos ((i_lt (by omega) (by omega)).mpr hk)]
    have e77 := g6.2.2.2 77 (by decide) (by decide) (by decide) (by decide) (by decide) (by decide) (by decide)
    have e78 := g6.2.2.1 78 (by decide) (by decide)
    have rc : ∀ {c : Nat} {cc : Nat}, c < q nr → ClP hq cc (D c).1 (D c).2.1 (D c).2.2 → RcR b nf c (D c) := fun {c cc} h h' => by
      obtain ⟨ca, cb, gg, _, _, _, p1, p2⟩ := h'
      exact RcR_of (RcS_cg (g6.2.2.1 83 (by decide) (by decide)) (g6.2.2.1 84 (by decide) (by decide)) (g6.2.2.1 85 (by decide) (by decide)) (g6.2.2.1 86 (by decide) (by decide)) (g6.2.2.1 87 (by decide) (by decide)) (g6.2.2.2 88 (by decide) (by decide) (by decide) (by decide) (by decide) (by decide) (by decide)) (hc c h).1) (EvT_PT p1) (EvT_PT p2)
    obtain ⟨T, f2, F, N, A2⟩ := t_run1 (S := b) (nf := nf) (fun T v => (some (.inl (T, x + v, Int32.ofNat k + 1)) : Option (Sum (TS × Int32 × Int32) (TS × Int32)))) (k := k) (c0 := q k) (m := m) (on := on) (day := t.2.2.1 82 k) (D := D) (by omega) (by rw [g6.2.2.1 82 (by decide) (by decide)]) (by rw [g6.2.2.1 80 (by decide) (by decide)]; exact r5) (by rw [g6.2.2.1 81 (by decide) (by decide)]; exact r6) (by omega) (rc qm r3) (fun j hj => rc (by omega) (r4 j hj)) ((g6.1 202 (by decide) (by decide)).trans h2) h40
    have ce : (fun c => clA b nf (D c)) = fun c => clA t nf (D c) := by funext c; exact clA_fg e77 e78 _
    rw [ce, evS_fg e77 e78, evS_fg e77 e78, ← QAe] at A2
    rw [ce, ← QAe] at f2
    have A2' : AnsR T k (QA t nf D q on k) (QL t nf D q on k) (QR t nf D q on k) := A2
    rw [f2]
    have br : (if some (sid (QA t nf D q on k).1) = some 85 then some (1 : Int32) else (if nst S' (vR (some (sid (QA t nf D q on k).1))) = true then some 0 else none)) = some (if (QA t nf D q on k).1 = 1 then 1 else 0) := by
      have upS : ∀ p c, c.2.2.1 ≠ 70 → S.1 p = some c → S'.1 p = some c := fun p c z e => JX_up J g1 ha z e
      have hk' := upS _ _ (by show 131 ≠ 70; decide) (up _ _ (by show 131 ≠ 70; decide) (hst _ s4))
      by_cases z : (QA t nf D q on k).1 = 1
      · rw [z, if_pos (show some (sid 1) = some 85 by decide), if_pos rfl]
      · have ne : sid (QA t nf D q on k).1 ≠ 85 := sid_ne ⟨(QA t nf D q on k).1, Nat.lt_succ_of_le s4⟩ z
        rw [if_neg (fun w => ne (Option.some.inj w)), if_neg z]
        have : nst S' (vR (some (sid (QA t nf D q on k).1))) = true := by
          show (match S'.1 (sid (QA t nf D q on k).1) with | some x => x.2.2.1 != 1000 | none => false) = true
          rw [hk']; rfl
        rw [if_pos this]
    rw [br, Option.bind_some]
    have upS : ∀ p c, c.2.2.1 ≠ 70 → S.1 p = some c → S'.1 p = some c := fun p c z e => JX_up J g1 ha z e
    refine ⟨_, _, rfl, rfl, i_suc _, i_suc _, rfl, J.1, Nat.le_trans g2 J.2.1, fun p hp hj => ?_, ?_, ?_, TF_tr g6 F, fun j hj => ?_⟩
    · rw [J.2.2.1 p (by omega) (hj k (by omega))]
      exact g3 p hp (fun j h => hj j (by omega))
    · have cb := cst_bb (D := D) (bb := bb) (c := q k) (k := m + 1) (fun j hj => (hc _ (by omega)).2)
      have := J.2.2.2.1
      rw [show q k + (m + 1) = q (k + 1) by omega] at cb
      dsimp only
      omega
    · have cb := cst_bb (D := D) (bb := bb) (c := q k) (k := m + 1) (fun j hj => (hc _ (by omega)).2)
      have := J.2.2.2.2
      rw [show q k + (m + 1) = q (k + 1) by omega] at cb
      dsimp only
      omega
    · by_cases z : j = k
      · rw [z]
        refine ⟨nm, cc, ex, o1, o2, o3, o4, o5, sr, lf, rf, ms, wy, r1, c1, ?_, A2'⟩
        obtain ⟨u1, u2, u3, u4, u5⟩ := A1'
        refine ⟨u1, u2, ?_, ?_, u5⟩
        · rcases u3 with u | ⟨f, u, v, w⟩
          · exact Or.inl u
          · exact Or.inr ⟨f, u, v, Nat.le_trans g2 w⟩
        · rcases u4 with u | ⟨f, u, v, w⟩
          · exact Or.inl u
          · exact Or.inr ⟨f, u, v, Nat.le_trans g2 w⟩
      · obtain ⟨nm, cc, ex, o1, o2, o3, o4, o5, sr, lf, rf, ms, wy, d1, d2, d3, d4⟩ := g7 j (by omega)
        refine ⟨nm, cc, ex, o1, o2, o3, o4, o5, sr, lf, rf, ms, wy, d1, ?_, RuA_up upS d3, AnsR_up N z d4⟩
        rw [J.2.2.1 _ (wf_lt g1 d2) (fun w => z (inj j k (by omega) hk w))]
        exact d2
  · rintro ⟨S, x, _⟩ ⟨b, _, _⟩ ⟨rfl, rfl, rfl, g1, g2, g3, g4, g5, g6, g7⟩
    dsimp only at g1 g2 g3 g4 g5 g6 g7 ⊢
    have up : ∀ p c, c.2.2.1 ≠ 70 → s.1 p = some c → S.1 p = some c := fun p c z e => by
      rw [g3 p (wf_lt E.1 e) (fun j hj w => ?_)]
      · exact e
      · obtain ⟨_, _, _, _, _, _, _, _, _, _, _, h, _⟩ := hR j (by omega)
        rw [w, h] at e
        rw [← Option.some.inj e] at z
        exact z rfl
    have e205' : b.1 205 = Int32.ofNat nr := (g6.1 205 (by decide) (by decide)).trans e205
    rw [alHas_r (up _ _ (by show 1013 ≠ 70; decide) hl) (by omega) (by omega), Option.bind_some, if_pos (if_pos rfl), e205', if_neg (fun w => by have := (i_lt (by omega) (by omega)).mp w; omega)]
    exact ⟨_, _, rfl, rfl, rfl, g1, g2, g3, by dsimp only; omega, by dsimp only; omega, g6, g7⟩
end
