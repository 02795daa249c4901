/-! permits: check, both sides -/
section
variable {s : CS} {t T : TS} {own : Nat → Nat} {nf n nr rl : Nat} {mc : Int32} {ru q bb : Nat → Nat} {D : Nat → ClD}
theorem TF_rt (f : TF t T) {Z : Nat} (hZ : Z ≠ 3) : rt T Z = rt t Z := by
  obtain ⟨f1, f2, f3, f4⟩ := f
  have m : ∀ {a : Nat}, (∃ c, mI c = 3 ∧ c = a) → mI a ≠ Z := fun ⟨c, h, e⟩ w => by rw [← e, h] at w; exact hZ w.symm
  unfold rt
  refine Prod.ext ?_ (Prod.ext ?_ (Prod.ext ?_ ?_)) <;> dsimp only
  · funext c
    by_cases z : mI c = Z
    · rw [if_pos z, if_pos z]
      exact f1 c (fun w => by rw [w] at z; exact hZ z.symm) (fun w => by rw [w] at z; exact hZ z.symm)
    · rw [if_neg z, if_neg z]
  · funext c
    by_cases z : mI c = Z
    · rw [if_pos z, if_pos z]
      exact f2 c (fun w => by rw [w] at z; exact hZ z.symm) (fun w => by rw [w] at z; exact hZ z.symm) (fun w => by rw [w] at z; exact hZ z.symm)
    · rw [if_neg z, if_neg z]
  · funext c k
    by_cases z : mR c = Z
    · rw [if_pos z, if_pos z, f3 c (fun w => by rw [w] at z; exact hZ z.symm) (fun w => by rw [w] at z; exact hZ z.symm)]
    · rw [if_neg z, if_neg z]
  · funext c k
    by_cases z : mR c = Z
    · rw [if_pos z, if_pos z, f4 c (fun w => by rw [w] at z; exact hZ z.symm) (fun w => by rw [w] at z; exact hZ z.symm) (fun w => by rw [w] at z; exact hZ z.symm) (fun w => by rw [w] at z; exact hZ z.symm) (fun w => by rw [w] at z; exact hZ z.symm) (fun w => by rw [w] at z; exact hZ z.symm) (fun w => by rw [w] at z; exact hZ z.symm)]
    · rw [if_neg z, if_neg z]
def own3 (own : Nat → Nat) (b : Nat) : Nat → Nat := fun p => if p < b then own p else 3
theorem own3_lt {b p : Nat} (h : p < b) : own3 own b p = own p := if_pos h
theorem own3_ge {b p : Nat} (h : b ≤ p) : own3 own b p = 3 := if_neg (by omega)
theorem R3f_cg {h : lHeap} (e1 : T.1 202 = t.1 202) (e77 : T.2.2.2 77 = t.2.2.2 77) (e78 : T.2.2.1 78 = t.2.2.1 78) (r : R3f h t nf) : R3f h T nf := by
  obtain ⟨mc, es, r1, r2, r3, r4, r5, r6, r7⟩ := r
  refine ⟨mc, es, r1, ?_, r3, r4, e1.trans r5, r6, fun i j => by rw [e77]; exact r7 i j⟩
  rw [show fcM T nf = fcM t nf from ?_]
  · exact r2
  · funext z
    unfold fcM
    rw [fcI_cg e77, e78]
theorem txV_nil {xs : List Nat} (h : txV xs = txV []) : xs = [] := by
  cases xs with
  | nil => rfl
  | cons x xs => exact absurd h (by unfold txV; simp)
theorem pm_check (hw : wfS s) (hs : 179 ≤ s.2.1) (k3 : K3 (rs s.1 own 11)) (r : R3 (rs s.1 own 3) t) (v1 : Int32) : Rg thr0 (fun X => X = 3) 3 (fun H t => R3 (H 3) t) own s t 1800 5200 (c_977 104 v1 s) (t_580 v1 t) := by
  have dy : (if v1 < 0 then some (0 : Int32) else (if 1000000 < v1 then some 0 else some 1)) = some (if v1 < 0 ∨ 1000000 < v1 then 0 else 1) := by
    by_cases a : v1 < 0
    · rw [if_pos a, if_pos (Or.inl a)]
    · by_cases b : 1000000 < v1
      · rw [if_neg a, if_pos b, if_pos (Or.inr b)]
      · rw [if_neg a, if_neg b, if_neg (fun w => w.elim a b)]
  by_cases bad : v1 < 0 ∨ 1000000 < v1
  · refine Rg.arg (x := (0 : Int32)) (a := 0) (b := 0) hw r ?_ ?_ (by omega) (by omega)
    · unfold c_977
      rw [dy, if_pos bad, Option.bind_some, need_eq, if_pos rfl, Option.bind_some, Sum.elim_inr]; rfl
    · unfold t_580 t_581
      rw [dy, if_pos bad, Option.bind_some, goes_eq, Option.bind_some, if_pos (Or.inl rfl), if_pos rfl, if_pos rfl]
  have v0 : ¬ v1 = -1 := fun w => bad (Or.inl (by rw [w]; decide))
  obtain ⟨nf, n, nr, rl, mc, ru, q, bb, D, r1, rD, rT, rF, rL, r205, nr12, q0, q60, rR, inj, bb0, bbN, rC⟩ := r
  obtain ⟨sg, h81⟩ := K3_sg k3
  have g : ∀ {p c}, rs s.1 own 3 p = some c → s.1 p = some c := fun h => (rs_some.mp h).2
  obtain ⟨S2, hS2⟩ : ∃ S2, S2 = chg (cup s 104 (true, false, 78, [.ref 105, .ref rl, .ref 107, .int v1])) 1 4 := ⟨_, rfl⟩
  have w2 : wfS S2 := by rw [hS2]; exact wf_chg (wf_cup hw (by omega))
  have b2 : S2.2.1 = s.2.1 := by rw [hS2]; rfl
  have up2 : ∀ p c, c.2.2.1 ≠ 78 → s.1 p = some c → S2.1 p = some c := fun p c z e => by
    rw [hS2]
    show (cup s 104 _).1 p = _
    rw [cup_ne (fun w => ?_)]
    · exact e
    · rw [w, g r1] at e
      rw [← Option.some.inj e] at z
      exact z rfl
  have e104 : S2.1 104 = some (true, false, 78, [.ref 105, .ref rl, .ref 107, .int v1]) := by rw [hS2]; show (cup s 104 _).1 104 = _; exact cup_eq ..
  obtain ⟨t1, ht1⟩ : ∃ t1, t1 = ptI (ptI t 0 0) 218 v1 := ⟨_, rfl⟩
  have t2 : t1.2 = t.2 := by rw [ht1]; rfl
  have tn : ∀ c, c ≠ 0 → c ≠ 218 → t1.1 c = t.1 c := fun c a b => by rw [ht1]; exact (if_neg b).trans (if_neg a)
  have t20 : t1.1 202 = t.1 202 := tn 202 (by decide) (by decide)
  have e77 : t1.2.2.2 77 = t.2.2.2 77 := by rw [t2]
  have e78 : t1.2.2.1 78 = t.2.2.1 78 := by rw [t2]
  have E : EnvA t1 nf S2 := by
    refine ⟨w2, ?_, R3f_cg t20 e77 e78 (R3f_up (R3f_up rF (fun c h => g h)) (fun c h => up2 107 c ?_ h))⟩
    · obtain ⟨⟨w1, k1⟩, ⟨w2, k2⟩, ⟨w3, k3⟩, ⟨w4, k4⟩, ⟨w5, k5⟩⟩ := sg
      exact ⟨⟨w1, up2 _ _ (by show 1000 ≠ 78; decide) k1⟩, ⟨w2, up2 _ _ (by show 1000 ≠ 78; decide) k2⟩, ⟨w3, up2 _ _ (by show 1000 ≠ 78; decide) k3⟩, ⟨w4, up2 _ _ (by show 1000 ≠ 78; decide) k4⟩, ⟨w5, up2 _ _ (by show 1000 ≠ 78; decide) k5⟩⟩
    · obtain ⟨mc, es, h1, _⟩ := id rF
      rw [g h1] at h
      rw [← Option.some.inj h]
      show 1042 ≠ 78
      decide
  have hst : ∀ k, k ≤ 4 → S2.1 (sid k) = some (false, false, 131, [.int (Int32.ofNat k)]) := fun k hk => up2 _ _ (by show 131 ≠ 78; decide) (rs_some.mp (k3.2.1 k hk)).2
  have sub : Sub (noK (rs s.1 own 3)) S2 := fun p c e => by
    obtain ⟨w1, w2⟩ := noK_of e
    exact noK_in (up2 _ _ (kKp_ne w2 rfl) (g w1)) w2
  have h40 : nf ≤ 40 := by obtain ⟨_, _, _, _, _, _, _, h, _⟩ := rF; exact h
  have h202 : t.1 202 = Int32.ofNat nf := by obtain ⟨_, _, _, _, _, _, h, _⟩ := rF; exact h
  have hR : ∀ k, k < nr → ∃ (nm cc ex : Nat) (o1 o2 o3 o4 o5 : Value) (mc' : Int32) (m : Nat) (CE : Nat → Nat), S2.1 (ru k) = some (true, false, 70, [.ref nm, .ref cc, .ref ex, .int (t1.2.2.1 82 k), o1, o2, o3, o4, o5]) ∧ S2.1 ex = some (true, false, 1013, .int mc' :: rowC (fun j => .ref (CE j)) m) ∧ ClP (noK (rs s.1 own 3)) cc (D (q k)).1 (D (q k)).2.1 (D (q k)).2.2 ∧ (∀ j, j < m → ClP (noK (rs s.1 own 3)) (CE j) (D (q k + 1 + j)).1 (D (q k + 1 + j)).2.1 (D (q k + 1 + j)).2.2) ∧ t1.2.2.1 80 k = Int32.ofNat (q k) ∧ t1.2.2.1 81 k = Int32.ofNat m ∧ q (k + 1) = q k + 1 + m := fun k hk => by
    obtain ⟨nm, cc, ex, sr, lf, rf, wy, ms, mc', m, CE, h1, ⟨h2, h3, h4, h5, h6, h7⟩, _⟩ := rR k hk
    rw [t2]
    exact ⟨nm, cc, ex, sr, lf, rf, .int wy, ms, mc', m, CE, up2 _ _ (by show 70 ≠ 78; decide) (g h1), up2 _ _ (by show 1013 ≠ 78; decide) (g h2), h3, h4, h5, h6, h7⟩
  have cI : ∀ q, t1.2.2.1 q = t.2.2.1 q := fun q => by rw [t2]
  have cL : ∀ q, t1.2.2.2 q = t.2.2.2 q := fun q => by rw [t2]
  obtain ⟨x, y, ex, ey, xy, xw, xb, xs, xc, xd, F, dn⟩ := ask_lp (s := S2) (t := t1) (t1 := t1) (nf := nf) (mc := mc) (on := v1) (hq := noK (rs s.1 own 3)) (bb := bb) E (up2 _ _ (by show 1000 ≠ 78; decide) h81) hst sub (up2 _ _ (by show 1013 ≠ 78; decide) (g rL)) ⟨_, _, _, e104⟩ ((tn 205 (by decide) (by decide)).trans r205) nr12 q60 hR inj (fun c hc => ⟨RcS_cg (cI 83) (cI 84) (cI 85) (cI 86) (cI 87) (cL 88) (rC c hc).1, (rC c hc).2⟩) TF_0 h40 (t20.trans h202)
  rw [b2] at xb xs
  have ruk : ∀ j, j < nr → ∃ fs, rs s.1 own 3 (ru j) = some (true, false, 70, fs) := fun j hj => by
    obtain ⟨nm, cc, ex, sr, lf, rf, wy, ms, mc', m, CE, h1, _⟩ := rR j hj
    exact ⟨_, h1⟩
  have upx : ∀ p c, c.2.2.1 ≠ 70 → S2.1 p = some c → p < s.2.1 → x.1.1 p = some c := fun p c z e hp => by
    rw [xs p hp (fun j hj w => ?_)]
    · exact e
    · obtain ⟨fs, h⟩ := ruk j hj
      rw [w, up2 _ _ (by show 70 ≠ 78; decide) (g h)] at e
      rw [← Option.some.inj e] at z
      exact z rfl
  have U : ∀ p c, c.2.2.1 ≠ 70 → c.2.2.1 ≠ 78 → rs s.1 own 3 p = some c → rs x.1.1 (own3 own s.2.1) 3 p = some c := fun p c z z' e => by
    obtain ⟨o, e'⟩ := rs_some.mp e
    have lp := wf_lt hw e'
    exact rs_some.mpr ⟨by rw [own3_lt lp]; exact o, upx p c z (up2 p c z' e') lp⟩
  have Uk : ∀ p c, noK (rs s.1 own 3) p = some c → noK (rs x.1.1 (own3 own s.2.1) 3) p = some c := fun p c e => by
    obtain ⟨w1, w2⟩ := noK_of e
    exact noK_in (U p c (kKp_ne w2 rfl) (kKp_ne w2 rfl) w1) w2
  have y218 : y.1.1 218 = v1 := (F.1 218 (by decide) (by decide)).trans (by rw [ht1]; rfl)
  have o104 : own 104 = 3 := (rs_some.mp r1).1
  have bbm : 3 * (2 * bb (q nr) + q nr + nr) ≤ 1796 := by omega
  refine Or.inl ⟨x.2, x.1, y.1, own3 own s.2.1, ?_, ?_, ?_, fun Z h1 h2 => ?_, ?_, ?_, ?_, ?_⟩
  · unfold c_977
    have hl' : (cup s 104 (true, false, 78, [.ref 105, .ref rl, .ref 107, .int v1])).1 rl = some (true, false, 1013, .int mc :: rowC (fun k => .ref (ru k)) nr) := up2 _ _ (by show 1013 ≠ 78; decide) (g rL) |> fun h => by rw [hS2] at h; exact h
    rw [dy, if_neg bad, Option.bind_some, need_eq, if_neg (by decide), Option.bind_some, Sum.elim_inl, xP_c (g r1) rfl (by show 3 < 4; decide) (show List.set _ 3 _ = [.ref 105, .ref rl, .ref 107, .int v1] from rfl), Option.bind_some, xN_o (cup_eq ..) rfl rfl, Option.bind_some, if_pos (isK_t hl' rfl), alMc_l hl', Option.bind_some]
    dsimp only
    rw [← hS2, ex, Option.bind_some]
  · unfold t_580 t_581
    rw [dy, if_neg bad, Option.bind_some, goes_eq, Option.bind_some]
    rw [if_neg (show ¬ ((1 : Int32) = 0 ∨ (1 : Int32) = 0) by decide), if_neg (show ¬ (1 : Int32) = 0 by decide), if_neg (show ¬ (1 : Int32) = 0 by decide)]
    dsimp only
    rw [if_neg (show ¬ (1 : Int32) = 0 by decide)]
    unfold t_752
    rw [Option.bind_some, ← ht1, ey, Option.bind_some, Option.bind_some, xy]
  · exact (F.1 0 (by decide) (by decide)).trans (by rw [ht1]; rfl)
  · rw [TF_rt F h1, ht1]
    rw [rt_ptI (fun w => h1 (by rw [← w]; decide)), rt_ptI (fun w => h2 (by rw [← w]; decide))]
  · refine frm_pt (fun p => p = 104 ∨ ∃ j, j < nr ∧ p = ru j) (fun p hp h => ?_) (fun p hp h => ?_) xb (fun p hp => own3_lt hp) (fun p h1 h2 => own3_ge h1) xw
    · rcases h with rfl | ⟨j, hj, rfl⟩
      · exact o104
      · obtain ⟨fs, h⟩ := ruk j hj
        exact (rs_some.mp h).1
    · rw [xs p hp (fun j hj w => h (Or.inr ⟨j, hj, w⟩)), hS2]
      show (cup s 104 _).1 p = _
      exact cup_ne (fun w => h (Or.inl w))
  · refine ⟨nf, n, nr, rl, mc, ru, q, bb, D, ?_, Or.inr (by rw [y218]; exact fun w => bad (Or.inl w)), ?_, ?_, ?_⟩
    · rw [y218]
      exact rs_some.mpr ⟨by rw [own3_lt (by omega)]; exact o104, upx 104 _ (by show 78 ≠ 70; decide) e104 (by omega)⟩
    · obtain ⟨a1, a2, a3, a4⟩ := rT
      have e76 : y.1.2.2.1 76 = t.2.2.1 76 := (F.2.2.1 76 (by decide) (by decide)).trans (cI 76)
      refine ⟨?_, (F.1 201 (by decide) (by decide)).trans ((tn 201 (by decide) (by decide)).trans a2), a3, by rw [e76]; exact a4⟩
      rw [e76]
      exact U _ _ (by show 1035 ≠ 70; decide) (by show 1035 ≠ 78; decide) a1
    · refine R3f_tf F (R3f_cg t20 e77 e78 (R3f_up rF (fun c h => U 107 c ?_ ?_ h)))
      · obtain ⟨mc, es, h1, _⟩ := id rF
        rw [h1] at h; rw [← Option.some.inj h]; show 1042 ≠ 70; decide
      · obtain ⟨mc, es, h1, _⟩ := id rF
        rw [h1] at h; rw [← Option.some.inj h]; show 1042 ≠ 78; decide
    · refine ⟨U _ _ (by show 1013 ≠ 70; decide) (by show 1013 ≠ 78; decide) rL, (F.1 205 (by decide) (by decide)).trans ((tn 205 (by decide) (by decide)).trans r205), nr12, q0, q60, fun k hk => ?_, inj, bb0, bbN, fun c hc => ⟨?_, (rC c hc).2⟩⟩
      · obtain ⟨nm, cc, ex, sr0, lf0, rf0, wy0, ms0, mc', m, CE, h1, ⟨h2, h3, h4, h5, h6, h7⟩, _⟩ := rR k hk
        obtain ⟨nm', cc', ex', o1, o2, o3, o4, o5, sr, lf, rf, ms, wy, d1, d2, d3, d4⟩ := dn k hk
        have h1' := up2 _ _ (by show 70 ≠ 78; decide) (g h1)
        rw [d1] at h1'
        simp only [Option.some.injEq, Prod.mk.injEq, List.cons.injEq, Value.ref.injEq] at h1'
        obtain ⟨_, _, _, rfl, rfl, rfl, _⟩ := h1'
        have lp : ru k < s.2.1 := wf_lt hw (g h1)
        have ok : own (ru k) = 3 := (rs_some.mp h1).1
        refine ⟨nm', cc', ex', sr, lf, rf, wy, ms, mc', m, CE, ?_, ⟨U _ _ (by show 1013 ≠ 70; decide) (by show 1013 ≠ 78; decide) h2, ClP_up Uk h3, fun j hj => ClP_up Uk (h4 j hj), ?_, ?_, h7⟩, Or.inr ⟨by rw [y218]; exact v0, ?_⟩⟩
        · rw [F.2.2.1 82 (by decide) (by decide)]
          exact rs_some.mpr ⟨by rw [own3_lt lp]; exact ok, d2⟩
        · rw [F.2.2.1 80 (by decide) (by decide), cI]; exact h5
        · rw [F.2.2.1 81 (by decide) (by decide), cI]; exact h6
        · obtain ⟨u1, u2, u3, u4, u5, b, w, xs', u6, u7, u8, u9, u10⟩ := d3
          obtain ⟨a1, a2, a3, a4, a5, a6, a7⟩ := d4
          have fk : ∀ {v : Value} {p : Int64 × Int64}, FrK S2.2.1 x.1 v p → FrK 0 ((rs x.1.1 (own3 own s.2.1) 3, 0, 0, 0) : CS) v p := fun {v p} h => by
            rcases h with h | ⟨f, h1, h2, h3⟩
            · exact Or.inl h
            · exact Or.inr ⟨f, h1, rs_some.mpr ⟨own3_ge (by rw [← b2]; exact h3), h2⟩, Nat.zero_le _⟩
          refine ⟨_, u2, u1, a1, ?_, ?_, u5.trans a2.symm, b, u6, ?_⟩
          · rw [a4, a5]; exact fk u3
          · rw [a6, a7]; exact fk u4
          · have cst : ∀ p, (p, ([] : List Nat)) ∈ sTab3 → b = p → y.1.2.2.2 95 k = 0 := fun p hp e => by
              have e1 := (rs_some.mp (k3.1 (p, []) hp)).2
              have e2 := upx p _ (by show 1000 ≠ 70; decide) (up2 p _ (by show 1000 ≠ 78; decide) e1) (wf_lt hw e1)
              rw [← e, u7] at e2
              simp only [Option.some.injEq, Prod.mk.injEq] at e2
              rw [a3, ← u9, txV_nil e2.2.2.2]; rfl
            rcases u10 with e | e | e
            · exact Or.inl ⟨Or.inl e, cst 81 (by decide) e⟩
            · exact Or.inl ⟨Or.inr e, cst 91 (by decide) e⟩
            · refine Or.inr ⟨w, xs', rs_some.mpr ⟨?_, u7⟩, u8, u9.trans a3.symm⟩
              cases hb : noK (rs s.1 own 3) b with
              | none => exact absurd hb e
              | some c =>
                obtain ⟨w1, _⟩ := rs_some.mp (noK_of hb).1
                rw [own3_lt (wf_lt hw (g (noK_of hb).1))]; exact w1
      · exact RcS_cg ((F.2.2.1 83 (by decide) (by decide)).trans (cI 83)) ((F.2.2.1 84 (by decide) (by decide)).trans (cI 84)) ((F.2.2.1 85 (by decide) (by decide)).trans (cI 85)) ((F.2.2.1 86 (by decide) (by decide)).trans (cI 86)) ((F.2.2.1 87 (by decide) (by decide)).trans (cI 87)) ((F.2.2.2 88 (by decide) (by decide) (by decide) (by decide) (by decide) (by decide) (by decide)).trans (cL 88)) (rC c hc).1
  · have c1 : S2.2.2.1 = s.2.2.1 + 1 := by rw [hS2]; rfl
    omega
  · have c1 : S2.2.2.2 = s.2.2.2 + 4 := by rw [hS2]; rfl
    omega
end
