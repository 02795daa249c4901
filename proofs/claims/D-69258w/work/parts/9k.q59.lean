/-! permits: the text and the facts change, the rules stay -/
section
variable {s S : CS} {t T : TS} {own : Nat → Nat} {h h' : lHeap} {nf n nr rl : Nat} {mc : Int32} {ru q bb : Nat → Nat} {D : Nat → ClD}
def AgQ (t T : TS) : Prop := (∀ c, c = 205 ∨ c = 218 → T.1 c = t.1 c) ∧ (∀ c, c = 89 ∨ c = 94 → T.2.2.1 c = t.2.2.1 c) ∧ (∀ c, c = 90 ∨ c = 91 ∨ c = 92 ∨ c = 93 ∨ c = 95 → T.2.2.2 c = t.2.2.2 c) ∧ (∀ c, c = 80 ∨ c = 81 ∨ c = 82 ∨ c = 83 ∨ c = 84 ∨ c = 85 ∨ c = 86 ∨ c = 87 → T.2.2.1 c = t.2.2.1 c) ∧ T.2.2.2 88 = t.2.2.2 88
theorem AskedR_upq {k : Nat} {sr lf rf ms : Value} {wy : Int32} (e : ∀ p c, c.2.2.1 ≠ 1035 → c.2.2.1 ≠ 1042 → h p = some c → h' p = some c) (a : AgQ t T) (r : AskedR h t k sr lf rf wy ms) : AskedR h' T k sr lf rf wy ms := by
  obtain ⟨sn, r1, r2, r3, r4, r5, r6, b, r7, r8⟩ := r
  have fk : ∀ {v : Value} {p : Int64 × Int64}, FrK 0 ((h, 0, 0, 0) : CS) v p → FrK 0 ((h', 0, 0, 0) : CS) v p := fun {v p} r => by
    rcases r with r | ⟨f, r1, r2, r3⟩
    · exact Or.inl r
    · exact Or.inr ⟨f, r1, e _ _ (by show 76 ≠ 1035; decide) (by show 76 ≠ 1042; decide) r2, r3⟩
  refine ⟨sn, r1, r2, by rw [a.2.1 89 (by decide)]; exact r3, ?_, ?_, by rw [a.2.1 94 (by decide)]; exact r6, b, r7, ?_⟩
  · rw [a.2.2.1 90 (by decide), a.2.2.1 91 (by decide)]; exact fk r4
  · rw [a.2.2.1 92 (by decide), a.2.2.1 93 (by decide)]; exact fk r5
  · rw [a.2.2.1 95 (by decide)]
    rcases r8 with r8 | ⟨w, xs, q1, q2⟩
    · exact Or.inl r8
    · exact Or.inr ⟨w, xs, e _ _ (by show 1000 ≠ 1035; decide) (by show 1000 ≠ 1042; decide) q1, q2⟩
theorem R3_upq {nf' n' : Nat} (e : ∀ p c, c.2.2.1 ≠ 1035 → c.2.2.1 ≠ 1042 → h p = some c → h' p = some c) (g : AgQ t T) (hT : R3t h' T n') (hF : R3f h' T nf') (r : R3 h t) : R3 h' T := by
  obtain ⟨nf, n, nr, rl, mc, ru, q, bb, D, r1, rD, _, _, rL, r205, nr12, q0, q60, rR, inj, bb0, bbN, rC⟩ := r
  have eN : ∀ p c, noK h p = some c → noK h' p = some c := fun p c w => by
    obtain ⟨w1, w2⟩ := noK_of w
    exact noK_in (e _ _ (kKp_ne w2 rfl) (kKp_ne w2 rfl) w1) w2
  have g4 := g.2.2.2.1
  refine ⟨nf', n', nr, rl, mc, ru, q, bb, D, by rw [g.1 218 (by decide)]; exact e _ _ (by show 78 ≠ 1035; decide) (by show 78 ≠ 1042; decide) r1, by rw [g.1 218 (by decide)]; exact rD, hT, hF, e _ _ (by show 1013 ≠ 1035; decide) (by show 1013 ≠ 1042; decide) rL, (g.1 205 (by decide)).trans r205, nr12, q0, q60, fun k hk => ?_, inj, bb0, bbN, fun c hc => ⟨RcS_cg (g4 83 (by decide)) (g4 84 (by decide)) (g4 85 (by decide)) (g4 86 (by decide)) (g4 87 (by decide)) g.2.2.2.2 (rC c hc).1, (rC c hc).2⟩⟩
  obtain ⟨nm, cc, ex, sr, lf, rf, wy, ms, mc, m, CE, h1, ⟨h2, h3, h4, h5, h6, h7⟩, h8⟩ := rR k hk
  refine ⟨nm, cc, ex, sr, lf, rf, wy, ms, mc, m, CE, by rw [g4 82 (by decide)]; exact e _ _ (by show 70 ≠ 1035; decide) (by show 70 ≠ 1042; decide) h1, ⟨e _ _ (by show 1013 ≠ 1035; decide) (by show 1013 ≠ 1042; decide) h2, ClP_up eN h3, fun j hj => ClP_up eN (h4 j hj), by rw [g4 80 (by decide)]; exact h5, by rw [g4 81 (by decide)]; exact h6, h7⟩, ?_⟩
  rw [g.1 218 (by decide)]
  exact h8.imp id (fun ⟨u, v⟩ => ⟨u, AskedR_upq e g v⟩)
/-- trim -/
theorem pm_trim (hw : wfS s) (r : R3 (rs s.1 own 3) t) (v1 : Int32) : Rg thr0 (fun X => X = 3) 3 (fun H t => R3 (H 3) t) own s t 0 0 (c_972 104 v1 s) (t_575 v1 t) := by
  have r0 := r
  obtain ⟨nf, n, nr, rl, mc, ru, q, bb, D, r1, rD, ⟨x1, x2, x3, x4⟩, rF, _⟩ := r
  have g : ∀ {p c}, rs s.1 own 3 p = some c → s.1 p = some c := fun h => (rs_some.mp h).2
  have sbl : ∀ {S : CS} {f : Nat → Value} {m : Nat}, S.1 105 = some (true, false, 1035, rowC f m) → sbLen S 105 = some (Int32.ofNat m) := fun {S f m} h => by
    unfold sbLen sbCt cc
    rw [h]
    show Option.bind (some (rowC f m)) _ = _
    rw [Option.bind_some, rowC_len]
  have o105 : own 105 = 3 := (rs_some.mp x1).1
  have l105 := wf_lt hw (g x1)
  have ca : (if v1 < 0 then some (0 : Int32) else Option.bind (xN s [(78, 0)] 104) (fun a1 => (if isK s [35] a1 = true then Option.bind (sbLen s a1) (fun x2 => (if x2 < v1 then some 0 else some 1)) else none))) = some (if ¬ v1 < 0 ∧ ¬ Int32.ofNat n < v1 then 1 else 0) := by
    by_cases a : v1 < 0
    · rw [if_pos a, if_neg (fun w => w.1 a)]
    · rw [if_neg a, xN_o (g r1) rfl rfl, Option.bind_some, if_pos (isK_t (g x1) rfl), sbl (g x1), Option.bind_some]
      by_cases b : Int32.ofNat n < v1
      · rw [if_pos b, if_neg (fun w => w.2 b)]
      · rw [if_neg b, if_pos ⟨a, b⟩]
  have ta : (if v1 < 0 then some (0 : Int32) else (if (t.1 201) < v1 then some 0 else some 1)) = some (if ¬ v1 < 0 ∧ ¬ Int32.ofNat n < v1 then 1 else 0) := by
    rw [x2]
    by_cases a : v1 < 0
    · rw [if_pos a, if_neg (fun w => w.1 a)]
    · by_cases b : Int32.ofNat n < v1
      · rw [if_neg a, if_pos b, if_neg (fun w => w.2 b)]
      · rw [if_neg a, if_neg b, if_pos ⟨a, b⟩]
  by_cases z : ¬ v1 < 0 ∧ ¬ Int32.ofNat n < v1
  rotate_left
  · refine Rg.arg (x := (0 : Int32)) (a := 0) (b := 0) hw r0 ?_ ?_ (by omega) (by omega)
    · unfold c_972
      rw [ca, if_neg z, Option.bind_some, need_eq, if_pos rfl, Option.bind_some, Sum.elim_inr]; rfl
    · unfold t_575
      rw [ta, if_neg z, Option.bind_some, goes_0, Option.bind_some]; exact if_pos rfl
  obtain ⟨v, hv, rfl⟩ := i_of z.1
  have vn : v ≤ n := by
    have : ¬ n < v := fun w => z.2 ((i_lt (by omega) hv).mpr w)
    omega
  have dif : Int32.ofNat n - Int32.ofNat v = Int32.ofNat (n - v) := i_sub vn
  have tk : (rowC (fun j => Value.int (t.2.2.1 76 j)) n).take (n - v) = rowC (fun j => Value.int (t.2.2.1 76 j)) (n - v) := by
    unfold rowC
    rw [← List.map_take, List.take_range]
    congr 2
    omega
  obtain ⟨S, hS⟩ : ∃ S, S = cput s 1035 105 0 0 (rowC (fun j => Value.int (t.2.2.1 76 j)) (n - v)) := ⟨_, rfl⟩
  have sset : sbSet s 105 (Int32.ofNat (n - v)) = some S := by
    unfold sbSet sbCt cc
    rw [g x1]
    show Option.bind (some (rowC _ n)) _ = _
    rw [Option.bind_some, if_pos ⟨i_nlt0 (by omega), by rw [i_clamp (by omega), rowC_len]; omega⟩, i_clamp (by omega), tk, hS]
  have S105 : S.1 105 = some (true, false, 1035, rowC (fun j => Value.int (t.2.2.1 76 j)) (n - v)) := by rw [hS]; exact cput_eq ..
  have Sne : ∀ p, p ≠ 105 → S.1 p = s.1 p := fun p hp => by rw [hS]; exact cput_ne hp
  have w : wfS S := by rw [hS]; exact wf_chg (wf_cup hw l105)
  have S104 := (Sne 104 (by decide)).trans (g r1)
  refine Or.inl ⟨Int32.ofNat (n - v), S, ptI (ptI t 0 0) 201 (Int32.ofNat (n - v)), own, ?_, ?_, rfl, fun Z h1 h2 => ?_, ?_, ?_, ?_, ?_⟩
  · unfold c_972
    rw [ca, if_pos z, Option.bind_some, need_eq, if_neg (show ¬ (1 : Int32) = 0 by decide), Option.bind_some, Sum.elim_inl, xN_o (g r1) rfl rfl, Option.bind_some, Option.bind_some, if_pos (isK_t (g x1) rfl), sbl (g x1), Option.bind_some, if_pos (isK_t (g x1) rfl), dif, sset, Option.bind_some, xN_o S104 rfl rfl, Option.bind_some, if_pos (isK_t S105 rfl), sbl S105, Option.bind_some]
  · unfold t_575
    rw [ta, if_pos z, Option.bind_some, goes_1 _ (by decide), Option.bind_some, if_neg (show ¬ (1 : Int32) = 0 by decide), Option.bind_some, show (ptI t 0 0).1 201 = Int32.ofNat n from x2, dif]
    rfl
  · rw [rt_ptI (fun w => h1 (by rw [← w]; decide)), rt_ptI (fun w => h2 (by rw [← w]; decide))]
  · refine frm_pt (fun p => p = 105) (fun p hp h => by rw [h]; exact o105) (fun p hp h => Sne p h) (by rw [hS]; exact Nat.le_refl _) (fun _ _ => rfl) (fun p h1 h2 => by
      have : S.2.1 = s.2.1 := by rw [hS]; rfl
      omega) w
  · refine R3_upq (nf' := nf) (n' := n - v) (fun p c h1 _ hc => ?_) ⟨fun c hc => (if_neg (by omega)).trans (if_neg (by omega)), fun _ _ => rfl, fun _ _ => rfl, fun _ _ => rfl, rfl⟩ ⟨rs_some.mpr ⟨o105, S105⟩, rfl, by omega, fun j hj => x4 j (by omega)⟩ (R3f_cg (t := t) rfl rfl rfl (R3f_up rF (fun c hc => ?_))) r0
    · obtain ⟨o, hc'⟩ := rs_some.mp hc
      refine rs_some.mpr ⟨o, (Sne p (fun w => ?_)).trans hc'⟩
      rw [w, g x1] at hc'
      rw [← Option.some.inj hc'] at h1
      exact h1 rfl
    · obtain ⟨o, hc'⟩ := rs_some.mp hc
      exact rs_some.mpr ⟨o, (Sne 107 (by decide)).trans hc'⟩
  · rw [hS]; exact Nat.le_refl _
  · rw [hS]; exact Nat.le_refl _
end
