/-! the plan: the component's node of a point -/
def upd2 (f : Nat → Nat → Nat) (x y v : Nat) : Nat → Nat → Nat := fun a b => if a = x ∧ b = y then v else f a b
theorem upd2_eq {f : Nat → Nat → Nat} {x y v a b : Nat} (h : a = x ∧ b = y) : upd2 f x y v a b = v := if_pos h
theorem upd2_ne {f : Nat → Nat → Nat} {x y v a b : Nat} (h : ¬ (a = x ∧ b = y)) : upd2 f x y v a b = f a b := if_neg h
theorem Nw_cup {s S : CS} {d : lCell} (d' : lCell) {k m : Nat} (w : Nw s S d k m) : Nw s (cup S s.2.1 d') d' k m := by
  obtain ⟨w1, w2, w3, w4, w5, w6⟩ := w
  exact ⟨cup_eq .., fun q hq => (cup_ne hq).trans (w2 q hq), w3, wf_cup w4 (wf_lt w4 w1), w5, w6⟩
section
variable {L : PLn} {nl mp c b0 : Nat} {V : Nat → Nat → Prop} {pid nid aid : Nat → Nat → Nat} {si : Nat → Nat} {s : CS}
theorem c_pnt (hw : wfS s) (x y : Int32) : ∃ S, Option.bind (some (nw s 63 [.int 0, .int 0])) (fun n1 => (if isK n1.2 [63] n1.1 = true then Option.bind (c_878 n1.1 x y n1.2) (fun x2 => some (n1.1, x2)) else none)) = some (s.2.1, S) ∧ Nw s S (true, false, 63, [.int x, .int y]) 1 2 := by
  obtain ⟨S1, e1, w1⟩ := nw_o 63 [.int 0, .int 0] hw
  rw [e1]; repeat (first | rw [Option.bind_some] | rw [Sum.elim_inl] | rw [Sum.elim_inr])
  dsimp only
  rw [if_pos (isK_t w1.1 rfl)]
  unfold c_878
  rw [if_pos (isK_t w1.1 rfl), xP_c (fs' := [.int x, .int 0]) w1.1 rfl (by simp) rfl]; repeat (first | rw [Option.bind_some] | rw [Sum.elim_inl] | rw [Sum.elim_inr])
  rw [xP_c (fs' := [.int x, .int y]) (cup_eq ..) rfl (by simp) rfl, cupU]; repeat (first | rw [Option.bind_some] | rw [Sum.elim_inl] | rw [Sum.elim_inr])
  exact ⟨_, rfl, Nw_cup _ w1⟩
theorem c_newN {S : CS} {P : Nat} (hw : wfS S) : ∃ S', Option.bind (some (nw S 64 [.null, .null])) (fun n6 => (if isK n6.2 [64] n6.1 = true then Option.bind (c_881 n6.1 P n6.2) (fun x7 => some (n6.1, x7)) else none)) = some (S.2.1, S') ∧ S'.1 S.2.1 = some (true, false, 64, [.ref P, .ref (S.2.1 + 1)]) ∧ S'.1 (S.2.1 + 1) = some (true, true, 7, rowC (fun _ => .null) 4) ∧ (∀ q, q ≠ S.2.1 → q ≠ S.2.1 + 1 → S'.1 q = S.1 q) ∧ S'.2.1 = S.2.1 + 2 ∧ wfS S' ∧ S'.2.2.1 = S.2.2.1 + 2 ∧ S'.2.2.2 = S.2.2.2 + 6 := by
  obtain ⟨S1, e1, w1⟩ := nw_o 64 [.null, .null] hw
  rw [e1]; repeat (first | rw [Option.bind_some] | rw [Sum.elim_inl] | rw [Sum.elim_inr])
  dsimp only
  rw [if_pos (isK_t w1.1 rfl)]
  unfold c_881
  obtain ⟨S2, e2, w2⟩ := nwa_o (s := S1) 7 .null 4 (by omega) w1.2.2.2.1
  rw [show nwa S1 7 .null (4 : Int32) = some (S1.2.1, S2) from e2]; repeat (first | rw [Option.bind_some] | rw [Sum.elim_inl] | rw [Sum.elim_inr])
  dsimp only
  have hN : S2.1 S.2.1 = some (true, false, 64, [.null, .null]) := by rw [w2.2.1 _ (by rw [w1.2.2.1]; omega)]; exact w1.1
  rw [xP_c (fs' := [.null, .ref S1.2.1]) hN rfl (by simp) rfl]; repeat (first | rw [Option.bind_some] | rw [Sum.elim_inl] | rw [Sum.elim_inr])
  rw [xP_c (fs' := [.ref P, .ref S1.2.1]) (cup_eq ..) rfl (by simp) rfl, cupU]; repeat (first | rw [Option.bind_some] | rw [Sum.elim_inl] | rw [Sum.elim_inr])
  have eA : S1.2.1 = S.2.1 + 1 := w1.2.2.1
  refine ⟨_, rfl, ?_, ?_, fun q h1 h2 => ?_, ?_, wf_cup w2.2.2.2.1 (wf_lt w2.2.2.2.1 hN), ?_, ?_⟩
  · rw [cup_eq, eA]
  · rw [cup_ne (by omega), ← eA]; exact w2.1
  · rw [cup_ne h1, w2.2.1 q (by omega), w1.2.1 q h1]
  · show S2.2.1 = _; rw [w2.2.2.1, eA]
  · show S2.2.2.1 = _; rw [w2.2.2.2.2.1, w1.2.2.2.2.1]
  · show S2.2.2.2 = _; rw [w2.2.2.2.2.2, w1.2.2.2.2.2]; rfl
theorem c_node (v0 : Nat) {F : Nat} {f0 f1 f3 : Value} (hw : wfS s) (r : NDs b0 s.1 L nl mp c V pid nid aid si) (hF : s.1 F = some (true, false, 61, [f0, f1, .ref mp, f3])) (hb : b0 ≤ s.2.1) {x y : Nat} (hx : x < 25) (hy : y < 25) (hv : ¬ V x y → ∀ e, lvC L nl c x y e = none) :
    ∃ s' pid' nid' aid', c_898 v0 F (Int32.ofNat x) (Int32.ofNat y) s = some (some (nid' x y), s') ∧ wfS s' ∧ NDs b0 s'.1 L nl mp c (fun u v => V u v ∨ (u = x ∧ v = y)) pid' nid' aid' si ∧ (∀ u v, V u v → nid' u v = nid u v) ∧ (∀ q, q < s.2.1 → q ≠ mp → s'.1 q = s.1 q) ∧ s.2.1 ≤ s'.2.1 ∧ s'.2.2.1 ≤ s.2.2.1 + 4 ∧ s'.2.2.2 ≤ s.2.2.2 + 14 := by
  obtain ⟨S1, e1, w1⟩ := c_pnt hw (Int32.ofNat x) (Int32.ofNat y)
  have x1 := Nw_ext hw w1
  have r1 := NDs_ext r x1
  have hF1 := x1 _ _ hF
  have hmp : ∃ cm es, S1.1 mp = some (true, false, 1042, .int cm :: fl es) := by
    obtain ⟨⟨mc, es, q, _⟩, _⟩ := r1
    exact ⟨mc, es, q⟩
  obtain ⟨mc, es, hmp⟩ := hmp
  have hP : S1.1 s.2.1 = some (poC x y) := w1.1
  obtain ⟨g1, g2⟩ := NDs_get r1 hP hx hy
  have mlt : mp < s.2.1 := by
    obtain ⟨⟨mc, es, q, _⟩, _⟩ := r
    exact wf_lt hw q
  have start : ∀ {A : Type} (f : Nat × CS → Option A), Option.bind (some (nw s 63 [.int 0, .int 0])) (fun n1 => (if isK n1.2 [63] n1.1 = true then Option.bind (c_878 n1.1 (Int32.ofNat x) (Int32.ofNat y) n1.2) (fun x2 => f (n1.1, x2)) else none)) = f (s.2.1, S1) := by
    intro A f
    have e1 : (if isK (nw s 63 [.int 0, .int 0]).2 [63] (nw s 63 [.int 0, .int 0]).1 = true then Option.bind (c_878 (nw s 63 [.int 0, .int 0]).1 (Int32.ofNat x) (Int32.ofNat y) (nw s 63 [.int 0, .int 0]).2) (fun x2 => some ((nw s 63 [.int 0, .int 0]).1, x2)) else none) = some (s.2.1, S1) := e1
    rw [Option.bind_some]
    split at e1
    · rename_i hk
      rw [if_pos hk]
      obtain ⟨z, z1, z2⟩ := bindC e1
      rw [z1, Option.bind_some]
      rw [Option.some.inj z2]
    · cases e1
  unfold c_898
  rw [start (fun p => Option.bind (xN p.2 [(61, 2)] F) (fun a3 => (if isK p.2 [42] a3 = true then Option.bind (tmGet p.2 a3 (.ref p.1)) (fun e4 => Option.bind (toR p.2 [64] e4) (fun r5 => (if r5 = none then Option.bind (some (nw p.2 64 [.null, .null])) (fun n6 => (if isK n6.2 [64] n6.1 = true then Option.bind (c_881 n6.1 p.1 n6.2) (fun x7 => Option.bind (xN x7 [(61, 2)] F) (fun a8 => (if isK x7 [42] a8 = true then Option.bind (tmPut x7 a8 (.ref p.1) (.ref n6.1)) (fun x9 => some (some n6.1, x9.2)) else none))) else none)) else some (r5, p.2)))) else none)))]
  dsimp only
  rw [xN_o (b := mp) hF1 rfl rfl]; repeat (first | rw [Option.bind_some] | rw [Sum.elim_inl] | rw [Sum.elim_inr])
  rw [if_pos (isK_t hmp rfl)]
  by_cases hV : V x y
  · rw [g1 hV]; repeat (first | rw [Option.bind_some] | rw [Sum.elim_inl] | rw [Sum.elim_inr])
    obtain ⟨a1, a2, a3, a4, a5, a6, a7, a8⟩ := r1.2.1 x y hV
    have et : toR S1 [64] (.ref (nid x y)) = some (some (nid x y)) := if_pos (isK_t a7 rfl)
    rw [et]; repeat (first | rw [Option.bind_some] | rw [Sum.elim_inl] | rw [Sum.elim_inr])
    rw [if_neg (by simp)]
    refine ⟨S1, pid, nid, aid, rfl, w1.2.2.2.1, ?_, fun _ _ _ => rfl, fun q hq _ => w1.2.1 q (by omega), by rw [w1.2.2.1]; omega, by rw [w1.2.2.2.2.1]; omega, by rw [w1.2.2.2.2.2]; omega⟩
    have : (fun u v => V u v ∨ (u = x ∧ v = y)) = V := by
      funext u v
      apply propext
      constructor
      · rintro (h | ⟨rfl, rfl⟩)
        · exact h
        · exact hV
      · exact Or.inl
    rw [this]; exact r1
  · rw [g2 hV]; repeat (first | rw [Option.bind_some] | rw [Sum.elim_inl] | rw [Sum.elim_inr])
    rw [show toR S1 [64] .null = some none from rfl]; repeat (first | rw [Option.bind_some] | rw [Sum.elim_inl] | rw [Sum.elim_inr])
    rw [if_pos rfl]
    obtain ⟨S2, e2, n1, n2, n3, n4, n5, n6, n7⟩ := c_newN (S := S1) (P := s.2.1) w1.2.2.2.1
    have mid : ∀ {A : Type} (f : Nat × CS → Option A), (if isK (nw S1 64 [.null, .null]).2 [64] (nw S1 64 [.null, .null]).1 = true then Option.bind (c_881 (nw S1 64 [.null, .null]).1 s.2.1 (nw S1 64 [.null, .null]).2) (fun x7 => f ((nw S1 64 [.null, .null]).1, x7)) else none) = f (S1.2.1, S2) := by
      intro A f
      have e2 : (if isK (nw S1 64 [.null, .null]).2 [64] (nw S1 64 [.null, .null]).1 = true then Option.bind (c_881 (nw S1 64 [.null, .null]).1 s.2.1 (nw S1 64 [.null, .null]).2) (fun x7 => some ((nw S1 64 [.null, .null]).1, x7)) else none) = some (S1.2.1, S2) := e2
      split at e2
      · rename_i hk
        rw [if_pos hk]
        obtain ⟨z, z1, z2⟩ := bindC e2
        rw [z1, Option.bind_some]
        rw [Option.some.inj z2]
      · cases e2
    rw [mid (fun p => Option.bind (xN p.2 [(61, 2)] F) (fun a8 => (if isK p.2 [42] a8 = true then Option.bind (tmPut p.2 a8 (.ref s.2.1) (.ref p.1)) (fun x9 => some (some p.1, x9.2)) else none)))]
    dsimp only
    have x2 : ∀ q d', S1.1 q = some d' → S2.1 q = some d' := fun q d' hq => by
      have := wf_lt w1.2.2.2.1 hq
      rw [n3 q (by omega) (by omega)]; exact hq
    have r2 := NDs_ext r1 x2
    rw [xN_o (b := mp) (x2 _ _ hF1) rfl rfl]; repeat (first | rw [Option.bind_some] | rw [Sum.elim_inl] | rw [Sum.elim_inr])
    rw [if_pos (isK_t (x2 _ _ hmp) rfl)]
    have e11 : S1.2.1 = s.2.1 + 1 := w1.2.2.1
    have hP2 := x2 _ _ hP
    have l5 := NDs_len (s := S2) r2 (x2 _ _ hmp)
    obtain ⟨⟨mc', es', q1, ⟨m, q2, q2b, q2c⟩, q3⟩, q4, q5, q6⟩ := r2
    have eqs : mc' = mc ∧ es' = es := by
      have := q1.symm.trans (x2 _ _ hmp)
      have e := Option.some.inj this
      simp only [Prod.mk.injEq, List.cons.injEq, true_and] at e
      refine ⟨?_, ?_⟩
      · simpa using e.1
      · have := congrArg prs e.2
        rwa [prs_fl, prs_fl] at this
    obtain ⟨rfl, rfl⟩ := eqs
    have hk : KOk S2 (rkP S2.1) (.ref s.2.1 :: es'.map Prod.fst) := by
      refine KOk_pt (fun v hv => ?_)
      rcases List.mem_cons.mp hv with rfl | hv
      · exact ⟨s.2.1, x, y, rfl, hx, hy, hP2⟩
      · obtain ⟨u, w, hV', rfl⟩ := q3 v hv
        obtain ⟨a1, a2, _, _, _, a3, _⟩ := q4 u w hV'
        exact ⟨_, u, w, rfl, a1, a2, a3⟩
    obtain ⟨es2, mc2, n, j, t1, t2, t3, t4, t5, t6, t7⟩ := tm_put (v := .ref S1.2.1) q1 hk q2 (by omega)
    rw [t1]; repeat (first | rw [Option.bind_some] | rw [Sum.elim_inl] | rw [Sum.elim_inr])
    have rk0 := rkP_pt hP2 hx hy
    have lt1 := wf_lt n5 n1
    -- the state
    have c1 : ∀ q, q ≠ mp → (cput S2 1042 mp n j (.int mc2 :: fl es2)).1 q = S2.1 q := fun q hq => cput_ne hq
    have old : ∀ q d, q ≠ mp → s.1 q = some d → (cput S2 1042 mp n j (.int mc2 :: fl es2)).1 q = some d := fun q d hq hd => by rw [c1 q hq]; exact x2 _ _ (x1 _ _ hd)
    have keep : ∀ q d, q ≠ mp → S2.1 q = some d → (cput S2 1042 mp n j (.int mc2 :: fl es2)).1 q = some d := fun q d hq hd => by rw [c1 q hq]; exact hd
    refine ⟨cput S2 1042 mp n j (.int mc2 :: fl es2), upd2 pid x y s.2.1, upd2 nid x y S1.2.1, upd2 aid x y (S1.2.1 + 1), ?_, wf_chg (wf_cup n5 (by omega)), ⟨⟨mc2, es2, cput_eq .., ⟨_, Mp_rk t4 (fun v hv => ?_), fun u v hu hv' h => ?_, fun u v hu hv' h => ?_⟩, fun v hv => ?_⟩, fun u v h => ?_, fun u v u' v' h1 h2 h3 => ?_, q6⟩, fun u v h => ?_, fun q hq hqm => ?_, ?_, ?_, ?_⟩
    · rw [upd2_eq ⟨rfl, rfl⟩]
    · -- ranks
      rcases t5 v hv with rfl | hv
      · have a : (cput S2 1042 mp n j (.int mc2 :: fl es2)).1 s.2.1 = some (poC x y) := keep _ _ (by omega) hP2
        rw [rkP_pt a hx hy, rk0]
      · obtain ⟨u, w, hV', rfl⟩ := q3 v hv
        obtain ⟨a1, a2, _, _, _, a3, _⟩ := q4 u w hV'
        rw [rkP_pt a3 a1 a2, rkP_pt (keep _ _ (apart a3 q1 (by show ¬ (63 : Nat) = 1042; decide)) a3) a1 a2]
    · rw [rk0]
      by_cases e : u = x ∧ v = y
      · rw [if_pos (by omega), upd2_eq e]
      · rw [if_neg (by omega), upd2_ne e]
        exact q2b u v hu hv' (h.elim id (fun z => absurd z e))
    · rw [rk0]
      have e : ¬ (u = x ∧ v = y) := fun z => h (Or.inr z)
      rw [if_neg (by omega)]
      exact q2c u v hu hv' (fun z => h (Or.inl z))
    · rcases t5 v hv with rfl | hv
      · exact ⟨x, y, Or.inr ⟨rfl, rfl⟩, by rw [upd2_eq ⟨rfl, rfl⟩]⟩
      · obtain ⟨u, w, hV', rfl⟩ := q3 v hv
        exact ⟨u, w, Or.inl hV', by rw [upd2_ne (fun z => hV (by rw [← z.1, ← z.2]; exact hV'))]⟩
    · by_cases e : u = x ∧ v = y
      · rw [upd2_eq e, upd2_eq e, upd2_eq e, e.1, e.2]
        refine ⟨hx, hy, hb, by omega, by omega, keep _ _ (by omega) hP2, keep _ _ (by omega) n1, ?_⟩
        rw [keep _ _ (by omega) n2]
        refine congrArg (fun l => some (true, true, 7, l)) (rowC_congr (fun e _ => ?_))
        rw [hv hV e]
        rfl
      · rw [upd2_ne e, upd2_ne e, upd2_ne e]
        have hV' := h.elim id (fun z => absurd z e)
        obtain ⟨a1, a2, a3, a4, a5, a6, a7, a8⟩ := q4 u v hV'
        exact ⟨a1, a2, a3, a4, a5, keep _ _ (apart a6 q1 (by show ¬ (63 : Nat) = 1042; decide)) a6, keep _ _ (apart a7 q1 (by show ¬ (64 : Nat) = 1042; decide)) a7, keep _ _ (apart a8 q1 (by show ¬ (7 : Nat) = 1042; decide)) a8⟩
    · have lts : ∀ u v, V u v → aid u v < s.2.1 := fun u v h => by
        obtain ⟨_, _, _, _, _, _, _, a8⟩ := r.2.1 u v h
        exact wf_lt hw a8
      by_cases e : u = x ∧ v = y
      · rw [upd2_eq e] at h3
        by_cases e' : u' = x ∧ v' = y
        · exact ⟨e.1.trans e'.1.symm, e.2.trans e'.2.symm⟩
        · rw [upd2_ne e'] at h3
          have := lts u' v' (h2.elim id (fun z => absurd z e'))
          omega
      · rw [upd2_ne e] at h3
        have hV1 := h1.elim id (fun z => absurd z e)
        by_cases e' : u' = x ∧ v' = y
        · rw [upd2_eq e'] at h3
          have := lts u v hV1
          omega
        · rw [upd2_ne e'] at h3
          exact q5 u v u' v' hV1 (h2.elim id (fun z => absurd z e')) h3
    · rw [upd2_ne (fun z => hV (by rw [← z.1, ← z.2]; exact h))]
    · rw [c1 q hqm, n3 q (by omega) (by omega), w1.2.1 q (by omega)]
    · show s.2.1 ≤ S2.2.1; omega
    · show S2.2.2.1 + n ≤ _; have := w1.2.2.2.2.1; omega
    · show S2.2.2.2 + j ≤ _; have := w1.2.2.2.2.2; omega
end
