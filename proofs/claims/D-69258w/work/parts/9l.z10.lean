/-! the house: how it asks its parts -/
theorem Kp.itc {B : Type} {Q : B → Prop} {c : Prop} {i : Decidable c} {a b : Option B} (h1 : c → Kp Q a) (h2 : ¬ c → Kp Q b) : Kp Q (@_root_.ite _ c i a b) := by
  by_cases z : c
  · rw [if_pos z]; exact h1 z
  · rw [if_neg z]; exact h2 z
/-! truth values -/
theorem bv_559 {s : TS} {v1 v2 v3 : Int32} : Kp (fun r : Int32 × TS => v01 r.1) (t_559 v1 v2 v3 s) := by
  unfold t_559
  repeat (first | with_reducible refine Kp.bdt ?_ | with_reducible refine Kp.itc ?_ ?_ | exact Kp.ret (Or.inl rfl) | exact Kp.ret (Or.inr rfl) | exact Kp.no | (refine Kp.ret ?_; assumption) | intro _)
theorem bv_601 {s : TS} {v1 v2 : Int32} : Kp (fun r : Int32 × TS => v01 r.1) (t_601 v1 v2 s) := by
  unfold t_601
  repeat (first | with_reducible refine Kp.bdt ?_ | with_reducible refine Kp.itc ?_ ?_ | exact Kp.ret (Or.inl rfl) | exact Kp.ret (Or.inr rfl) | exact Kp.no | (refine Kp.ret ?_; assumption) | intro _)
theorem bv_602 {s : TS} {v1 v2 v3 : Int32} : Kp (fun r : Int32 × TS => v01 r.1) (t_602 v1 v2 v3 s) := by
  unfold t_602
  repeat (first | with_reducible refine Kp.bdt ?_ | with_reducible refine Kp.itc ?_ ?_ | exact Kp.ret (Or.inl rfl) | exact Kp.ret (Or.inr rfl) | exact Kp.no | (refine Kp.ret ?_; assumption) | intro _)
theorem bv_624 {s : TS} {v1 v2 : Int32} : Kp (fun r : Int32 × TS => v01 r.1) (t_624 v1 v2 s) := by
  unfold t_624
  repeat (first | with_reducible refine Kp.bdt ?_ | with_reducible refine Kp.itc ?_ ?_ | exact Kp.ret (Or.inl rfl) | exact Kp.ret (Or.inr rfl) | exact Kp.no | (refine Kp.ret ?_; assumption) | intro _)
theorem bv_637 {s : TS} {v1 v2 v3 : Int32} : Kp (fun r : Int32 × TS => v01 r.1) (t_637 v1 v2 v3 s) := by
  unfold t_637
  repeat (first | with_reducible refine Kp.bdt ?_ | with_reducible refine Kp.itc ?_ ?_ | exact Kp.ret (Or.inl rfl) | exact Kp.ret (Or.inr rfl) | exact Kp.no | (refine Kp.ret ?_; assumption) | intro _)
theorem bv_645 {s : TS} {v1 v2 v3 : Int32} : Kp (fun r : Int32 × TS => v01 r.1) (t_645 v1 v2 v3 s) := by
  unfold t_645
  repeat (first | with_reducible refine Kp.bdt ?_ | with_reducible refine Kp.itc ?_ ?_ | exact Kp.ret (Or.inl rfl) | exact Kp.ret (Or.inr rfl) | exact Kp.no | (refine Kp.ret ?_; assumption) | intro _)
theorem bv_646 {s : TS} {v1 v2 : Int32} : Kp (fun r : Int32 × TS => v01 r.1) (t_646 v1 v2 s) := by
  unfold t_646
  repeat (first | with_reducible refine Kp.bdt ?_ | with_reducible refine Kp.itc ?_ ?_ | exact Kp.ret (Or.inl rfl) | exact Kp.ret (Or.inr rfl) | exact Kp.no | (refine Kp.ret ?_; assumption) | intro _)
theorem bv_648 {s : TS} {v1 : Int32} : Kp (fun r : Int32 × TS => v01 r.1) (t_648 v1 s) := by
  unfold t_648
  repeat (first | with_reducible refine Kp.bdt ?_ | with_reducible refine Kp.itc ?_ ?_ | exact Kp.ret (Or.inl rfl) | exact Kp.ret (Or.inr rfl) | exact Kp.no | (refine Kp.ret ?_; assumption) | intro _)
theorem bv_656 {s : TS} {v1 v2 : Int32} : Kp (fun r : Int32 × TS => v01 r.1) (t_656 v1 v2 s) := by
  unfold t_656
  repeat (first | with_reducible refine Kp.bdt ?_ | with_reducible refine Kp.itc ?_ ?_ | exact Kp.ret (Or.inl rfl) | exact Kp.ret (Or.inr rfl) | exact Kp.no | (refine Kp.ret ?_; assumption) | intro _)
theorem bv_660 {s : TS} {v1 v2 : Int32} : Kp (fun r : Int32 × TS => v01 r.1) (t_660 v1 v2 s) := by
  unfold t_660
  repeat (first | with_reducible refine Kp.bdt ?_ | with_reducible refine Kp.itc ?_ ?_ | exact Kp.ret (Or.inl rfl) | exact Kp.ret (Or.inr rfl) | exact Kp.no | (refine Kp.ret ?_; assumption) | intro _)
section
variable {α : Type} {s : CS} {own : Nat → Nat} {t : TS} {K N : Nat}
theorem fits_01 {x : Int32} (h : v01 x) : fits .boolean (.int x) = true := by
  rcases h with rfl | rfl <;> decide
theorem Rg.fit {E : Nat → Int32 → Prop} {X : Nat → Prop} {Y : Nat} {RX : (Nat → lHeap) → TS → Prop} {n m : Nat} {c : Option (Sum (Int32 × CS) (Nat × CS))} {d : Option (Int32 × TS)} (h : Rg E X Y RX own s t n m c d) (k : Kp (fun r => v01 r.1) d) : Rg E X Y RX own s t n m (Option.bind c (Sum.elim (fun x2 => (if fits .boolean (.int x2.1) = true then some (.inl (x2.1, x2.2)) else none)) (fun q3 => some (.inr (q3.1, q3.2))))) d := by
  rcases h with ⟨x, s', t', own', a1, a2, a3⟩ | ⟨x, kd, cd, s1, own1, a1, a2, a3⟩
  · refine Or.inl ⟨x, s', t', own', ?_, a2, a3⟩
    rw [a1, Option.bind_some, Sum.elim_inl, if_pos (fits_01 (k.h _ a2))]
  · refine Or.inr ⟨x, kd, cd, s1, own1, a1, ?_, a3⟩
    rw [a2, Option.bind_some, Sum.elim_inr]
theorem uC_id (o : Option (Sum CS (Nat × CS))) : Option.bind o (Sum.elim (fun x2 => some (.inl x2)) (fun q3 => some (.inr (q3.1, q3.2)))) = o := by
  cases o with
  | none => rfl
  | some z => cases z <;> rfl
theorem Res1.rg {X : Nat → Prop} {Y : Nat} {RX : (Nat → lHeap) → TS → Prop} {n m : Nat} {c : Option (Sum (α × CS) (Nat × CS))} {d : Option (α × TS)} (hw : wfS s) (hR : RX (rs s.1 own) t) (h : Res1 X Y RX own s t n m c d) : Rg thr1 X Y RX own s t n m c d := by
  rcases h with h | ⟨x, h1, h2⟩
  · exact Or.inl h
  · exact Or.inr ⟨x, 12, 1, s, own, ⟨rfl, rfl⟩, h1, h2, Frm.refl hw, hR, Nat.le_add_right _ _, Nat.le_add_right _ _⟩
/-- the house's own cell -/
theorem RH.c100 (r : RH s own t K N) : s.1 100 = some (true, false, 45, [.ref 101, .ref 102, .ref 104, .ref 108, .ref 115, .ref 120, .ref 151, .ref 162, .ref 170, .int (t.1 1)]) := (rs_in r.r1.1).1
theorem RH.c101 (r : RH s own t K N) : s.1 101 = some (true, false, 56, [.int (t.1 2)]) ∧ own 101 = 1 := rs_in r.r1.2
theorem RH.m2 (r : RH s own t K N) : xN s [(45, 1)] 100 = some 102 ∧ isK s [67] 102 = true := by
  obtain ⟨L, nl, LC, LD, DC, nd, fo, be, co, fi, q⟩ := r.r2
  exact ⟨xN_o r.c100 rfl rfl, isK_t (rs_in q.1).1 rfl⟩
theorem RH.m3 (r : RH s own t K N) : xN s [(45, 2)] 100 = some 104 ∧ isK s [78] 104 = true := by
  obtain ⟨nf, n, nr, rl, mc, ru, q, bb, D, q⟩ := r.r3
  exact ⟨xN_o r.c100 rfl rfl, isK_t (rs_in q.1).1 rfl⟩
theorem RH.m4 (r : RH s own t K N) : xN s [(45, 3)] 100 = some 108 ∧ isK s [89] 108 = true := by
  obtain ⟨zn, nr, nS, nT, nC, nR, nP, nL, a, rel, S, C, CS', CM, CT, E, RS, RM', RT, P, G, D, L, F, RW, q⟩ := r.r4
  exact ⟨xN_o r.c100 rfl rfl, isK_t (rs_in q.1.1).1 rfl⟩
theorem RH.m5 (r : RH s own t K N) : xN s [(45, 4)] 100 = some 115 ∧ isK s [100] 115 = true := by
  obtain ⟨n, B, o, od, nw, q⟩ := r.r5
  exact ⟨xN_o r.c100 rfl rfl, isK_t (rs_in q.1.1).1 rfl⟩
theorem RH.m6 (r : RH s own t K N) : xN s [(45, 5)] 100 = some 120 ∧ isK s [122] 120 = true := by
  obtain ⟨d, _, q⟩ := r.r6.1.1
  exact ⟨xN_o r.c100 rfl rfl, isK_t (rs_in q).1 rfl⟩
theorem RH.m7 (r : RH s own t K N) : xN s [(45, 6)] 100 = some 151 ∧ isK s [47] 151 = true := by
  obtain ⟨np, sz, mx, zm, am, rl, nr, na, ec, P, Z, ZP, A, RW, od, q⟩ := r.r7
  exact ⟨xN_o r.c100 rfl rfl, isK_t (rs_in q.1.1).1 rfl⟩
theorem RH.m8 (r : RH s own t K N) : xN s [(45, 7)] 100 = some 162 ∧ isK s [49] 162 = true := by
  obtain ⟨nc, nk, C, D, M, b, ⟨nw, hm, lst, q⟩, _⟩ := r.r8
  exact ⟨xN_o r.c100 rfl rfl, isK_t (rs_in q).1 rfl⟩
theorem RH.m9 (r : RH s own t K N) : xN s [(45, 8)] 100 = some 170 ∧ isK s [50] 170 = true := by
  obtain ⟨nl, nr, nd, sm, W, e, q, g, wn, sc, q⟩ := r.r9
  exact ⟨xN_o r.c100 rfl rfl, isK_t (rs_in q.1.1).1 rfl⟩
theorem Rg.and {E : Nat → Int32 → Prop} {X : Nat → Prop} {Y : Nat} {RX : (Nat → lHeap) → TS → Prop} {Q : TS → Prop} {n m : Nat} {c : Option (Sum (α × CS) (Nat × CS))} {d : Option (α × TS)} (h : Rg E X Y RX own s t n m c d) (hq : Q t) (k : Kp (fun r => Q r.2) d) : Rg E X Y (fun H T => RX H T ∧ Q T) own s t n m c d := by
  rcases h with ⟨x, s', t', own', a1, a2, a3, a4, a5, a6, a7⟩ | ⟨x, kd, cd, s1, own1, a1, a2, a3, a4, a5, a6⟩
  · exact Or.inl ⟨x, s', t', own', a1, a2, a3, a4, a5, ⟨a6, k.h _ a2⟩, a7⟩
  · exact Or.inr ⟨x, kd, cd, s1, own1, a1, a2, a3, a4, ⟨a5, hq⟩, a6⟩
/-! a part's relation as it comes -/
theorem RY2 (H : Nat → lHeap) (T : TS) (h : R2k t H T) : RYs 2 K N H t T := ⟨fun _ => h, fun z => absurd z (by decide), fun z => absurd z (by decide), fun z => absurd z (by decide), fun z => absurd z (by decide), fun z => absurd z (by decide), fun z => absurd z (by decide), fun z => absurd z (by decide), fun z => absurd z (by decide)⟩
theorem RY3 (H : Nat → lHeap) (T : TS) (h : R3 (H 3) T) : RYs 3 K N H t T := ⟨fun z => absurd z (by decide), fun _ => h, fun z => absurd z (by decide), fun z => absurd z (by decide), fun z => absurd z (by decide), fun z => absurd z (by decide), fun z => absurd z (by decide), fun z => absurd z (by decide), fun z => absurd z (by decide)⟩
theorem RY4 (H : Nat → lHeap) (T : TS) (h : R4 (H 4) T (K + 1)) : RYs 4 K N H t T := ⟨fun z => absurd z (by decide), fun z => absurd z (by decide), fun _ => h, fun z => absurd z (by decide), fun z => absurd z (by decide), fun z => absurd z (by decide), fun z => absurd z (by decide), fun z => absurd z (by decide), fun z => absurd z (by decide)⟩
theorem RY5 (H : Nat → lHeap) (T : TS) (h : R5 (H 5) T ∧ B137 T) : RYs 5 K N H t T := ⟨fun z => absurd z (by decide), fun z => absurd z (by decide), fun z => absurd z (by decide), fun _ => h, fun z => absurd z (by decide), fun z => absurd z (by decide), fun z => absurd z (by decide), fun z => absurd z (by decide), fun z => absurd z (by decide)⟩
theorem RY6 (H : Nat → lHeap) (T : TS) (h : R6 (H 6) T N) : RYs 6 K N H t T := ⟨fun z => absurd z (by decide), fun z => absurd z (by decide), fun z => absurd z (by decide), fun z => absurd z (by decide), fun _ => h, fun z => absurd z (by decide), fun z => absurd z (by decide), fun z => absurd z (by decide), fun z => absurd z (by decide)⟩
theorem RY7 (H : Nat → lHeap) (T : TS) (h : R7 (H 7) T) : RYs 7 K N H t T := ⟨fun z => absurd z (by decide), fun z => absurd z (by decide), fun z => absurd z (by decide), fun z => absurd z (by decide), fun z => absurd z (by decide), fun _ => h, fun z => absurd z (by decide), fun z => absurd z (by decide), fun z => absurd z (by decide)⟩
theorem RY8 (H : Nat → lHeap) (T : TS) (h : R8 (H 8) T) : RYs 8 K N H t T := ⟨fun z => absurd z (by decide), fun z => absurd z (by decide), fun z => absurd z (by decide), fun z => absurd z (by decide), fun z => absurd z (by decide), fun z => absurd z (by decide), fun _ => h, fun z => absurd z (by decide), fun z => absurd z (by decide)⟩
theorem RY9 (H : Nat → lHeap) (T : TS) (h : R9 (H 9) T) : RYs 9 K N H t T := ⟨fun z => absurd z (by decide), fun z => absurd z (by decide), fun z => absurd z (by decide), fun z => absurd z (by decide), fun z => absurd z (by decide), fun z => absurd z (by decide), fun z => absurd z (by decide), fun _ => h, fun z => absurd z (by decide)⟩
theorem RY10 (H : Nat → lHeap) (T : TS) (h : R10 (H 10) T) : RYs 10 K N H t T := ⟨fun z => absurd z (by decide), fun z => absurd z (by decide), fun z => absurd z (by decide), fun z => absurd z (by decide), fun z => absurd z (by decide), fun z => absurd z (by decide), fun z => absurd z (by decide), fun z => absurd z (by decide), fun _ => h⟩
/-- numbers stay where a part of none of them changed -/
theorem kp_of {E : Nat → Int32 → Prop} {X : Nat → Prop} {Y : Nat} {RX : (Nat → lHeap) → TS → Prop} {n m : Nat} {c : Option (Sum (α × CS) (Nat × CS))} {d : Option (α × TS)} (hY : Y = 2 ∨ Y = 3 ∨ Y = 5 ∨ Y = 9 ∨ Y = 10) (h : Rg E X Y RX own s t n m c d) : Kp (fun r => KpN t r.2) d := by
  refine ⟨trivial, fun r hr => ?_⟩
  rcases h with ⟨x, s', t', own', a1, a2, a3, a4, a5⟩ | ⟨x, kd, cd, s1, own1, a1, a2, a3, a4⟩
  · rw [hr] at a2
    cases a2
    exact kpn_rt hY a4
  · rw [hr] at a3
    cases a3
    exact KpN.p0
end
