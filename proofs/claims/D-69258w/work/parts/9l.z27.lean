/-! the house: a second of program, bus and cells -/
section
variable {s s' : CS} {own own' : Nat → Nat} {t T : TS} {K N : Nat} {p7 p9 : lHeap → TS → Prop}
theorem R5_414 {h : lHeap} {v : Int32} (r : R5 h t) : R5 h (ptI t 414 v) := by
  obtain ⟨n, B, o, od, nw, r⟩ := r
  exact ⟨n, B, o, od, nw, R5x_cg r (fun _ _ _ _ _ => rfl) (fun c _ h _ => by rw [pt_1, if_neg h])⟩
theorem sec_tick (r : RG p7 p9 s own t K N) (c7 : C7 p7 p7) (c9 : C9 p9 p9) (v : Int32) : ∃ S T own', c_1103 115 v s = some S ∧ t_811 (ptI t 414 v) = some T ∧ RG p7 p9 S own' T K N ∧ Frm (fun X => X = 5) own own' s S ∧ (∀ c, c ≠ 418 → c ≠ 414 → T.1 c = t.1 c) ∧ (∀ Z, Z ≠ 5 → rt T Z = rt t Z) ∧ st5 S = 0 ∧ T.2.2.1 137 = t.2.2.1 137 ∧ S.2.2.1 ≤ s.2.2.1 + 500 * st5 s ∧ S.2.2.2 ≤ s.2.2.2 + 30000 * st5 s := by
  have e0 : ∀ Z, Z ≠ 5 → rt (ptI t 414 v) Z = rt t Z := fun Z hZ => rt_ptI (by show 5 ≠ Z; exact fun w => hZ w.symm)
  obtain ⟨S, T, own', a1, a2, a3, a4, a5, a6, a7, a8, a9⟩ := pr_tickS (t := ptI t 414 v) r.wf r.k5r r.hs (fun a ha => by rw [r.o11 a ha]; decide) (R10_rt r.r10 (e0 10 (by omega))) (R5_414 r.r5)
  rw [pt_1, if_pos rfl] at a1
  have eN : ∀ c, c ≠ 418 → c ≠ 414 → T.1 c = t.1 c := fun c h1 h2 => by rw [a8 c h1, pt_1, if_neg h2]
  have eZ : ∀ Z, Z ≠ 5 → rt T Z = rt t Z := fun Z hZ => (a9 Z hZ).trans (e0 Z hZ)
  refine ⟨S, T, own', a1, a2, ?_, a5, eN, eZ, R5n_st a3, ((kb_811 (s0 := ptI t 414 v) KbN.rf).h _ a2).2, a6, a7⟩
  exact r.keep (X := fun X => X = 5) (Y := fun X => X = 5) a5 (fun Z h => by omega) (fun Z h w => h w) (fun Z h _ => eZ Z h) (eN 1 (by omega) (by omega)) (eZ 2 (by omega)) (by omega) (by omega) (fun z => by omega) (fun z => by omega) (fun _ => R5n_5 a3) (fun z => by omega) (fun _ => rfl) (fun z => by omega) (fun _ => c7) (fun z => by omega) (fun z => by omega) (fun _ => ⟨c9, eN 2 (by omega) (by omega), eN 9 (by omega) (by omega)⟩) (fun z => by omega)
theorem sec_bus (r : RG p7 p9 s own t K N) (c7 : C7 p7 p7) (c9 : C9 p9 p9) (hN : N + 30 ≤ 180000) : ∃ S T, c_1143 120 s = some S ∧ t_668 t = some T ∧ RG p7 p9 S own T K (N + 30) ∧ Frm (fun X => X = 6 ∨ X = 10) own own s S ∧ (∀ Z, Z ≠ 6 → Z ≠ 10 → rt T Z = rt t Z) ∧ S.2.2.1 + Pc T (N + 30) ≤ s.2.2.1 + Pc t N + 30 ∧ S.2.2.2 + Ps T (N + 30) ≤ s.2.2.2 + Ps t N + 120 := by
  have h10 := r.r10
  unfold R10 at h10
  obtain ⟨h1, h2⟩ := rs_in h10
  obtain ⟨S, T, a1, a2, a3, a4, a5, a6, a7, a8, a9⟩ := bus_second r.wf r.r6 hN h2 r.m5.2.2.1 (by rw [r.m5.2.2.2.1]; decide) r.m5.2.2.2.2 h1
  refine ⟨S, T, a1, a2, ?_, a4, a5, a8, a9⟩
  refine r.keep (X := fun X => X = 6 ∨ X = 10) (Y := fun X => X = 6 ∨ X = 10) a4 (fun Z h => by omega) (fun Z h w => h w) (fun Z h _ => a5 Z (fun w => h (by omega)) (fun w => h (by omega))) (rt_num (a5 1 (by omega) (by omega)) rfl) (a5 2 (by omega) (by omega)) (by omega) (by omega) (fun z => by omega) (fun z => by omega) (fun z => by omega) (fun _ => a3) (fun z => by omega) (fun z => by omega) (fun _ => c7) (fun z => by omega) (fun z => by omega) (fun _ => ⟨c9, rt_num (a5 1 (by omega) (by omega)) rfl, rt_num (a5 4 (by omega) (by omega)) rfl⟩) (fun _ => ?_)
  unfold R10
  exact rs_some.mpr ⟨h2, a7⟩
section
variable {nl nr nd sm : Nat} {W : Nat → Nat} {e q g wn : Nat → Int32} {sc : Nat → Nat}
theorem sec_catch {nw : Nat} (r : RG p7 (fun h t => R9x h t nl nr nd sm W e q g wn sc) s own t K N) (c7 : C7 p7 p7) (h2 : t.1 2 = Int32.ofNat nw) (hnw : nw ≤ 6000) : ∃ S T, c_550 170 111 s = some S ∧ wh (S := TS × Int32) (X := TS) (fun p98 : TS × Int32 => (if p98.2 < (p98.1.1 27) then Option.bind (rdI p98.1 24 40 p98.2) (fun x21 => Option.bind ((if x21 < (p98.1.1 9) then Option.bind (rdI p98.1 27 40 p98.2) (fun x22 => (if x22 < 0 then Option.bind (rdI p98.1 26 40 p98.2) (fun x23 => Option.bind (rdI p98.1 25 40 p98.2) (fun x24 => Option.bind (rdI p98.1 44 576 ((24 * x23) + x24)) (fun x25 => (if x25 = 0 then some p98.1 else Option.bind (stI p98.1 27 40 p98.2 (p98.1.1 2)) (fun s26 => some s26))))) else some p98.1)) else some p98.1)) (fun v135 => some (Sum.inl (β := TS) (v135, p98.2 + 1)))) else some (.inr p98.1))) (t, 0) = some T ∧ RG p7 (fun h t => R9x h t nl nr nd sm W e q g wn sc) S own T K N ∧ Frm (fun X => X = 4) own own s S ∧ S.2 = s.2 ∧ T.1 = t.1 ∧ (∀ Z, Z ≠ 4 → Z ≠ 99 → rt T Z = rt t Z) := by
  obtain ⟨zn, nr', nS, nT, nC, nR, nP, nL, a, rel, S', C, CS', CM, CT, E, RS, RM', RT, P, G, D, L, F, RW, q4⟩ := id r.r4
  obtain ⟨S, T, a1, a2, a3, a4, a5, a6, a7⟩ := ce_catch r.wf r.r9 q4 hnw r.c101.1 (by rw [r.c101.2]; decide) h2
  refine ⟨S, T, a1, a2, ?_, a4, a5, a6, a7⟩
  exact r.keep (X := fun X => X = 4) (Y := fun X => X = 4) a4 (fun Z h => by omega) (fun Z h w => h w) (fun Z h h9 => a7 Z h h9) (by rw [a6]) (a7 2 (by omega) (by omega)) (by omega) (by omega) (fun z => by omega) (fun _ => ⟨zn, nr', nS, nT, nC, nR, nP, nL, a, rel, S', C, CS', CM, CT, E, RS, RM', RT, P, G, D, L, F, RW, a3⟩) (fun z => by omega) (fun z => by omega) (fun _ => rfl) (fun z => by omega) (fun _ => c7) (fun z => by omega) (fun z => by omega) (fun _ => ⟨C9_x, by rw [a6], by rw [a6]⟩) (fun z => by omega)
theorem sec_leave {nw : Nat} (r : RG p7 (fun h t => R9x h t nl nr nd sm W e q g wn sc) s own t K N) (c7 : C7 p7 p7) (hb : t.1 1 ≠ 0) (h2 : t.1 2 = Int32.ofNat nw) (hnw : nw ≤ 6000) (hlt : ∀ j, j < 120 → sc j < nw) : ∃ S T own' wn' sc', c_551 170 111 (t.1 9) s = some S ∧ t_669 t = some T ∧ RG p7 (fun h t => R9x h t nl nr nd sm W e q g wn' sc') S own' T K N ∧ Frm (fun X => X = 4 ∨ X = 9) own own' s S ∧ T.1 = t.1 ∧ (∀ Z, Z ≠ 4 → Z ≠ 9 → rt T Z = rt t Z) ∧ S.2.2.1 ≤ s.2.2.1 + 3 ∧ S.2.2.2 ≤ s.2.2.2 + 44 := by
  obtain ⟨zn, nr', nS, nT, nC, nR, nP, nL, a, rel, S', C, CS', CM, CT, E, RS, RM', RT, P, G, D, L, F, RW, q4⟩ := id r.r4
  obtain ⟨S, T, own', wn', sc', a1, a2, a3, a4, a5, a6, a7, a8, a9⟩ := ce_leave r.wf r.hs r.o98 r.ks.2.2.1 r.r9 q4 hb r.c101.1 (by rw [r.c101.2]; decide) h2 hnw hlt
  refine ⟨S, T, own', wn', sc', a1, a2, ?_, a5, a6, a7, a8, a9⟩
  exact r.keep (X := fun X => X = 4 ∨ X = 9) (Y := fun X => X = 4 ∨ X = 9) a5 (fun Z h => by omega) (fun Z h w => h w) (fun Z h h9 => a7 Z (fun w => h (by omega)) (fun w => h (by omega))) (by rw [a6]) (a7 2 (by omega) (by omega)) (by omega) (by omega) (fun z => by omega) (fun _ => ⟨zn, nr', nS, nT, nC, nR, nP, nL, a, rel, S', C, CS', CM, CT, E, RS, RM', RT, P, G, D, L, F, RW, a3⟩) (fun z => by omega) (fun z => by omega) (fun _ => rfl) (fun z => by omega) (fun _ => c7) (fun z => by omega) (fun _ => a4) (fun z => absurd (Or.inr rfl) z) (fun z => by omega)
end
end
