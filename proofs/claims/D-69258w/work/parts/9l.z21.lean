/-! the house: the relation amid a second -/
section
variable {s s' : CS} {own own' : Nat → Nat} {t T : TS} {K K' N N' : Nat} {X Y : Nat → Prop} {p7 p9 p7' p9' : lHeap → TS → Prop}
/-- the parts' relations, save the warden's and the cells' -/
def RG (p7 p9 : lHeap → TS → Prop) (s : CS) (own : Nat → Nat) (t : TS) (K N : Nat) : Prop := wfS s ∧ 179 ≤ s.2.1 ∧ (∀ a, a < 100 → own a = 11) ∧ (∀ a, a < s.2.1 → own a ≠ 98) ∧ (K3 (rs s.1 own 11) ∧ K7 (rs s.1 own 11) ∧ K9 (rs s.1 own 11) ∧ RK (rs s.1 own 11)) ∧ H1r (rs s.1 own 1) t ∧ R2 (rs s.1 own 2) t ∧ R3 (rs s.1 own 3) t ∧ R4 (rs s.1 own 4) t K ∧ R5 (rs s.1 own 5) t ∧ R6 (rs s.1 own 6) t N ∧ p7 (rs s.1 own 7) t ∧ R8 (rs s.1 own 8) t ∧ p9 (rs s.1 own 9) t ∧ R10 (rs s.1 own 10) t
theorem RG.wf (r : RG p7 p9 s own t K N) : wfS s := r.1
theorem RG.hs (r : RG p7 p9 s own t K N) : 179 ≤ s.2.1 := r.2.1
theorem RG.o11 (r : RG p7 p9 s own t K N) : ∀ a, a < 100 → own a = 11 := r.2.2.1
theorem RG.o98 (r : RG p7 p9 s own t K N) : ∀ a, a < s.2.1 → own a ≠ 98 := r.2.2.2.1
theorem RG.ks (r : RG p7 p9 s own t K N) : K3 (rs s.1 own 11) ∧ K7 (rs s.1 own 11) ∧ K9 (rs s.1 own 11) ∧ RK (rs s.1 own 11) := r.2.2.2.2.1
theorem RG.r1 (r : RG p7 p9 s own t K N) : H1r (rs s.1 own 1) t := r.2.2.2.2.2.1
theorem RG.r2 (r : RG p7 p9 s own t K N) : R2 (rs s.1 own 2) t := r.2.2.2.2.2.2.1
theorem RG.r3 (r : RG p7 p9 s own t K N) : R3 (rs s.1 own 3) t := r.2.2.2.2.2.2.2.1
theorem RG.r4 (r : RG p7 p9 s own t K N) : R4 (rs s.1 own 4) t K := r.2.2.2.2.2.2.2.2.1
theorem RG.r5 (r : RG p7 p9 s own t K N) : R5 (rs s.1 own 5) t := r.2.2.2.2.2.2.2.2.2.1
theorem RG.r6 (r : RG p7 p9 s own t K N) : R6 (rs s.1 own 6) t N := r.2.2.2.2.2.2.2.2.2.2.1
theorem RG.r7 (r : RG p7 p9 s own t K N) : p7 (rs s.1 own 7) t := r.2.2.2.2.2.2.2.2.2.2.2.1
theorem RG.r8 (r : RG p7 p9 s own t K N) : R8 (rs s.1 own 8) t := r.2.2.2.2.2.2.2.2.2.2.2.2.1
theorem RG.r9 (r : RG p7 p9 s own t K N) : p9 (rs s.1 own 9) t := r.2.2.2.2.2.2.2.2.2.2.2.2.2.1
theorem RG.r10 (r : RG p7 p9 s own t K N) : R10 (rs s.1 own 10) t := r.2.2.2.2.2.2.2.2.2.2.2.2.2.2
theorem RH.rg (r : RH s own t K N) (h9 : p9 (rs s.1 own 9) t) (h7 : p7 (rs s.1 own 7) t) : RG p7 p9 s own t K N := ⟨r.wf, r.hs, r.o11, r.o98, ⟨r.k3, r.k7, r.k9, r.k5⟩, r.r1, r.r2, r.r3, r.r4, r.r5, r.r6, h7, r.r8, h9, r.r10⟩
theorem RG.rh (r : RG p7 p9 s own t K N) (hn : HNm t N) (h7 : R7 (rs s.1 own 7) t) (h9 : R9 (rs s.1 own 9) t) : RH s own t K N := ⟨r.wf, r.hs, r.o11, r.o98, r.ks.1, r.ks.2.1, r.ks.2.2.1, r.ks.2.2.2, hn, r.r1, r.r2, r.r3, r.r4, r.r5, r.r6, h7, r.r8, h9, r.r10⟩
/-- what the warden's relation asks -/
def C7 (p7 p7' : lHeap → TS → Prop) : Prop := ∀ h t T, p7 h t → rt T 7 = rt t 7 → T.1 1 = t.1 1 → p7' h T
/-- what the cells' relation asks -/
def C9 (p9 p9' : lHeap → TS → Prop) : Prop := ∀ h t T, p9 h t → rt T 9 = rt t 9 → T.1 1 = t.1 1 → T.1 2 = t.1 2 → T.1 9 = t.1 9 → rt T 2 = rt t 2 → p9' h T
theorem RG.keep (r : RG p7 p9 s own t K N) (hF : Frm X own own' s s') (hX : ∀ Z, X Z → 1 ≤ Z ∧ Z ≤ 10) (hYX : ∀ Z, ¬ Y Z → ¬ X Z) (hrt : ∀ Z, ¬ Y Z → Z ≠ 99 → rt T Z = rt t Z) (e1 : T.1 1 = t.1 1) (h2 : rt T 2 = rt t 2) (y2 : ¬ Y 2) (y3 : ¬ Y 3)
    (p1 : Y 1 → H1r (rs s'.1 own' 1) T) (p4 : Y 4 → R4 (rs s'.1 own' 4) T K) (p5 : Y 5 → R5 (rs s'.1 own' 5) T) (p6 : Y 6 → R6 (rs s'.1 own' 6) T N') (q6 : ¬ Y 6 → N' = N) (p7n : Y 7 → p7' (rs s'.1 own' 7) T) (c7 : ¬ Y 7 → C7 p7 p7') (p8 : Y 8 → R8 (rs s'.1 own' 8) T) (p9n : Y 9 → p9' (rs s'.1 own' 9) T) (c9 : ¬ Y 9 → C9 p9 p9' ∧ T.1 2 = t.1 2 ∧ T.1 9 = t.1 9) (p10 : Y 10 → R10 (rs s'.1 own' 10) T) : RG p7' p9' s' own' T K N' := by
  have lt := hF.1
  have hs := r.hs
  have x11 : ¬ X 11 := fun z => by have := hX _ z; omega
  have f : ∀ Z, ¬ X Z → rs s'.1 own' Z = rs s.1 own Z := fun Z hZ => frm_rs r.wf hF hZ
  refine ⟨hF.2.2.2.2, by omega, fun a ha => by rw [hF.2.1 a (by omega)]; exact r.o11 a ha, fun a ha => ?_, by rw [f _ x11]; exact r.ks, ?_, ?_, ?_, ?_, ?_, ?_, ?_, ?_, ?_, ?_⟩
  · by_cases z : a < s.2.1
    · rw [hF.2.1 a z]; exact r.o98 a z
    · intro w
      have := hX _ (hF.2.2.2.1 a (by omega) ha)
      omega
  · by_cases z : Y 1
    · exact p1 z
    · rw [f 1 (hYX _ z)]; unfold H1r; rw [e1, rt_num (c := 2) (hrt 1 z (by omega)) rfl]; exact r.r1
  · rw [f 2 (hYX _ y2)]; exact R2_rt r.r2 h2 e1
  · rw [f 3 (hYX _ y3)]; exact R3_rt r.r3 (hrt 3 y3 (by omega))
  · by_cases z : Y 4
    · exact p4 z
    · rw [f 4 (hYX _ z)]; exact R4_rt r.r4 (hrt 4 z (by omega)) e1 (fun _ => h2)
  · by_cases z : Y 5
    · exact p5 z
    · rw [f 5 (hYX _ z)]; exact R5_rt r.r5 (hrt 5 z (by omega)) e1
  · by_cases z : Y 6
    · exact p6 z
    · rw [f 6 (hYX _ z), q6 z]; exact R6_rt r.r6 (hrt 6 z (by omega)) e1
  · by_cases z : Y 7
    · exact p7n z
    · rw [f 7 (hYX _ z)]; exact c7 z _ _ _ r.r7 (hrt 7 z (by omega)) e1
  · by_cases z : Y 8
    · exact p8 z
    · rw [f 8 (hYX _ z)]; exact R8_rt r.r8 (hrt 8 z (by omega)) e1
  · by_cases z : Y 9
    · exact p9n z
    · obtain ⟨c, e2, e9⟩ := c9 z
      rw [f 9 (hYX _ z)]; exact c _ _ _ r.r9 (hrt 9 z (by omega)) e1 e2 e9 h2
  · by_cases z : Y 10
    · exact p10 z
    · rw [f 10 (hYX _ z)]; exact R10_rt r.r10 (hrt 10 z (by omega))
/-- the house's cells amid a second -/
theorem RG.c100 (r : RG p7 p9 s own t K N) : s.1 100 = some (true, false, 45, [.ref 101, .ref 102, .ref 104, .ref 108, .ref 115, .ref 120, .ref 151, .ref 162, .ref 170, .int (t.1 1)]) := (rs_in r.r1.1).1
theorem RG.c101 (r : RG p7 p9 s own t K N) : s.1 101 = some (true, false, 56, [.int (t.1 2)]) ∧ own 101 = 1 := rs_in r.r1.2
theorem RG.m4 (r : RG p7 p9 s own t K N) : xN s [(45, 3)] 100 = some 108 ∧ isK s [89] 108 = true ∧ xN s [(89, 4)] 108 = some 111 := by
  obtain ⟨zn, nr, nS, nT, nC, nR, nP, nL, a, rel, S, C, CS', CM, CT, E, RS, RM', RT, P, G, D, L, F, RW, q⟩ := r.r4
  exact ⟨xN_o r.c100 rfl rfl, isK_t (rs_in q.1.1).1 rfl, xN_o (rs_in q.1.1).1 rfl rfl⟩
theorem RG.m5 (r : RG p7 p9 s own t K N) : xN s [(45, 4)] 100 = some 115 ∧ isK s [100] 115 = true ∧ xN s [(100, 4)] 115 = some 118 ∧ own 115 = 5 ∧ 115 < s.2.1 := by
  obtain ⟨n, B, o, od, nw, q⟩ := r.r5
  obtain ⟨a, b⟩ := rs_in q.1.1
  exact ⟨xN_o r.c100 rfl rfl, isK_t a rfl, xN_o a rfl rfl, b, wf_lt r.wf a⟩
theorem RG.m6 (r : RG p7 p9 s own t K N) : xN s [(45, 5)] 100 = some 120 ∧ isK s [122] 120 = true := by
  obtain ⟨d, _, q⟩ := r.r6.1.1
  exact ⟨xN_o r.c100 rfl rfl, isK_t (rs_in q).1 rfl⟩
theorem RG.m8 (r : RG p7 p9 s own t K N) : xN s [(45, 7)] 100 = some 162 ∧ isK s [49] 162 = true := by
  obtain ⟨nc, nk, C, D, M, b, ⟨nw, hm, lst, q⟩, _⟩ := r.r8
  exact ⟨xN_o r.c100 rfl rfl, isK_t (rs_in q).1 rfl⟩
theorem RG.sec (r : RG p7 p9 s own t K N) : SecH s own t N := by
  obtain ⟨n, B, o, od, nw, q⟩ := r.r5
  obtain ⟨a, b⟩ := rs_in q.1.1
  exact ⟨r.r6, r.r10, ⟨_, _, a, rfl⟩, b⟩
theorem RG.g4 (r : RG p7 p9 s own t K N) : ∃ zn nr nS nT nC nR nP nL a rel S C CS' CM CT E RS RM' RT P G D L F RW, R4x s.1 t K zn nr nS nT nC nR nP nL a rel S C CS' CM CT E RS RM' RT P G D L F RW := by
  obtain ⟨zn, nr, nS, nT, nC, nR, nP, nL, a, rel, S, C, CS', CM, CT, E, RS, RM', RT, P, G, D, L, F, RW, q⟩ := r.r4
  exact ⟨zn, nr, nS, nT, nC, nR, nP, nL, a, rel, S, C, CS', CM, CT, E, RS, RM', RT, P, G, D, L, F, RW, R4x_cg q (fun _ _ h => (rs_some.mp h).2) rfl rfl (fun _ _ => rfl)⟩
theorem RG.k5r (r : RG p7 p9 s own t K N) : RK s.1 := by
  obtain ⟨a, b, c, d⟩ := r.ks.2.2.2
  exact ⟨fun k hk => (rs_in (a k hk)).1, (rs_in b).1, (rs_in c).1, (rs_in d).1⟩
theorem RG.k9r (r : RG p7 p9 s own t K N) : K9 s.1 := by
  obtain ⟨⟨w, a⟩, v, b⟩ := r.ks.2.2.1
  exact ⟨⟨w, (rs_in a).1⟩, v, (rs_in b).1⟩
/-- the warden's relation of the second before -/
def P7m (n : Nat) (h : lHeap) (t : TS) : Prop := ∃ np sz mx zm am rl nr na ec P Z ZP A RW od, R7b h (ptI t 301 (Int32.ofNat n)) np sz mx zm am rl nr na ec P Z ZP A RW od (40 * n)
theorem rt_pt7 (e : rt T 7 = rt t 7) (v : Int32) : rt (ptI T 301 v) 7 = rt (ptI t 301 v) 7 := by
  refine Prod.ext (funext fun c => ?_) (Prod.ext (congrArg (fun x => x.2.1) e) (Prod.ext (congrArg (fun x => x.2.2.1) e) (congrArg (fun x => x.2.2.2) e)))
  have := congrFun (congrArg Prod.fst e) c
  unfold rt at this ⊢
  dsimp only at this ⊢
  by_cases z : mI c = 7
  · rw [if_pos z] at this ⊢
    rw [if_pos z] at this ⊢
    rw [pt_1, pt_1, this]
  · rw [if_neg z, if_neg z]
theorem C7_m (n : Nat) : C7 (P7m n) (P7m n) := by
  rintro h t T ⟨np, sz, mx, zm, am, rl, nr, na, ec, P, Z, ZP, A, RW, od, q⟩ e e1
  exact ⟨np, sz, mx, zm, am, rl, nr, na, ec, P, Z, ZP, A, RW, od, R7b_rt q (rt_pt7 e _) (by rw [pt_1, pt_1, if_neg (by omega), if_neg (by omega)]; exact e1)⟩
theorem C7_7 : C7 R7 R7 := fun _ _ _ r e e1 => R7_rt r e e1
theorem C9_x {nl nr nd sm : Nat} {W : Nat → Nat} {e q g wn : Nat → Int32} {sc : Nat → Nat} : C9 (fun h t => R9x h t nl nr nd sm W e q g wn sc) (fun h t => R9x h t nl nr nd sm W e q g wn sc) := fun _ _ _ r e e1 e2 e9 h2 => R9x_cg r (fun _ _ h => h) e1 e2 e9 e (fun _ => h2)
end
