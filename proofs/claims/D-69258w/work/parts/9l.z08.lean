/-! the house: the relation -/
/-- the house's parts, and what was thrown -/
def HP (X : Nat) : Prop := (1 ≤ X ∧ X ≤ 10) ∨ X = 97
def H1r (h : lHeap) (t : TS) : Prop := h 100 = some (true, false, 45, [.ref 101, .ref 102, .ref 104, .ref 108, .ref 115, .ref 120, .ref 151, .ref 162, .ref 170, .int (t.1 1)]) ∧ h 101 = some (true, false, 56, [.int (t.1 2)])
/-- what the parts' numbers have in common -/
def HNm (t : TS) (N : Nat) : Prop := v01 (t.1 1) ∧ (∃ nw, t.1 2 = Int32.ofNat nw ∧ nw ≤ 6000 ∧ N ≤ 30 * nw) ∧ t.1 301 = t.1 2 ∧ t.1 612 = t.1 2 ∧ (t.1 1 = 0 → ∀ c, 12 ≤ c → c ≤ 16 → ∀ k, t.2.2.1 c k = 0) ∧ (t.1 1 ≠ 0 → t.1 300 = t.1 9 + 10) ∧ B137 t
section
variable {t : TS} {N : Nat}
theorem HNm.v1 (r : HNm t N) : v01 (t.1 1) := r.1
theorem HNm.nw (r : HNm t N) : ∃ nw, t.1 2 = Int32.ofNat nw ∧ nw ≤ 6000 ∧ N ≤ 30 * nw := r.2.1
theorem HNm.n7 (r : HNm t N) : t.1 301 = t.1 2 := r.2.2.1
theorem HNm.n8 (r : HNm t N) : t.1 612 = t.1 2 := r.2.2.2.1
theorem HNm.z4 (r : HNm t N) : t.1 1 = 0 → ∀ c, 12 ≤ c → c ≤ 16 → ∀ k, t.2.2.1 c k = 0 := r.2.2.2.2.1
theorem HNm.np (r : HNm t N) : t.1 1 ≠ 0 → t.1 300 = t.1 9 + 10 := r.2.2.2.2.2.1
theorem HNm.b5 (r : HNm t N) : B137 t := r.2.2.2.2.2.2
end
def RH (s : CS) (own : Nat → Nat) (t : TS) (K N : Nat) : Prop := wfS s ∧ 179 ≤ s.2.1 ∧ (∀ a, a < 100 → own a = 11) ∧ (∀ a, a < s.2.1 → own a ≠ 98) ∧ K3 (rs s.1 own 11) ∧ K7 (rs s.1 own 11) ∧ K9 (rs s.1 own 11) ∧ RK (rs s.1 own 11) ∧ HNm t N ∧ H1r (rs s.1 own 1) t ∧ R2 (rs s.1 own 2) t ∧ R3 (rs s.1 own 3) t ∧ R4 (rs s.1 own 4) t K ∧ R5 (rs s.1 own 5) t ∧ R6 (rs s.1 own 6) t N ∧ R7 (rs s.1 own 7) t ∧ R8 (rs s.1 own 8) t ∧ R9 (rs s.1 own 9) t ∧ R10 (rs s.1 own 10) t
section
variable {s : CS} {own : Nat → Nat} {t : TS} {K N : Nat}
theorem RH.wf (r : RH s own t K N) : wfS s := r.1
theorem RH.hs (r : RH s own t K N) : 179 ≤ s.2.1 := r.2.1
theorem RH.o11 (r : RH s own t K N) : ∀ a, a < 100 → own a = 11 := r.2.2.1
theorem RH.o98 (r : RH s own t K N) : ∀ a, a < s.2.1 → own a ≠ 98 := r.2.2.2.1
theorem RH.k3 (r : RH s own t K N) : K3 (rs s.1 own 11) := r.2.2.2.2.1
theorem RH.k7 (r : RH s own t K N) : K7 (rs s.1 own 11) := r.2.2.2.2.2.1
theorem RH.k9 (r : RH s own t K N) : K9 (rs s.1 own 11) := r.2.2.2.2.2.2.1
theorem RH.k5 (r : RH s own t K N) : RK (rs s.1 own 11) := r.2.2.2.2.2.2.2.1
theorem RH.nn (r : RH s own t K N) : HNm t N := r.2.2.2.2.2.2.2.2.1
theorem RH.r1 (r : RH s own t K N) : H1r (rs s.1 own 1) t := r.2.2.2.2.2.2.2.2.2.1
theorem RH.r2 (r : RH s own t K N) : R2 (rs s.1 own 2) t := r.2.2.2.2.2.2.2.2.2.2.1
theorem RH.r3 (r : RH s own t K N) : R3 (rs s.1 own 3) t := r.2.2.2.2.2.2.2.2.2.2.2.1
theorem RH.r4 (r : RH s own t K N) : R4 (rs s.1 own 4) t K := r.2.2.2.2.2.2.2.2.2.2.2.2.1
theorem RH.r5 (r : RH s own t K N) : R5 (rs s.1 own 5) t := r.2.2.2.2.2.2.2.2.2.2.2.2.2.1
theorem RH.r6 (r : RH s own t K N) : R6 (rs s.1 own 6) t N := r.2.2.2.2.2.2.2.2.2.2.2.2.2.2.1
theorem RH.r7 (r : RH s own t K N) : R7 (rs s.1 own 7) t := r.2.2.2.2.2.2.2.2.2.2.2.2.2.2.2.1
theorem RH.r8 (r : RH s own t K N) : R8 (rs s.1 own 8) t := r.2.2.2.2.2.2.2.2.2.2.2.2.2.2.2.2.1
theorem RH.r9 (r : RH s own t K N) : R9 (rs s.1 own 9) t := r.2.2.2.2.2.2.2.2.2.2.2.2.2.2.2.2.2.1
theorem RH.r10 (r : RH s own t K N) : R10 (rs s.1 own 10) t := r.2.2.2.2.2.2.2.2.2.2.2.2.2.2.2.2.2.2
end
/-- what is to be paid of the bus' and the order's work -/
noncomputable def PHc (s : CS) (t : TS) (N : Nat) : Nat := Pc t N + 500 * st5 s
noncomputable def PHs (s : CS) (t : TS) (N : Nat) : Nat := Ps t N + 30000 * st5 s
/-- an operation of the house: both sides alike -/
def Hr {α : Type} (E : Nat → Int32 → Prop) (own : Nat → Nat) (s : CS) (t : TS) (K N n m : Nat) (c : Option (Sum (α × CS) (Nat × CS))) (d : Option (α × TS)) : Prop :=
  ∃ x t' s' own' K' N', d = some (x, t') ∧ RH s' own' t' K' N' ∧ K' ≤ K + 1 ∧ Frm HP own own' s s' ∧ s'.2.2.1 + PHc s' t' N' ≤ s.2.2.1 + PHc s t N + n ∧ s'.2.2.2 + PHs s' t' N' ≤ s.2.2.2 + PHs s t N + m ∧
    ((c = some (.inl (x, s')) ∧ t'.1 0 = 0) ∨ ∃ kd cd a fs, E kd cd ∧ c = some (.inr (a, s')) ∧ s'.1 a = some (true, false, kd, fs) ∧ t'.1 0 = cd)
section
variable {s s' : CS} {own own' : Nat → Nat} {t T : TS} {K K' N N' : Nat} {X : Nat → Prop}
theorem R4_mono {h : lHeap} (hK : K ≤ K') (r : R4 h t K) : R4 h t K' := by
  obtain ⟨zn, nr, nS, nT, nC, nR, nP, nL, a, rel, S, C, CS', CM, CT, E, RS, RM', RT, P, G, D, L, F, RW, a0, a1, a2, a3, a4, a5, a6, a10, ⟨x1, x2, x3⟩, a12⟩ := r
  exact ⟨zn, nr, nS, nT, nC, nR, nP, nL, a, rel, S, C, CS', CM, CT, E, RS, RM', RT, P, G, D, L, F, RW, a0, a1, a2, a3, a4, a5, a6, a10, ⟨by omega, by omega, by omega⟩, a12⟩
theorem RH.mono (hK : K ≤ K') (r : RH s own t K N) : RH s own t K' N := ⟨r.wf, r.hs, r.o11, r.o98, r.k3, r.k7, r.k9, r.k5, r.nn, r.r1, r.r2, r.r3, R4_mono hK r.r4, r.r5, r.r6, r.r7, r.r8, r.r9, r.r10⟩
theorem Pc_kp (h : KpN t T) : Pc T N = Pc t N ∧ Ps T N = Ps t N := by
  obtain ⟨a, b⟩ := pot_cg (t := t) (t' := T) (N := N) (h.h 516 (by decide)) (h.h 517 (by decide)) (h.h 528 (by decide))
  unfold Pc Ps
  rw [a, b, h.h 503 (by decide)]
  exact ⟨rfl, rfl⟩
theorem KpN.rf : KpN t t := ⟨trivial, fun _ _ => rfl⟩
theorem KpN.p0 {v : Int32} : KpN t (ptI t 0 v) := KpN.pt (by decide) KpN.rf
/-- other parts stay -/
theorem RH.keep {Y : Nat → Prop} (r : RH s own t K N) (hF : Frm X own own' s s') (hX : ∀ Z, X Z → HP Z ∧ Z ≠ 1) (hYX : ∀ Z, ¬ Y Z → Z ≤ 10 → ¬ X Z) (hrt : ∀ Z, ¬ Y Z → Z ≠ 99 → rt T Z = rt t Z) (hn : HNm T N') (h1 : rt T 1 = rt t 1) (h9 : T.1 9 = t.1 9) (h2 : t.1 1 ≠ 0 → rt T 2 = rt t 2)
    (p2 : Y 2 → R2 (rs s'.1 own' 2) T) (p3 : Y 3 → R3 (rs s'.1 own' 3) T) (p4 : Y 4 → R4 (rs s'.1 own' 4) T K') (q4 : ¬ Y 4 → K ≤ K') (p5 : Y 5 → R5 (rs s'.1 own' 5) T) (p6 : Y 6 → R6 (rs s'.1 own' 6) T N') (q6 : ¬ Y 6 → N' = N) (p7 : Y 7 → R7 (rs s'.1 own' 7) T) (p8 : Y 8 → R8 (rs s'.1 own' 8) T) (p9 : Y 9 → R9 (rs s'.1 own' 9) T) (p10 : Y 10 → R10 (rs s'.1 own' 10) T) : RH s' own' T K' N' := by
  have e1 : T.1 1 = t.1 1 := rt_num h1 rfl
  have e2 : T.1 2 = t.1 2 := rt_num h1 rfl
  have lt := hF.1
  have hs := r.hs
  have x11 : ¬ X 11 := fun z => by rcases (hX _ z).1 with w | w <;> omega
  have x1 : ¬ X 1 := fun z => (hX _ z).2 rfl
  have f : ∀ Z, ¬ X Z → rs s'.1 own' Z = rs s.1 own Z := fun Z hZ => frm_rs r.wf hF hZ
  refine ⟨hF.2.2.2.2, by omega, fun a ha => by rw [hF.2.1 a (by omega)]; exact r.o11 a ha, fun a ha => ?_, by rw [f _ x11]; exact r.k3, by rw [f _ x11]; exact r.k7, by rw [f _ x11]; exact r.k9, by rw [f _ x11]; exact r.k5, hn, by rw [f _ x1]; unfold H1r; rw [e1, e2]; exact r.r1, ?_, ?_, ?_, ?_, ?_, ?_, ?_, ?_, ?_⟩
  · by_cases z : a < s.2.1
    · rw [hF.2.1 a z]; exact r.o98 a z
    · intro w
      have := (hX _ (hF.2.2.2.1 a (by omega) ha)).1
      rw [w] at this
      rcases this with w | w <;> omega
  · by_cases z : Y 2
    · exact p2 z
    · rw [f 2 (hYX _ z (by omega))]; exact R2_rt r.r2 (hrt 2 z (by omega)) e1
  · by_cases z : Y 3
    · exact p3 z
    · rw [f 3 (hYX _ z (by omega))]; exact R3_rt r.r3 (hrt 3 z (by omega))
  · by_cases z : Y 4
    · exact p4 z
    · rw [f 4 (hYX _ z (by omega))]; exact R4_mono (q4 z) (R4_rt r.r4 (hrt 4 z (by omega)) e1 h2)
  · by_cases z : Y 5
    · exact p5 z
    · rw [f 5 (hYX _ z (by omega))]; exact R5_rt r.r5 (hrt 5 z (by omega)) e1
  · by_cases z : Y 6
    · exact p6 z
    · rw [f 6 (hYX _ z (by omega)), q6 z]; exact R6_rt r.r6 (hrt 6 z (by omega)) e1
  · by_cases z : Y 7
    · exact p7 z
    · rw [f 7 (hYX _ z (by omega))]; exact R7_rt r.r7 (hrt 7 z (by omega)) e1
  · by_cases z : Y 8
    · exact p8 z
    · rw [f 8 (hYX _ z (by omega))]; exact R8_rt r.r8 (hrt 8 z (by omega)) e1
  · by_cases z : Y 9
    · exact p9 z
    · rw [f 9 (hYX _ z (by omega))]; exact R9_rt r.r9 (hrt 9 z (by omega)) e1 e2 h9 h2
  · by_cases z : Y 10
    · exact p10 z
    · rw [f 10 (hYX _ z (by omega))]; exact R10_rt r.r10 (hrt 10 z (by omega))
theorem HNm.kp (r : HNm t N) (k : KpN t T) (hz : t.1 1 = 0 → ∀ c, 12 ≤ c → c ≤ 16 → T.2.2.1 c = t.2.2.1 c) (hb : B137 T) : HNm T N := by
  have e := fun c (hc : c ∈ kpNs) => k.h c hc
  refine ⟨by rw [e 1 (by decide)]; exact r.v1, by rw [e 2 (by decide)]; exact r.nw, by rw [e 301 (by decide), e 2 (by decide)]; exact r.n7, by rw [e 612 (by decide), e 2 (by decide)]; exact r.n8, fun h c h1 h2 k => ?_, fun h => ?_, hb⟩
  · rw [e 1 (by decide)] at h
    rw [hz h c h1 h2]; exact r.z4 h c h1 h2 k
  · rw [e 1 (by decide)] at h
    rw [e 300 (by decide), e 9 (by decide)]; exact r.np h
/-- the answer's kind is nobody's -/
theorem RH.pt (r : RH s own t K N) (v : Int32) : RH s own (ptI t 0 v) K N := by
  have e : ∀ Z, Z ≠ 99 → rt (ptI t 0 v) Z = rt t Z := fun Z hZ => rt_ptI (by show 99 ≠ Z; exact fun z => hZ z.symm)
  exact RH.keep (X := fun _ => False) (Y := fun _ => False) r (Frm.refl r.wf) (fun Z h => h.elim) (fun Z _ _ h => h) (fun Z _ h => e Z h) (r.nn.kp KpN.p0 (fun _ c _ _ => rfl) r.nn.b5) (e 1 (by omega)) rfl (fun _ => e 2 (by omega)) (fun h => h.elim) (fun h => h.elim) (fun h => h.elim) (fun _ => Nat.le_refl _) (fun h => h.elim) (fun h => h.elim) (fun _ => rfl) (fun h => h.elim) (fun h => h.elim) (fun h => h.elim) (fun h => h.elim)
theorem frm_exs {kd : Nat} (hw : wfS s) : Frm (fun X => X = 97) own (giv own s.2.1 97) s (exs s kd) := frm_nwc (n := 1) (m := 6) hw rfl
theorem RH.exs (r : RH s own t K N) (kd : Nat) : RH (exs s kd) (giv own s.2.1 97) t K N :=
  RH.keep (X := fun X => X = 97) (Y := fun _ => False) r (frm_exs r.wf) (fun Z h => ⟨Or.inr h, by omega⟩) (fun Z _ h1 h => by omega) (fun Z _ h => rfl) r.nn rfl rfl (fun _ => rfl) (fun h => h.elim) (fun h => h.elim) (fun h => h.elim) (fun _ => Nat.le_refl _) (fun h => h.elim) (fun h => h.elim) (fun _ => rfl) (fun h => h.elim) (fun h => h.elim) (fun h => h.elim) (fun h => h.elim)
end
