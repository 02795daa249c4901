/-! the house: an operation of one part -/
section
variable {α : Type} {s : CS} {own : Nat → Nat} {t : TS} {K N : Nat}
/-- a part's relation as it comes of an operation -/
def RYs (Y K N : Nat) (H : Nat → lHeap) (t T : TS) : Prop := (Y = 2 → R2 (H 2) T ∧ (t.1 1 = 0 ∨ rt T 2 = rt t 2)) ∧ (Y = 3 → R3 (H 3) T) ∧ (Y = 4 → R4 (H 4) T (K + 1)) ∧ (Y = 5 → R5 (H 5) T ∧ B137 T) ∧ (Y = 6 → R6 (H 6) T N) ∧ (Y = 7 → R7 (H 7) T) ∧ (Y = 8 → R8 (H 8) T) ∧ (Y = 9 → R9 (H 9) T) ∧ (Y = 10 → R10 (H 10) T)
theorem st5_frm {s' : CS} {own' : Nat → Nat} {X : Nat → Prop} (r : RH s own t K N) (hF : Frm X own own' s s') (h5 : ¬ X 5) : st5 s' = st5 s := by
  obtain ⟨n, B, o, od, nw, q⟩ := r.r5
  obtain ⟨a, b⟩ := rs_in q.1.1
  exact st5_eq (hF.2.2.1 115 (wf_lt r.wf a) (by rw [b]; exact h5))
theorem kpn_rt {T : TS} {Y : Nat} (hY : Y = 2 ∨ Y = 3 ∨ Y = 5 ∨ Y = 9 ∨ Y = 10) (hrt : ∀ Z, Z ≠ Y → Z ≠ 99 → rt T Z = rt t Z) : KpN t T := by
  refine ⟨trivial, fun c hc => ?_⟩
  have : mI c = 1 ∨ mI c = 4 ∨ mI c = 7 ∨ mI c = 6 ∨ mI c = 8 := by
    have key : ∀ c ∈ kpNs, mI c = 1 ∨ mI c = 4 ∨ mI c = 7 ∨ mI c = 6 ∨ mI c = 8 := by decide
    exact key c hc
  refine rt_num (Z := mI c) (hrt _ ?_ ?_) rfl <;> omega
/-- the state of a part's operation is the house's -/
theorem RH.part {Y : Nat} {s' : CS} {own' : Nat → Nat} {T : TS} (r : RH s own t K N) (hY : 2 ≤ Y ∧ Y ≤ 10) (hF : Frm (fun X => X = Y) own own' s s') (hrt : ∀ Z, Z ≠ Y → Z ≠ 99 → rt T Z = rt t Z) (k : KpN t T) (hz : Y = 4 → t.1 1 = 0 → T.2.2 = t.2.2) (p : RYs Y K N (fun Z => rs s'.1 own' Z) t T) : RH s' own' T (K + 1) N := by
  obtain ⟨p2, p3, p4, p5, p6, p7, p8, p9, p10⟩ := p
  have hb : B137 T := by
    by_cases z : Y = 5
    · exact (p5 z).2
    · intro k hk
      rw [rt_row (c := 137) (hrt 5 (fun w => z w.symm) (by omega)) rfl]; exact r.nn.b5 k hk
  refine RH.keep (X := fun X => X = Y) (Y := fun Z => Z = Y) r hF (fun Z h => ⟨Or.inl (by omega), by omega⟩) (fun Z h _ w => h w) hrt (r.nn.kp k (fun h c h1 h2 => ?_) hb) (hrt 1 (by omega) (by omega)) (k.h 9 (by decide)) (fun h => ?_) (fun z => (p2 z.symm).1) (fun z => p3 z.symm) (fun z => p4 z.symm) (fun _ => Nat.le_succ _) (fun z => (p5 z.symm).1) (fun z => p6 z.symm) (fun _ => rfl) (fun z => p7 z.symm) (fun z => p8 z.symm) (fun z => p9 z.symm) (fun z => p10 z.symm)
  · by_cases z : Y = 4
    · rw [hz z h]
    · exact rt_row (hrt 4 (fun w => z w.symm) (by omega)) (by unfold mR; split <;> (try split) <;> omega)
  · by_cases z : Y = 2
    · exact (p2 z).2.resolve_left h
    · exact hrt 2 (fun w => z w.symm) (by omega)
theorem frm_up {X Y : Nat → Prop} {own' : Nat → Nat} {s' : CS} (h : Frm X own own' s s') (hXY : ∀ Z, X Z → Y Z) : Frm Y own own' s s' := ⟨h.1, h.2.1, fun a ha hx => h.2.2.1 a ha (fun w => hx (hXY _ w)), fun a h1 h2 => hXY _ (h.2.2.2.1 a h1 h2), h.2.2.2.2⟩
/-- a thrown exception -/
theorem Hr.thr {E : Nat → Int32 → Prop} {c : Option (Sum (α × CS) (Nat × CS))} {d : Option (α × TS)} {x : α} {kd : Nat} {cd : Int32} {s1 : CS} {own1 : Nat → Nat} {t1 : TS} {n m a b K1 N1 : Nat} (r : RH s1 own1 t1 K1 N1) (hK : K1 ≤ K + 1) (hF : Frm HP own own1 s s1) (he : E kd cd) (hc : c = some (.inr (s1.2.1, exs s1 kd))) (hd : d = some (x, t1)) (h0 : t1.1 0 = cd) (hn : s1.2.2.1 + PHc s1 t1 N1 ≤ s.2.2.1 + PHc s t N + a) (hm : s1.2.2.2 + PHs s1 t1 N1 ≤ s.2.2.2 + PHs s t N + b) (ha : a + 1 ≤ n) (hb : b + 6 ≤ m) : Hr E own s t K N n m c d := by
  have r2 := r.exs kd
  have e : st5 (exs s1 kd) = st5 s1 := st5_frm r (frm_exs r.wf) (by omega)
  refine ⟨x, t1, exs s1 kd, _, K1, N1, hd, r2, hK, Frm.trans hF (frm_up (frm_exs r.wf) (fun Z h => Or.inr h)), ?_, ?_, Or.inr ⟨kd, cd, s1.2.1, [.ref s1.2.1, .ref 17, .ref 18, .null, .null, .int 0], he, hc, ?_, h0⟩⟩
  · unfold PHc at hn ⊢
    rw [e]
    show s1.2.2.1 + 1 + _ ≤ _
    omega
  · unfold PHs at hm ⊢
    rw [e]
    show s1.2.2.2 + 6 + _ ≤ _
    omega
  · show lUpd s1.1 s1.2.1 _ s1.2.1 = _
    rw [lUpd_at, if_pos rfl]
theorem Rg.hs {Y : Nat} {RX : (Nat → lHeap) → TS → Prop} {E : Nat → Int32 → Prop} {c : Option (Sum (α × CS) (Nat × CS))} {d : Option (α × TS)} {n m n' m' : Nat} (h : Rg E (fun X => X = Y) Y RX own s t n m c d) (r : RH s own t K N) (hY : 2 ≤ Y ∧ Y ≤ 10) (hp : ∀ H T, RX H T → RYs Y K N H t T) (k : Kp (fun r => KpN t r.2) d) (hz : Y = 4 → t.1 1 = 0 → Kp (fun r => r.2.2 = t.2) d) (hn : n + (if Y = 5 then 500 else 0) + 1 ≤ n') (hm : m + (if Y = 5 then 30000 else 0) + 6 ≤ m') : Hr E own s t K N n' m' c d := by
  have hup : ∀ Z, Z = Y → HP Z := fun Z h => Or.inl (by omega)
  have st : ∀ {s1 : CS} {own1 : Nat → Nat}, Frm (fun X => X = Y) own own1 s s1 → 500 * st5 s1 ≤ 500 * st5 s + (if Y = 5 then 500 else 0) ∧ 30000 * st5 s1 ≤ 30000 * st5 s + (if Y = 5 then 30000 else 0) := by
    intro s1 own1 hF
    by_cases z : Y = 5
    · rw [if_pos z, if_pos z]
      have := st5_le s1
      omega
    · rw [if_neg z, if_neg z, st5_frm r hF (fun w => z w.symm)]
      omega
  rcases h with ⟨x, s', t', own', a1, a2, a3, a4, a5, a6, a7, a8⟩ | ⟨x, kd, cd, s1, own1, a1, a2, a3, a4, a5, a6, a7⟩
  · have hk := k.h _ a2
    have r' := r.part hY a5 a4 hk (fun w1 w2 => congrArg Prod.snd ((hz w1 w2).h _ a2)) (hp _ _ a6)
    obtain ⟨e1, e2⟩ := Pc_kp (N := N) hk
    have := st a5
    refine ⟨x, t', s', own', K + 1, N, a2, r', Nat.le_refl _, frm_up a5 hup, ?_, ?_, Or.inl ⟨a1, a3⟩⟩
    · unfold PHc
      show _ + (Pc t' N + _) ≤ _
      have e1 : Pc t' N = Pc t N := e1
      omega
    · unfold PHs
      have e2 : Ps t' N = Ps t N := e2
      omega
  · have r' := (r.part hY a4 (fun _ _ _ => rfl) KpN.rf (fun _ _ => rfl) (hp _ _ a5)).pt cd
    have := st a4
    refine Hr.thr (a := n + (if Y = 5 then 500 else 0)) (b := m + (if Y = 5 then 30000 else 0)) r' (Nat.le_refl _) (frm_up a4 hup) a1 a2 a3 rfl ?_ ?_ hn hm
    · unfold PHc
      have e1 : Pc (ptI t 0 cd) N = Pc t N := (Pc_kp KpN.p0).1
      omega
    · unfold PHs
      have e2 : Ps (ptI t 0 cd) N = Ps t N := (Pc_kp KpN.p0).2
      omega
end
