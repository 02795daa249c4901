/-! the house: sentence, reset, disturb -/
section
variable {α : Type} {s : CS} {own : Nat → Nat} {t : TS} {K N : Nat}
/-- parts without plan, gate, program -/
theorem RH.some6 {Y : Nat → Prop} {s' : CS} {own' : Nat → Nat} {T : TS} (r : RH s own t K N) (hY : ∀ Z, Y Z → Z = 6 ∨ Z = 7 ∨ Z = 10) (hF : Frm Y own own' s s') (hrt : ∀ Z, ¬ Y Z → Z ≠ 99 → rt T Z = rt t Z) (k : KpN t T) (p : (Y 6 → R6 (rs s'.1 own' 6) T N) ∧ (Y 7 → R7 (rs s'.1 own' 7) T) ∧ (Y 10 → R10 (rs s'.1 own' 10) T)) : RH s' own' T K N := by
  have no : ∀ Z, Z ≠ 6 → Z ≠ 7 → Z ≠ 10 → ¬ Y Z := fun Z h6 h7 h10 w => by rcases hY Z w with z | z | z <;> contradiction
  refine RH.keep (X := Y) (Y := Y) r hF (fun Z h => ⟨Or.inl (by rcases hY Z h with z | z | z <;> omega), by rcases hY Z h with z | z | z <;> omega⟩) (fun Z h _ w => h w) hrt (r.nn.kp k (fun h c h1 h2 => rt_row (hrt 4 (no 4 (by omega) (by omega) (by omega)) (by omega)) (by unfold mR; split <;> (try split) <;> omega)) (fun j hj => by rw [rt_row (c := 137) (hrt 5 (no 5 (by omega) (by omega) (by omega)) (by omega)) rfl]; exact r.nn.b5 j hj)) (hrt 1 (no 1 (by omega) (by omega) (by omega)) (by omega)) (k.h 9 (by decide)) (fun _ => hrt 2 (no 2 (by omega) (by omega) (by omega)) (by omega)) (fun z => absurd z (no 2 (by omega) (by omega) (by omega))) (fun z => absurd z (no 3 (by omega) (by omega) (by omega))) (fun z => absurd z (no 4 (by omega) (by omega) (by omega))) (fun _ => Nat.le_refl _) (fun z => absurd z (no 5 (by omega) (by omega) (by omega))) p.1 (fun _ => rfl) p.2.1 (fun z => absurd z (no 8 (by omega) (by omega) (by omega))) (fun z => absurd z (no 9 (by omega) (by omega) (by omega))) p.2.2
theorem Ro.hs {Y : Nat → Prop} {RX : (Nat → lHeap) → TS → Prop} {E : Nat → Int32 → Prop} {c : Option (Sum (α × CS) (Nat × CS))} {d : Option (α × TS)} {n m n' m' : Nat} (h : Ro E Y Y RX own s t n m c d) (r : RH s own t K N) (hY : ∀ Z, Y Z → Z = 6 ∨ Z = 7 ∨ Z = 10) (hp : ∀ H T, RX H T → (Y 6 → R6 (H 6) T N) ∧ (Y 7 → R7 (H 7) T) ∧ (Y 10 → R10 (H 10) T)) (k : Kp (fun r => KpN t r.2) d) (hn : n + 1 ≤ n') (hm : m + 6 ≤ m') : Hr E own s t K N n' m' c d := by
  have hup : ∀ Z, Y Z → HP Z := fun Z h => Or.inl (by rcases hY Z h with z | z | z <;> omega)
  have h5 : ¬ Y 5 := fun w => by rcases hY 5 w with z | z | z <;> omega
  rcases h with ⟨x, s', t', own', a1, a2, a3, a4, a5, a6, a7, a8⟩ | ⟨x, kd, cd, s1, t1, own1, a1, a2, a3, a4, a5, a6, a7, a8, a9⟩
  · have hk := k.h _ a2
    have r' := r.some6 hY a5 a4 hk (hp _ _ a6)
    obtain ⟨e1, e2⟩ := Pc_kp (N := N) hk
    have e3 := st5_frm r a5 h5
    refine ⟨x, t', s', own', K, N, a2, r', Nat.le_succ _, frm_up a5 hup, ?_, ?_, Or.inl ⟨a1, a3⟩⟩
    · unfold PHc
      have e1 : Pc t' N = Pc t N := e1
      omega
    · unfold PHs
      have e2 : Ps t' N = Ps t N := e2
      omega
  · have hk := k.h _ a3
    have r' := r.some6 hY a6 a5 hk (hp _ _ a7)
    obtain ⟨e1, e2⟩ := Pc_kp (N := N) hk
    have e3 := st5_frm r a6 h5
    refine Hr.thr (a := n) (b := m) r' (Nat.le_succ _) (frm_up a6 hup) a1 a2 a3 a4 ?_ ?_ hn hm
    · unfold PHc
      have e1 : Pc t1 N = Pc t N := e1
      omega
    · unfold PHs
      have e2 : Ps t1 N = Ps t N := e2
      omega
theorem hs_sentence (r : RH s own t K N) (v1 v2 v3 v4 v5 : Int32) : Hr thr0 own s t K N 103 4006 (c_431 100 v1 v2 v3 v4 v5 s) (t_620 v1 v2 v3 v4 v5 t) := by
  have h := wa_sentence r.wf r.hs r.k7 r.r7 v1 v2 v3 v4 v5
  unfold c_431
  rw [r.m7.1, Option.bind_some, if_pos r.m7.2, bindId]
  exact h.hs r (fun Z h => by omega) (fun H T q => ⟨fun z => absurd z (by omega), fun _ => q, fun z => absurd z (by omega)⟩) (kp_620 KpN.rf) (by decide) (by decide)
theorem RH.sec (r : RH s own t K N) : SecH s own t N := by
  obtain ⟨n, B, o, od, nw, q⟩ := r.r5
  obtain ⟨a, b⟩ := rs_in q.1.1
  exact ⟨r.r6, r.r10, ⟨_, _, a, rfl⟩, b⟩
theorem hs_reset (r : RH s own t K N) : Hr thr1 own s t K N 62 1530 (c_438 100 s) (t_627 t) := by
  have h := wa_reset r.wf r.hs r.k7 r.r7 r.sec
  unfold c_438
  rw [r.m7.1, Option.bind_some, if_pos r.m7.2, bindId]
  exact h.hs r (fun Z h => by omega) (fun H T q => ⟨fun _ => q.2.1, fun _ => q.1, fun _ => q.2.2⟩) (kp_627 KpN.rf) (by decide) (by decide)
end
