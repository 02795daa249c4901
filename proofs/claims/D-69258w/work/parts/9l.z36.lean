/-! the law: its helpers -/
/-- the house beside the law's own cell -/
def RL (s : CS) (own : Nat → Nat) (t : TS) (K N o : Nat) : Prop := RH s own t K N ∧ own o = 12 ∧ ∃ z : Int64, s.1 o = some (true, true, 1, [.long z])
def LwR {α : Type} (own : Nat → Nat) (s : CS) (t : TS) (K N o n m : Nat) (c : Option (Int32 × CS)) (d : Option (α × TS)) (val : α → Option Int64) : Prop :=
  ∃ k S x t' own' K' N', c = some (k, S) ∧ d = some (x, t') ∧ t'.1 0 = k ∧ (∀ v, k = 0 → val x = some v → S.1 o = some (true, true, 1, [.long v])) ∧ RL S own' t' K' N' o ∧ K' ≤ K + 1 ∧ S.2.2.1 + PHc S t' N' ≤ s.2.2.1 + PHc s t N + n ∧ S.2.2.2 + PHs S t' N' ≤ s.2.2.2 + PHs s t N + m
section
variable {α : Type} {s s' : CS} {own own' : Nat → Nat} {t : TS} {K N o : Nat}
theorem RH.frm12 (r : RH s own t K N) (hF : Frm (fun X => X = 12) own own' s s') : RH s' own' t K N := by
  have f : ∀ Z, Z ≠ 12 → rs s'.1 own' Z = rs s.1 own Z := fun Z hZ => frm_rs r.wf hF hZ
  have hs := r.hs
  have le := hF.1
  refine ⟨hF.2.2.2.2, by omega, fun a ha => by rw [hF.2.1 a (by omega)]; exact r.o11 a ha, fun a ha => ?_, by rw [f 11 (by omega)]; exact r.k3, by rw [f 11 (by omega)]; exact r.k7, by rw [f 11 (by omega)]; exact r.k9, by rw [f 11 (by omega)]; exact r.k5, r.nn, by rw [f 1 (by omega)]; exact r.r1, by rw [f 2 (by omega)]; exact r.r2, by rw [f 3 (by omega)]; exact r.r3, by rw [f 4 (by omega)]; exact r.r4, by rw [f 5 (by omega)]; exact r.r5, by rw [f 6 (by omega)]; exact r.r6, by rw [f 7 (by omega)]; exact r.r7, by rw [f 8 (by omega)]; exact r.r8, by rw [f 9 (by omega)]; exact r.r9, by rw [f 10 (by omega)]; exact r.r10⟩
  by_cases z : a < s.2.1
  · rw [hF.2.1 a z]; exact r.o98 a z
  · intro w
    have := hF.2.2.2.1 a (by omega) ha
    omega
theorem RL.frm (r : RL s own t K N o) {t' : TS} {K' N' : Nat} (r' : RH s' own' t' K' N') (hF : Frm HP own own' s s') : RL s' own' t' K' N' o := by
  obtain ⟨r0, ho, z, hz⟩ := r
  have lt := wf_lt r0.wf hz
  have h12 : ¬ HP (own o) := by
    rw [ho]
    intro w
    rcases w with w | w <;> omega
  exact ⟨r', (hF.2.1 o lt).trans ho, z, by rw [hF.2.2.1 o lt h12]; exact hz⟩
theorem RL.put (r : RL s own t K N o) (v : Int64) : ∃ S, aPut s 1 o 0 (.long v) = some S ∧ RL S own t K N o ∧ S.1 o = some (true, true, 1, [.long v]) ∧ S.2 = s.2 ∧ st5 S = st5 s := by
  obtain ⟨r0, ho, z, hz⟩ := r
  have e : (true, true, 1, [.long z]) = (true, true, 1, rowC (fun _ => (.long z : Value)) 1) := rfl
  have h1 := aPut_r (k := 0) (v := .long v) (hz.trans (congrArg some e)) (by omega) (by omega)
  have hF : Frm (fun X => X = 12) own own s (cup s o (true, true, 1, rowC (fun j => if j = 0 then (.long v : Value) else .long z) 1)) := frm_cup r0.wf (wf_lt r0.wf hz) ho
  exact ⟨_, h1, ⟨r0.frm12 hF, ho, v, cup_eq ..⟩, cup_eq .., rfl, st5_frm r0 hF (by omega)⟩
theorem lw_gen {E : Nat → Int32 → Prop} {c : Option (Sum (α × CS) (Nat × CS))} {d : Option (α × TS)} {n m : Nat} {h : Nat × CS → Option (Int32 × CS)} (val : α → Int64) (r : RL s own t K N o) (H : Hr E own s t K N n m c d) (hE : ∀ kd cd a S fs, E kd cd → S.1 a = some (true, false, kd, fs) → h (a, S) = some (cd, S) ∧ cd ≠ 0) : LwR own s t K N o n m (Option.bind c (Sum.elim (fun x1 => Option.bind (aPut x1.2 1 o 0 (.long (val x1.1))) (fun s3 => some (0, s3))) h)) d (fun x => some (val x)) := by
  obtain ⟨x, t', s', own', K', N', a1, a2, a3, a4, a5, a6, a7⟩ := H
  have r' := r.frm a2 a4
  rcases a7 with ⟨b1, b2⟩ | ⟨kd, cd, a, fs, b1, b2, b3, b4⟩
  · obtain ⟨S, c1, c2, c3, c4, c5⟩ := r'.put (val x)
    refine ⟨0, S, x, t', own', K', N', by rw [b1, Option.bind_some, Sum.elim_inl, c1]; rfl, a1, b2, fun v _ hv => by cases hv; exact c3, c2, a3, ?_, ?_⟩
    · unfold PHc at a5 ⊢; rw [c5, c4]; exact a5
    · unfold PHs at a6 ⊢; rw [c5, c4]; exact a6
  · obtain ⟨e, en⟩ := hE kd cd a s' fs b1 b3
    exact ⟨cd, s', x, t', own', K', N', by rw [b2, Option.bind_some, Sum.elim_inr, e], a1, b4, fun v hk => absurd hk en, r', a3, a5, a6⟩
theorem lw_u {E : Nat → Int32 → Prop} {c : Option (Sum CS (Nat × CS))} {d : Option TS} {n m : Nat} {h : Nat × CS → Option (Int32 × CS)} (r : RL s own t K N o) (H : Hr E own s t K N n m (uC c) (uT d)) (hE : ∀ kd cd a S fs, E kd cd → S.1 a = some (true, false, kd, fs) → h (a, S) = some (cd, S) ∧ cd ≠ 0) : LwR own s t K N o n m (Option.bind c (Sum.elim (fun x1 => some (0, x1)) h)) (uT d) (fun _ => none) := by
  obtain ⟨x, t', s', own', K', N', a1, a2, a3, a4, a5, a6, a7⟩ := H
  have r' := r.frm a2 a4
  rcases a7 with ⟨b1, b2⟩ | ⟨kd, cd, a, fs, b1, b2, b3, b4⟩
  · refine ⟨0, s', x, t', own', K', N', ?_, a1, b2, (fun v _ hv => by cases hv), r', a3, a5, a6⟩
    cases c with
    | none => cases b1
    | some z =>
      cases z with
      | inl S => cases b1; rfl
      | inr q => cases b1
  · obtain ⟨e, en⟩ := hE kd cd a s' fs b1 b3
    refine ⟨cd, s', x, t', own', K', N', ?_, a1, b4, (fun v _ hv => by cases hv), r', a3, a5, a6⟩
    cases c with
    | none => cases b2
    | some z =>
      cases z with
      | inl S => cases b2
      | inr q =>
        have : q = (a, s') := by
          cases b2
          rfl
        rw [Option.bind_some, Sum.elim_inr, this, e]
def hdl0 : Nat × CS → Option (Int32 × CS) := fun q2 => (if isK q2.2 [11] q2.1 = true then some (1, q2.2) else (if isK q2.2 [12] q2.1 = true then some (2, q2.2) else none))
def hdl1 : Nat × CS → Option (Int32 × CS) := fun q2 => (if isK q2.2 [12] q2.1 = true then some (1, q2.2) else none)
def hdlA : Nat × CS → Option (Int32 × CS) := fun q2 => (if isK q2.2 [11] q2.1 = true then some (1, q2.2) else none)
theorem hE0 {kd : Nat} {cd : Int32} {a : Nat} {S : CS} {fs : List Value} (e : thr0 kd cd) (h : S.1 a = some (true, false, kd, fs)) : hdl0 (a, S) = some (cd, S) ∧ cd ≠ 0 := by
  rcases e with ⟨rfl, rfl⟩ | ⟨rfl, rfl⟩
  · exact ⟨if_pos (isK_t h rfl), by decide⟩
  · exact ⟨(if_neg (isK_f h rfl)).trans (if_pos (isK_t h rfl)), by decide⟩
theorem hE1 {kd : Nat} {cd : Int32} {a : Nat} {S : CS} {fs : List Value} (e : thr1 kd cd) (h : S.1 a = some (true, false, kd, fs)) : hdl1 (a, S) = some (cd, S) ∧ cd ≠ 0 := by
  obtain ⟨rfl, rfl⟩ := e
  exact ⟨if_pos (isK_t h rfl), by decide⟩
def thrA (kd : Nat) (cd : Int32) : Prop := kd = 11 ∧ cd = 1
theorem hEA {kd : Nat} {cd : Int32} {a : Nat} {S : CS} {fs : List Value} (e : thrA kd cd) (h : S.1 a = some (true, false, kd, fs)) : hdlA (a, S) = some (cd, S) ∧ cd ≠ 0 := by
  obtain ⟨rfl, rfl⟩ := e
  exact ⟨if_pos (isK_t h rfl), by decide⟩
theorem Hr.no2 {c : Option (Sum (α × CS) (Nat × CS))} {d : Option (α × TS)} {n m : Nat} (H : Hr thr0 own s t K N n m c d) (k : Kp (fun r => r.2.1 0 ≠ 2) d) : Hr thrA own s t K N n m c d := by
  obtain ⟨x, t', s', own', K', N', a1, a2, a3, a4, a5, a6, a7⟩ := H
  refine ⟨x, t', s', own', K', N', a1, a2, a3, a4, a5, a6, ?_⟩
  rcases a7 with w | ⟨kd, cd, a, fs, b1, b2, b3, b4⟩
  · exact Or.inl w
  · rcases b1 with z | ⟨_, z⟩
    · exact Or.inr ⟨kd, cd, a, fs, z, b2, b3, b4⟩
    · exact absurd (b4.trans z) (k.h _ a1)
theorem b64 (x : Int32) : (if x = 0 then some (0 : Int64) else some 1) = some (if x = 0 then 0 else 1) := by split <;> rfl
end
