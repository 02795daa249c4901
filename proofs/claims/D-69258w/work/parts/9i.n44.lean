/-! the plan: rings are sorted: those round their spaces -/
section
variable {L : PLn} {nl nr : Nat} {st ln : Nat → Nat} {lab : Int → Int → Int} {LC : Nat → Nat} {b0 : Nat} {h0 : lHeap} {s : CS} {mp RL M : Nat} {pid nid aid : Nat → Nat → Nat} {si : Nat → Nat} {Kp : Nat → lCell → Prop} {od : List Nat} {rc rl q : Nat → Nat} {mr : Int32}
def SOt (b0 : Nat) (h0 : lHeap) (Kp : Nat → lCell → Prop) (s : CS) (L : PLn) (nl nr : Nat) (st ln LC : Nat → Nat) (mp RL : Nat) (mr : Int32) (pid nid aid : Nat → Nat → Nat) (si : Nat → Nat) (od : List Nat) (rc rl q : Nat → Nat) (rsv : Nat → Value) : Prop :=
  wfS s ∧ b0 ≤ s.2.1 ∧ (∀ a, a < b0 → s.1 a = h0 a) ∧ (∀ a c, Kp a c → s.1 a = some c) ∧ (∃ rv, GSt b0 s.1 L nl LC mp pid nid aid si rv ∧ rvR L nl st ln od rc rv) ∧ RGs b0 s.1 L nl nr st ln od rc rl q nid si rsv ∧ s.1 RL = some (true, false, 1013, .int mr :: od.map (fun k => .ref (rc k))) ∧ b0 ≤ RL ∧ (∀ k ∈ od, rl k ≠ RL ∧ ∀ a c, Kp a c → a ≠ rl k) ∧ ∀ k, k < nr → k ∈ od
theorem i_pos {a : Int} (h1 : -1000000 ≤ a) (h2 : a ≤ 1000000) : 0 < Int32.ofInt a ↔ 0 < a := by
  have := ofI_lt (a := 0) (b := a) (by omega) (by omega) h1 h2
  exact this
/-- points and nodes stay, the map of nodes stays, sides are told -/
theorem GSt_ex {h h' : lHeap} {rv rv' : Nat → Value} (r : GSt b0 h L nl LC mp pid nid aid si rv) (e : ∀ q d, h q = some d → d.2.2.1 = 63 ∨ d.2.2.1 = 64 ∨ d.2.2.1 = 7 → h' q = some d) (em : h' mp = h mp) (e2 : ∀ k, k < 2 * nP L nl → h' (si k) = some (sdC L nl LC nid si (rv' k) k)) : GSt b0 h' L nl LC mp pid nid aid si rv' := by
  obtain ⟨⟨⟨mc, es, r1, ⟨m, r2, r2b, r2c⟩, r3⟩, r4, r5, r6⟩, r7, r8⟩ := r
  refine ⟨⟨⟨mc, es, by rw [em]; exact r1, ⟨m, Mp_rk r2 (fun v hv => ?_), r2b, r2c⟩, r3⟩, fun x y hv => ?_, r5, r6⟩, fun k hk => ⟨(r7 k hk).1, e2 k hk⟩, r8⟩
  · obtain ⟨x, y, hV, rfl⟩ := r3 v hv
    obtain ⟨a1, a2, _, _, _, a3, _⟩ := r4 x y hV
    rw [rkP_pt (e _ _ a3 (Or.inl rfl)) a1 a2, rkP_pt a3 a1 a2]
  · obtain ⟨a1, a2, a3, a4, a5, a6, a7, a8⟩ := r4 x y hv
    exact ⟨a1, a2, a3, a4, a5, e _ _ a6 (Or.inl rfl), e _ _ a7 (Or.inr (Or.inl rfl)), e _ _ a8 (Or.inr (Or.inr rfl))⟩
/-- a cell is written that is none of the rings' -/
theorem SOt_w {rsv : Nat → Value} {S : CS} {M : Nat} (r : SOt b0 h0 Kp s L nl nr st ln LC mp RL mr pid nid aid si od rc rl q rsv) {cM : lCell} (hM : s.1 M = some cM) (hk : cM.2.2.1 ≠ 63 ∧ cM.2.2.1 ≠ 64 ∧ cM.2.2.1 ≠ 7 ∧ cM.2.2.1 ≠ 65 ∧ cM.2.2.1 ≠ 66) (hMb : b0 ≤ M) (hMm : M ≠ mp) (hMR : M ≠ RL) (hMl : ∀ k ∈ od, M ≠ rl k) (hMK : ∀ c, ¬ Kp M c) (hS : ∀ a, a ≠ M → S.1 a = s.1 a) (hw : wfS S) (hn : s.2.1 ≤ S.2.1) : SOt b0 h0 Kp S L nl nr st ln LC mp RL mr pid nid aid si od rc rl q rsv := by
  obtain ⟨r1, r2, r3, r4, ⟨rv, r5, r6⟩, r7, r8, r9, r10, r11⟩ := r
  have keep : ∀ a c, s.1 a = some c → c.2.2.1 ≠ cM.2.2.1 → S.1 a = some c := fun a c h1 h2 => by
    rw [hS a (apart h1 hM h2)]; exact h1
  obtain ⟨k1, k2, k3, k4, k5⟩ := hk
  refine ⟨hw, by omega, fun a ha => ?_, fun a c hc => ?_, ⟨rv, GSt_ex r5 (fun a c h1 h2 => keep a c h1 ?_) (hS _ (Ne.symm hMm)) (fun k hk => keep _ _ (r5.2.1 k hk).2 (Ne.symm k4)), r6⟩, RGs_ext r7 (fun k hk => ⟨?_, ?_⟩), ?_, r9, r10, r11⟩
  · rw [hS a (by omega)]; exact r3 a ha
  · rw [hS a (fun e => hMK c (by rw [← e]; exact hc))]; exact r4 a c hc
  · omega
  · exact hS _ (apart (r7.2.1 k hk).2.2.2.2.1 hM (Ne.symm k5))
  · exact hS _ (Ne.symm (hMl k hk))
  · rw [hS _ (Ne.symm hMR)]; exact r8
theorem SOt_rv (r : ∀ {rsv : Nat → Value}, True) {rsv : Nat → Value} (hg : gdL L nl) (hR : RF L nl nr st ln) (o : SOt b0 h0 Kp s L nl nr st ln LC mp RL mr pid nid aid si od rc rl q rsv) {k : Nat} (hk : k ∈ od) : ∃ rv, GSt b0 s.1 L nl LC mp pid nid aid si rv ∧ rvOk L nl s (rc k) (q k) (ln k) rv := by
  obtain ⟨r1, r2, r3, r4, ⟨rv, r5, r6⟩, r7, r8, r9, r10, r11⟩ := o
  obtain ⟨a1, a2, _, _, a5, _⟩ := r7.2.1 k hk
  obtain ⟨_, _, _, e2, _⟩ := orb_perm hg hR a1 a2
  refine ⟨rv, r5, fun j hj => ?_⟩
  obtain ⟨k', k1, k2⟩ := hR.2.2.2 j hj
  have k3 := r11 k' k1
  have ev := (r6 j).1 k' k3 k2
  refine ⟨⟨fun h => ?_, fun h => (r6 j).1 k hk ((e2 j).mp h)⟩, some (rc k'), ev, ?_⟩
  · rw [ev] at h
    have := r7.2.2.1 k' k3 k hk (Value.ref.inj h)
    rw [this] at k2
    exact (e2 j).mpr k2
  · show (match s.1 (rc k') with | some x => x.2.2.1 != 1000 | none => false) = true
    rw [(r7.2.1 k' k3).2.2.2.2.1]; rfl
/-- one ring begins at its least point -/
theorem SOt_begin {rsv : Nat → Value} (hg : gdL L nl) (hR : RF L nl nr st ln) (o : SOt b0 h0 Kp s L nl nr st ln LC mp RL mr pid nid aid si od rc rl q rsv) {k : Nat} (hk : k ∈ od) : ∃ s', c_886 (rc k) s = some s' ∧ SOt b0 h0 Kp s' L nl nr st ln LC mp RL mr pid nid aid si od rc rl (upd1 q k (st k)) rsv ∧ (∀ a, a < s.2.1 → a ≠ rl k → s'.1 a = s.1 a) ∧ s'.2.1 = s.2.1 + 1 ∧ s'.2.2.1 = s.2.2.1 + 3 + ln k ∧ s'.2.2.2 = s.2.2.2 + 19 + 33 * ln k := by
  obtain ⟨rv0, g0, hv⟩ := SOt_rv (fun {_} => trivial) hg hR o hk
  obtain ⟨r1, r2, r3, r4, ⟨rv, r5, r6⟩, r7, r8, r9, r10, r11⟩ := o
  obtain ⟨a1, a2, a3, a4, a5, mc, a6⟩ := r7.2.1 k hk
  obtain ⟨hN, p1, p2, p3, _⟩ := orb_perm hg hR a1 a2
  obtain ⟨l1, l2⟩ := lpt_st hg hR a1 a2
  have lnN : ln k ≤ 2 * nP L nl := by
    have := lnS_le hg hR (od := [k]) (by simp) (fun q hq => by simp at hq; rw [hq]; exact a1)
    simpa [lnS] using this
  unfold rgC at a5
  rw [← l1, ← l2] at a5
  obtain ⟨s', st', mc', e1, e2, e3, e4, e5, e6, e7, e8, e9, e10⟩ := c_begin hg r1 g0 a5 a6 hN (hR.1 k a1).2.1 lnN p1 hv
  have es : st' = st k := by
    have m1 := (p3 st').mp e2
    have le1 := hR.2.1 k a1 st' m1
    have le2 := e3 (st k) ((p3 _).mpr (st_mem hR a1))
    exact ky_inj hg (rgs_lt hR a1 m1) (hR.1 k a1).1 (by omega)
  subst es
  have keep : ∀ a c, s.1 a = some c → a ≠ rl k → s'.1 a = some c := fun a c h1 h2 => by rw [e7 a (wf_lt r1 h1) h2]; exact h1
  have n1013 : ∀ a c, s.1 a = some c → c.2.2.1 ≠ 1013 → a ≠ rl k := fun a c h1 h2 => apart h1 a6 h2
  refine ⟨s', e1, ⟨e5, by omega, fun a ha => ?_, fun a c hc => ?_, ⟨rv, GSt_ex r5 (fun a c h1 h2 => keep a c h1 (n1013 a c h1 (by omega))) ?_ (fun j hj => keep _ _ (r5.2.1 j hj).2 (n1013 _ _ (r5.2.1 j hj).2 (by show ¬ (65 : Nat) = 1013; decide))), r6⟩, ⟨r7.1, fun k' hk' => ?_, r7.2.2.1, r7.2.2.2⟩, keep _ _ r8 (Ne.symm (r10 k hk).1), r9, r10, r11⟩, e7, e8, e9, e10⟩
  · rw [e7 a (by omega) (by omega)]; exact r3 a ha
  · exact keep _ _ (r4 a c hc) ((r10 k hk).2 a c hc)
  · obtain ⟨⟨mc2, es2, m1, _⟩, _⟩ := r5.1
    rw [m1]; exact keep _ _ m1 (n1013 _ _ m1 (by show ¬ (1042 : Nat) = 1013; decide))
  · obtain ⟨b1, b2, b3, b4, b5, mc2, b6⟩ := r7.2.1 k' hk'
    by_cases e : k' = k
    · rw [upd1_eq e, e]
      refine ⟨a1, st_mem hR a1, by rw [← e]; exact b3, by rw [← e]; exact b4, keep _ _ (by rw [← e]; exact b5) (n1013 _ _ (by rw [← e]; exact b5) (by show ¬ (66 : Nat) = 1013; decide)), mc', e6⟩
    · rw [upd1_ne e]
      exact ⟨b1, b2, b3, b4, keep _ _ b5 (n1013 _ _ b5 (by show ¬ (66 : Nat) = 1013; decide)), mc2, keep _ _ b6 (fun z => e (r7.2.2.2 k' hk' k hk z))⟩
end
