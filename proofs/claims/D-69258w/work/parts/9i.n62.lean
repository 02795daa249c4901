/-! the plan: a finding, whole, on both sides -/
section
variable {own : Nat → Nat} {s : CS} {t : TS}
theorem agr_rt {I R : List Nat} {t T : TS} (a : agr I R t T) {Z : Nat} (hI : ∀ c ∈ I, mI c ≠ Z) (hR : ∀ c ∈ R, mR c ≠ Z) : rt T Z = rt t Z := by
  unfold rt
  rw [a.2.1, a.2.2.2]
  refine Prod.ext ?_ (Prod.ext rfl (Prod.ext ?_ rfl))
  · funext c
    show (if mI c = Z then T.1 c else 0) = if mI c = Z then t.1 c else 0
    by_cases z : mI c = Z
    · rw [if_pos z, if_pos z, a.1 c (fun w => hI c w z)]
    · rw [if_neg z, if_neg z]
  · funext c k
    show (if mR c = Z then T.2.2.1 c k else 0) = if mR c = Z then t.2.2.1 c k else 0
    by_cases z : mR c = Z
    · rw [if_pos z, if_pos z, a.2.2.1 c (fun w => hR c w z)]
    · rw [if_neg z, if_neg z]
/-- new cells are the plan's -/
def ow2 (own : Nat → Nat) (n : Nat) : Nat → Nat := fun a => if n ≤ a then 2 else own a
theorem FD_nc {b0 : Nat} {h : lHeap} {L : PLn} {nl nr : Nat} {st ln LC : Nat → Nat} {fd fL ou ol mp : Nat} {pid nid aid : Nat → Nat → Nat} {si rc rl sp sl : Nat → Nat} {rsv : Nat → Value} {nm nm' : Nat → Int32} {inn : Int → List Nat} (r : FD b0 h L nl nr st ln LC fd fL ou ol mp pid nid aid si rc rl sp sl rsv nm inn) (e : ∀ j, j < spn L nl st ln nr → nm j = nm' j) : FD b0 h L nl nr st ln LC fd fL ou ol mp pid nid aid si rc rl sp sl rsv nm' inn :=
  FD_nm r (fun _ _ h _ => h) (fun j hj => by rw [← e j hj]; exact (r.2.2.2.2.1 j hj).1)
theorem FT_row {L : PLn} {nl nr : Nat} {st ln : Nat → Nat} {lab : Int → Int → Int} {nm : Nat → Int32} (r : FT t L nl nr st ln lab nm) : FT t L nl nr st ln lab (fun k => t.2.2.1 64 k) := ⟨r.1, r.2.1, r.2.2.1, r.2.2.2.1, r.2.2.2.2.1, r.2.2.2.2.2.1, r.2.2.2.2.2.2.1, fun _ _ => rfl⟩
/-- the plan's relation; once closed it does not change -/
def R2k (t0 : TS) (H : Nat → lHeap) (T : TS) : Prop := R2 (H 2) T ∧ (t0.1 1 = 0 ∨ rt T 2 = rt t0 2)
/-- what comes of a finding -/
theorem R2_new {L : PLn} {nl : Nat} {LC LD : Nat → Nat} {DC : Nat → Nat → Nat} {nd : Nat → Nat} {fo be co : Value} {fi : Nat} (hw : wfS s) (r : R2x (rs s.1 own 2) t L nl LC LD DC nd fo be co fi) {S : CS} {T : TS} {f2 f3 : Value} (hfi : fi < 60) (h102 : S.1 102 = some (true, false, 67, [.ref 103, .ref s.2.1, f2, f3, .int 1, .int (t.1 111 + 1), .int (t.1 1)])) (hfr : ∀ q, q < s.2.1 → q ≠ 102 → S.1 q = s.1 q) (a : agr [0, 109, 110, 111, 112, 113, 117, 118, 119, 120, 124, 127, 130, 135] [58, 59, 60, 61, 62, 63, 64, 65, 66, 67, 68, 69, 70, 71, 72, 73, 74, 75] t T) (t1 : T.1 109 = 1) (t2 : T.1 110 = 1) (t3 : T.1 111 = t.1 111 + 1) {nr : Nat} {st ln : Nat → Nat} {lab : Int → Int → Int} {nm : Nat → Int32} (hT : FT T L nl nr st ln lab nm) (hb : ∀ k, k < spn L nl st ln nr → bel (nm k) 1001) {pid nid aid : Nat → Nat → Nat} {si rc rl sp sl : Nat → Nat} (hD : FD s.2.1 S.1 L nl nr st ln LC s.2.1 (s.2.1 + 1) (s.2.1 + 2) (s.2.1 + 3) (s.2.1 + 4) pid nid aid si rc rl sp sl (fun k => if lfB L nl st ln k = true then .ref (sp (spn L nl st ln k)) else .ref (spo (s.2.1 + 2) sp (fcS L nl st lab k))) nm (inF L nl st lab (KRs L nl nr st ln))) (h179 : 179 ≤ s.2.1) : R2 (rs S.1 (ow2 own s.2.1) 2) T := by
  obtain ⟨r1, r2, r3, r4, ⟨l1, l2, ⟨ml, l3, l4, l5⟩, l6⟩, ⟨d1, d2⟩, r7⟩ := r
  have lt : ∀ q c, rs s.1 own 2 q = some c → q < s.2.1 := fun q c e => wf_lt hw (rs_some.mp e).2
  have kp : ∀ q c, rs s.1 own 2 q = some c → c.2.2.1 ≠ 67 → rs S.1 (ow2 own s.2.1) 2 q = some c := by
    intro q c e z
    have l := lt q c e
    have n102 : q ≠ 102 := fun w => by rw [w, r1] at e; cases e; exact z rfl
    obtain ⟨e1, e2⟩ := rs_some.mp e
    exact rs_some.mpr ⟨by unfold ow2; rw [if_neg (by omega)]; exact e1, by rw [hfr q l n102]; exact e2⟩
  have l102 := lt _ _ r1
  have hD' := FD_own (LC' := LC) (b1 := 179) (h' := rs S.1 (ow2 own s.2.1) 2) hD h179 (fun a c h e => rs_some.mpr ⟨by unfold ow2; exact if_pos h, e⟩) (fun _ _ => rfl)
  have nmr := hT.2.2.2.2.2.2.2
  refine ⟨L, nl, LC, LD, DC, nd, .ref s.2.1, f2, f3, fi + 1, ?_, ?_, ?_, by omega, ⟨l1, lnR_cg l2 a (by simp) (by simp), ⟨ml, kp _ _ l3 (by show ¬ (1013 : Nat) = 67; decide), fun l hl => kp _ _ (l4 l hl) (by show ¬ (59 : Nat) = 67; decide), l5⟩, l6⟩, ⟨fun l hl => ?_, d2⟩, Or.inr ⟨s.2.1, rfl, t1, Or.inr t2, ?_⟩⟩
  · refine rs_some.mpr ⟨?_, ?_⟩
    · unfold ow2
      rw [if_neg (by omega)]
      exact (rs_some.mp r1).1
    · rw [h102, t2, t3, a.1 1 (by simp)]
  · rw [a.1 1 (by simp)]; exact r2
  · rw [t3, r3, i_suc]
  · obtain ⟨q1, q2, q3, ⟨m, q4⟩, q5⟩ := d1 l hl
    rw [a.2.2.1 54 (by simp)]
    refine ⟨q1, q2, q3, ⟨m, kp _ _ q4 (by show ¬ (1013 : Nat) = 67; decide)⟩, fun k hk => ?_⟩
    obtain ⟨p1, p2, p3⟩ := q5 k hk
    have ed : dcC T l k = dcC t l k := by unfold dcC; rw [a.2.2.1 55 (by simp), a.2.2.1 56 (by simp), a.2.2.1 57 (by simp)]
    refine ⟨by rw [ed]; exact kp _ _ p1 (by show ¬ (60 : Nat) = 67; decide), p2, ?_⟩
    unfold okDoor
    rw [a.2.2.1 55 (by simp), a.2.2.1 56 (by simp), a.2.2.1 57 (by simp)]
    exact p3
  · refine ⟨L, nl, nr, st, ln, lab, _, _, _, _, pid, nid, aid, si, rc, rl, sp, sl, FT_row hT, FD_nc hD' (fun j hj => (nmr j hj).symm), Nat.le_refl _, fun _ _ => rfl, fun _ => ⟨rfl, fun _ _ => rfl⟩, fun k hk => by rw [nmr k hk]; exact hb k hk, fun l hl => ?_⟩
    obtain ⟨q1, q2, q3, ⟨m, q4⟩, q5⟩ := d1 l hl
    have := lt _ _ q4
    refine ⟨by omega, by omega, fun k hk => ?_, fun j hj => ?_⟩
    · have := (hD.2.2.2.2.2.1 k hk).2.1; omega
    · have := (hD.2.2.2.2.1 j hj).2.2.1; omega
end
