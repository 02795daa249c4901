/-! permits: judging leaves the day -/
def KdN (s T : TS) : Prop := True ∧ T.1 218 = s.1 218 ∧ T.1 0 = s.1 0
theorem KdN.st {s0 s : TS} {c n : Nat} {k v : Int32} (h : KdN s0 s) : Kp (KdN s0) (stI s c n k v) := by
  refine ⟨trivial, fun r hr => ?_⟩
  unfold stI at hr
  split at hr
  · cases hr; exact ⟨trivial, h.2⟩
  · cases hr
theorem KdN.stl {s0 s : TS} {c n : Nat} {k : Int32} {v : Int64} (h : KdN s0 s) : Kp (KdN s0) (stL s c n k v) := by
  refine ⟨trivial, fun r hr => ?_⟩
  unfold stL at hr
  split at hr
  · cases hr; exact ⟨trivial, h.2⟩
  · cases hr
theorem KdN.pt {s0 s : TS} {c : Nat} {v : Int32} (hc : ¬ 218 = c ∧ ¬ 0 = c) (h : KdN s0 s) : KdN s0 (ptI s c v) := ⟨trivial, by rw [pt_1, if_neg hc.1]; exact h.2.1, by rw [pt_1, if_neg hc.2]; exact h.2.2⟩
theorem KdN.ptl {s0 s : TS} {c : Nat} {v : Int64} (h : KdN s0 s) : KdN s0 (ptL s c v) := ⟨trivial, h.2⟩
theorem KdN.rf {s : TS} : KdN s s := ⟨trivial, rfl, rfl⟩
theorem kd_757 {s0 s : TS} {v1 : Int32} {v2 : Int64} (h : KdN s0 s) : Kp (KdN s0) (t_757 v1 v2 s) := by
  unfold t_757
  repeat (first | with_reducible refine Kp.ite ?_ ?_ | with_reducible refine Kp.bdt (A := Int32) ?_ | with_reducible refine Kp.bd (A := TS) (P := KdN s0) ?_ ?_ | with_reducible refine Kp.el ?_ ?_ | with_reducible refine Kp.elt ?_ ?_ | with_reducible refine KdN.st ?_ | with_reducible refine KdN.stl ?_ | with_reducible refine Kp.ret ?_ | exact Kp.no | assumption | exact True.intro | refine KdN.pt (by decide) ?_ | refine KdN.ptl ?_ | intro _ _ | intro _)
theorem kd_756 {s0 s : TS} {v1 : Int64} {v3 : Int64} (h : KdN s0 s) : Kp (KdN s0) (t_756 v1 v3 s) := by
  unfold t_756
  repeat (first | with_reducible refine Kp.ite ?_ ?_ | with_reducible refine Kp.bdt (A := Int32) ?_ | with_reducible refine Kp.bdt (A := Int64) ?_ | with_reducible refine Kp.bd (A := TS) (P := KdN s0) ?_ ?_ | with_reducible refine Kp.bd (A := Sum (Unit) (TS)) (P := Sum.elim (fun _ => True) (KdN s0)) ?_ ?_ | with_reducible refine Kp.el ?_ ?_ | with_reducible refine Kp.elt ?_ ?_ | with_reducible refine KdN.st ?_ | with_reducible refine KdN.stl ?_ | with_reducible refine kd_757 ?_ | with_reducible refine Kp.ret ?_ | exact Kp.no | assumption | exact True.intro | refine KdN.pt (by decide) ?_ | refine KdN.ptl ?_ | intro _ _ | intro _)
theorem kd_759 {s0 s : TS} {v1 : Int64} {v3 : Int64} (h : KdN s0 s) : Kp (fun r : Int64 × TS => KdN s0 r.2) (t_759 v1 v3 s) := by
  unfold t_759
  repeat (first | with_reducible refine Kp.ite ?_ ?_ | with_reducible refine Kp.bdt (A := Int32) ?_ | with_reducible refine Kp.bd (A := TS) (P := KdN s0) ?_ ?_ | with_reducible refine Kp.bd (A := Sum (Unit) (Int64 × TS)) (P := Sum.elim (fun _ => True) (fun r => KdN s0 r.2)) ?_ ?_ | with_reducible refine Kp.el ?_ ?_ | with_reducible refine Kp.elt ?_ ?_ | with_reducible refine KdN.st ?_ | with_reducible refine KdN.stl ?_ | with_reducible refine kd_757 ?_ | with_reducible refine Kp.ret ?_ | exact Kp.no | assumption | exact True.intro | refine KdN.pt (by decide) ?_ | refine KdN.ptl ?_ | intro _ _ | intro _)
theorem kd_760 {s0 s : TS} {v1 : Int64} {v3 : Int64} {v5 : Int32} (h : KdN s0 s) : Kp (fun r : Int64 × TS => KdN s0 r.2) (t_760 v1 v3 v5 s) := by
  unfold t_760
  repeat (first | with_reducible refine Kp.ite ?_ ?_ | with_reducible refine Kp.bdt (A := Int32) ?_ | with_reducible refine Kp.bdt (A := Int64) ?_ | with_reducible refine Kp.bd (A := TS) (P := KdN s0) ?_ ?_ | with_reducible refine Kp.el ?_ ?_ | with_reducible refine Kp.elt ?_ ?_ | with_reducible refine KdN.st ?_ | with_reducible refine KdN.stl ?_ | with_reducible refine kd_757 ?_ | with_reducible refine Kp.ret ?_ | exact Kp.no | assumption | exact True.intro | refine KdN.pt (by decide) ?_ | refine KdN.ptl ?_ | intro _ _ | intro _)
theorem kd_758 {s0 s : TS} {v1 : Int32} (h : KdN s0 s) : Kp (KdN s0) (t_758 v1 s) := by
  unfold t_758
  repeat (first | with_reducible refine Kp.ite ?_ ?_ | with_reducible refine Kp.bdt (A := Int32) ?_ | with_reducible refine Kp.bdt (A := Int64) ?_ | with_reducible refine Kp.bd (A := TS) (P := KdN s0) ?_ ?_ | with_reducible refine Kp.bd (A := Sum (Unit) (TS)) (P := Sum.elim (fun _ => True) (KdN s0)) ?_ ?_ | with_reducible refine Kp.bd (A := Int64 × TS) (P := fun r => KdN s0 r.2) ?_ ?_ | with_reducible refine Kp.el ?_ ?_ | with_reducible refine Kp.elt ?_ ?_ | with_reducible refine KdN.st ?_ | with_reducible refine KdN.stl ?_ | with_reducible refine kd_757 ?_ | with_reducible refine kd_756 ?_ | with_reducible refine kd_759 ?_ | with_reducible refine kd_760 ?_ | with_reducible refine Kp.ret ?_ | exact Kp.no | assumption | exact True.intro | refine KdN.pt (by decide) ?_ | refine KdN.ptl ?_ | intro _ _ | intro _)
theorem kd_755 {s0 s : TS} {v1 : Int32} {v2 : Int32} (h : KdN s0 s) : Kp (KdN s0) (t_755 v1 v2 s) := by
  unfold t_755
  repeat (first | with_reducible refine Kp.ite ?_ ?_ | with_reducible refine Kp.bdt (A := Int32) ?_ | with_reducible refine Kp.bdt (A := Int64) ?_ | with_reducible refine Kp.bd (A := TS) (P := KdN s0) ?_ ?_ | with_reducible refine Kp.wh (S := TS × Int32) (I := fun r => KdN s0 r.1) ?_ ?_ | with_reducible refine Kp.el ?_ ?_ | with_reducible refine Kp.elt ?_ ?_ | with_reducible refine KdN.st ?_ | with_reducible refine KdN.stl ?_ | with_reducible refine kd_756 ?_ | with_reducible refine kd_757 ?_ | with_reducible refine kd_758 ?_ | with_reducible refine Kp.ret ?_ | exact Kp.no | assumption | exact True.intro | refine KdN.pt (by decide) ?_ | refine KdN.ptl ?_ | intro _ _ | intro _)
theorem kd_754 {s0 s : TS} {v1 : Int32} {v2 : Int32} (h : KdN s0 s) : Kp (fun r : Int32 × TS => KdN s0 r.2) (t_754 v1 v2 s) := by
  unfold t_754
  repeat (first | with_reducible refine Kp.ite ?_ ?_ | with_reducible refine Kp.bdt (A := Int32) ?_ | with_reducible refine Kp.bdt (A := Int64) ?_ | with_reducible refine Kp.bd (A := TS) (P := KdN s0) ?_ ?_ | with_reducible refine Kp.bd (A := Int64 × TS) (P := fun r => KdN s0 r.2) ?_ ?_ | with_reducible refine Kp.el ?_ ?_ | with_reducible refine Kp.elt ?_ ?_ | with_reducible refine KdN.st ?_ | with_reducible refine KdN.stl ?_ | with_reducible refine kd_755 ?_ | with_reducible refine kd_759 ?_ | with_reducible refine Kp.ret ?_ | exact Kp.no | assumption | exact True.intro | refine KdN.pt (by decide) ?_ | refine KdN.ptl ?_ | intro _ _ | intro _)
theorem kd_753 {s0 s : TS} {v1 : Int32} {v2 : Int32} {v3 : Int32} (h : KdN s0 s) : Kp (fun r : Int32 × TS => KdN s0 r.2) (t_753 v1 v2 v3 s) := by
  unfold t_753
  repeat (first | with_reducible refine Kp.ite ?_ ?_ | with_reducible refine Kp.bdt (A := Int32) ?_ | with_reducible refine Kp.bd (A := TS) (P := KdN s0) ?_ ?_ | with_reducible refine Kp.bd (A := Int32 × TS) (P := fun r => KdN s0 r.2) ?_ ?_ | with_reducible refine Kp.bd (A := TS × Int32) (P := fun r => KdN s0 r.1) ?_ ?_ | with_reducible refine Kp.wh (S := TS × Int32 × Int32) (I := fun r => KdN s0 r.1) ?_ ?_ | with_reducible refine Kp.el ?_ ?_ | with_reducible refine Kp.elt ?_ ?_ | with_reducible refine KdN.st ?_ | with_reducible refine KdN.stl ?_ | with_reducible refine kd_754 ?_ | with_reducible refine Kp.ret ?_ | exact Kp.no | assumption | exact True.intro | refine KdN.pt (by decide) ?_ | refine KdN.ptl ?_ | intro _ _ | intro _)
theorem kd_752 {v1 : Int32} {s : TS} : Kp (fun r : Int32 × TS => r.2.1 218 = v1 ∧ r.2.1 0 = s.1 0) (t_752 v1 s) := by
  have h0 : KdN (ptI s 218 v1) (ptI s 218 v1) := KdN.rf
  have key : Kp (fun r : Int32 × TS => KdN (ptI s 218 v1) r.2) (t_752 v1 s) := by
    unfold t_752
    rw [Option.bind_some]
    generalize ptI s 218 v1 = s0 at h0 ⊢
    repeat (first | with_reducible refine Kp.ite ?_ ?_ | with_reducible refine Kp.bdt (A := Int32) ?_ | with_reducible refine Kp.bd (A := TS) (P := KdN s0) ?_ ?_ | with_reducible refine Kp.bd (A := TS × Int32) (P := fun r => KdN s0 r.1) ?_ ?_ | with_reducible refine Kp.bd (A := Int32 × TS) (P := fun r => KdN s0 r.2) ?_ ?_ | with_reducible refine Kp.wh (S := TS × Int32 × Int32) (I := fun r => KdN s0 r.1) ?_ ?_ | with_reducible refine Kp.el ?_ ?_ | with_reducible refine Kp.elt ?_ ?_ | with_reducible refine KdN.st ?_ | with_reducible refine KdN.stl ?_ | with_reducible refine kd_753 ?_ | with_reducible refine Kp.ret ?_ | exact Kp.no | assumption | exact True.intro | refine KdN.pt (by decide) ?_ | refine KdN.ptl ?_ | intro _ _ | intro _)
  refine ⟨trivial, fun r hr => ?_⟩
  obtain ⟨_, k1, k2⟩ := key.h r hr
  exact ⟨by rw [k1, pt_1, if_pos rfl], by rw [k2, pt_1, if_neg (by omega)]⟩
