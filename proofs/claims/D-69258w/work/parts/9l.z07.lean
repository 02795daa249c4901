/-! the house: while it is not built the gate's operations change nothing -/
theorem goes0 {s : TS} {a : Int32} : Kp (fun r : Int32 × TS => r.1 = 0 ∧ r.2.2 = s.2) (t_558 a 0 s) := by
  unfold t_558
  rw [if_pos rfl]
  by_cases z : a = 0
  · rw [if_pos z]; exact Kp.ret ⟨rfl, rfl⟩
  · rw [if_neg z]; exact Kp.ret ⟨rfl, rfl⟩
theorem gz_592 {s : TS} (h : s.1 1 = 0) {v1 v2 : Int32} : Kp (fun r : Int32 × TS => r.2.2 = s.2) (t_592 v1 v2 s) := by
  unfold t_592
  simp only [h, if_true, Option.bind_some]
  repeat (first | with_reducible refine Kp.bdt (A := Int32) ?_ | intro _ | with_reducible refine Kp.bd (A := Int32 × TS) (P := fun r => r.1 = 0 ∧ r.2.2 = s.2) goes0 ?_)
  rename_i hr
  rw [if_pos hr.1]
  exact Kp.ret hr.2
theorem gz_593 {s : TS} (h : s.1 1 = 0) {v1 v2 : Int32} : Kp (fun r : Int32 × TS => r.2.2 = s.2) (t_593 v1 v2 s) := by
  unfold t_593
  simp only [h, if_true, Option.bind_some]
  repeat (first | with_reducible refine Kp.bdt (A := Int32) ?_ | intro _ | with_reducible refine Kp.bd (A := Int32 × TS) (P := fun r => r.1 = 0 ∧ r.2.2 = s.2) goes0 ?_)
  rename_i hr
  rw [if_pos hr.1]
  exact Kp.ret hr.2
theorem gz_594 {s : TS} (h : s.1 1 = 0) {v1 v2 : Int32} : Kp (fun r : Int32 × TS => r.2.2 = s.2) (t_594 v1 v2 s) := by
  unfold t_594
  simp only [h, if_true, Option.bind_some]
  repeat (first | with_reducible refine Kp.bdt (A := Int32) ?_ | intro _ | with_reducible refine Kp.bd (A := Int32 × TS) (P := fun r => r.1 = 0 ∧ r.2.2 = s.2) goes0 ?_)
  rename_i hr
  rw [if_pos hr.1]
  exact Kp.ret hr.2
theorem gz_597 {s : TS} (h : s.1 1 = 0) {v1 v2 v3 v4 v5 : Int32} : Kp (fun r : Int32 × TS => r.2.2 = s.2) (t_597 v1 v2 v3 v4 v5 s) := by
  unfold t_597
  simp only [h, if_true, Option.bind_some]
  repeat (first | with_reducible refine Kp.bdt (A := Int32) ?_ | intro _ | with_reducible refine Kp.bd (A := Int32 × TS) (P := fun r => r.1 = 0 ∧ r.2.2 = s.2) goes0 ?_)
  rename_i hr
  rw [if_pos hr.1]
  exact Kp.ret hr.2
theorem gz_598 {s : TS} (h : s.1 1 = 0) {v1 v2 : Int32} : Kp (fun r : Int32 × TS => r.2.2 = s.2) (t_598 v1 v2 s) := by
  unfold t_598
  simp only [h, if_true, Option.bind_some]
  repeat (first | with_reducible refine Kp.bdt (A := Int32) ?_ | intro _ | with_reducible refine Kp.bd (A := Int32 × TS) (P := fun r => r.1 = 0 ∧ r.2.2 = s.2) goes0 ?_)
  rename_i hr
  rw [if_pos hr.1]
  exact Kp.ret hr.2
theorem gz_600 {s : TS} (h : s.1 1 = 0) {v1 v2 : Int32} : Kp (fun r : Int32 × TS => r.2.2 = s.2) (t_600 v1 v2 s) := by
  unfold t_600
  simp only [h, if_true, Option.bind_some]
  repeat (first | with_reducible refine Kp.bdt (A := Int32) ?_ | intro _ | with_reducible refine Kp.bd (A := Int32 × TS) (P := fun r => r.1 = 0 ∧ r.2.2 = s.2) goes0 ?_)
  rename_i hr
  rw [if_pos hr.1]
  exact Kp.ret hr.2
theorem gz_601 {s : TS} (h : s.1 1 = 0) {v1 v2 : Int32} : Kp (fun r : Int32 × TS => r.2.2 = s.2) (t_601 v1 v2 s) := by
  unfold t_601
  simp only [h, if_true, Option.bind_some]
  repeat (first | with_reducible refine Kp.bdt (A := Int32) ?_ | intro _ | with_reducible refine Kp.bd (A := Int32 × TS) (P := fun r => r.1 = 0 ∧ r.2.2 = s.2) goes0 ?_)
  rename_i hr
  rw [if_pos hr.1]
  exact Kp.ret hr.2
theorem gz_602 {s : TS} (h : s.1 1 = 0) {v1 v2 v3 : Int32} : Kp (fun r : Int32 × TS => r.2.2 = s.2) (t_602 v1 v2 v3 s) := by
  unfold t_602
  simp only [h, if_true, Option.bind_some]
  repeat (first | with_reducible refine Kp.bdt (A := Int32) ?_ | intro _ | with_reducible refine Kp.bd (A := Int32 × TS) (P := fun r => r.1 = 0 ∧ r.2.2 = s.2) goes0 ?_)
  rename_i hr
  rw [if_pos hr.1]
  exact Kp.ret hr.2
theorem gz_604 {s : TS} (h : s.1 1 = 0) {v1 v2 : Int32} : Kp (fun r : Int32 × TS => r.2.2 = s.2) (t_604 v1 v2 s) := by
  unfold t_604
  simp only [h, if_true, Option.bind_some]
  repeat (first | with_reducible refine Kp.bdt (A := Int32) ?_ | intro _ | with_reducible refine Kp.bd (A := Int32 × TS) (P := fun r => r.1 = 0 ∧ r.2.2 = s.2) goes0 ?_)
  rename_i hr
  rw [if_pos hr.1]
  exact Kp.ret hr.2
theorem gz_605 {s : TS} (h : s.1 1 = 0) {v1 v2 v3 : Int32} : Kp (fun r : Int32 × TS => r.2.2 = s.2) (t_605 v1 v2 v3 s) := by
  unfold t_605
  simp only [h, if_true, Option.bind_some]
  repeat (first | with_reducible refine Kp.bdt (A := Int32) ?_ | intro _ | with_reducible refine Kp.bd (A := Int32 × TS) (P := fun r => r.1 = 0 ∧ r.2.2 = s.2) goes0 ?_)
  rename_i hr
  rw [if_pos hr.1]
  exact Kp.ret hr.2
theorem gz_614 {s : TS} (h : s.1 1 = 0) {v1 v2 v3 v4 : Int32} : Kp (fun r : Int32 × TS => r.2.2 = s.2) (t_614 v1 v2 v3 v4 s) := by
  unfold t_614
  simp only [h, if_true, Option.bind_some]
  repeat (first | with_reducible refine Kp.bdt (A := Int32) ?_ | intro _ | with_reducible refine Kp.bd (A := Int32 × TS) (P := fun r => r.1 = 0 ∧ r.2.2 = s.2) goes0 ?_)
  rename_i hr
  rw [if_pos hr.1]
  exact Kp.ret hr.2
theorem gz_615 {s : TS} (h : s.1 1 = 0) {v1 v2 : Int32} : Kp (fun r : Int32 × TS => r.2.2 = s.2) (t_615 v1 v2 s) := by
  unfold t_615
  simp only [h, if_true, Option.bind_some]
  repeat (first | with_reducible refine Kp.bdt (A := Int32) ?_ | intro _ | with_reducible refine Kp.bd (A := Int32 × TS) (P := fun r => r.1 = 0 ∧ r.2.2 = s.2) goes0 ?_)
  rename_i hr
  rw [if_pos hr.1]
  exact Kp.ret hr.2
theorem gz_616 {s : TS} (h : s.1 1 = 0) {v1 v2 : Int32} : Kp (fun r : Int32 × TS => r.2.2 = s.2) (t_616 v1 v2 s) := by
  unfold t_616
  simp only [h, if_true, Option.bind_some]
  repeat (first | with_reducible refine Kp.bdt (A := Int32) ?_ | intro _ | with_reducible refine Kp.bd (A := Int32 × TS) (P := fun r => r.1 = 0 ∧ r.2.2 = s.2) goes0 ?_)
  rename_i hr
  rw [if_pos hr.1]
  exact Kp.ret hr.2
theorem gz_617 {s : TS} (h : s.1 1 = 0) {v1 : Int32} : Kp (fun r : Int32 × TS => r.2.2 = s.2) (t_617 v1 s) := by
  unfold t_617
  simp only [h, if_true, Option.bind_some]
  repeat (first | with_reducible refine Kp.bdt (A := Int32) ?_ | intro _ | with_reducible refine Kp.bd (A := Int32 × TS) (P := fun r => r.1 = 0 ∧ r.2.2 = s.2) goes0 ?_)
  rename_i hr
  rw [if_pos hr.1]
  exact Kp.ret hr.2
theorem gz_618 {s : TS} (h : s.1 1 = 0) {v1 v2 : Int32} : Kp (fun r : Int32 × TS => r.2.2 = s.2) (t_618 v1 v2 s) := by
  unfold t_618
  simp only [h, if_true, Option.bind_some]
  repeat (first | with_reducible refine Kp.bdt (A := Int32) ?_ | intro _ | with_reducible refine Kp.bd (A := Int32 × TS) (P := fun r => r.1 = 0 ∧ r.2.2 = s.2) goes0 ?_)
  rename_i hr
  rw [if_pos hr.1]
  exact Kp.ret hr.2
/-! the program: a block's switch -/
def B137 (t : TS) : Prop := ∀ k, k < 40 → bel (t.2.2.1 137 k) 11
def KbN (s T : TS) : Prop := True ∧ T.2.2.1 137 = s.2.2.1 137
theorem KbN.st {s0 s : TS} {c n : Nat} {k v : Int32} (hc : ¬ c = 137) (h : KbN s0 s) : Kp (KbN s0) (stI s c n k v) := by
  refine ⟨trivial, fun r hr => ?_⟩
  unfold stI at hr
  split at hr
  · cases hr
    refine ⟨trivial, ?_⟩
    funext j
    rw [wr_ne (fun w => hc w.symm)]; exact congrFun h.2 j
  · cases hr
theorem KbN.pt {s0 s : TS} {c : Nat} {v : Int32} (h : KbN s0 s) : KbN s0 (ptI s c v) := ⟨trivial, h.2⟩
theorem KbN.rf {s : TS} : KbN s s := ⟨trivial, rfl⟩
theorem kb_558 {s0 s : TS} {v1 v2 : Int32} (h : KbN s0 s) : Kp (fun r : Int32 × TS => KbN s0 r.2) (t_558 v1 v2 s) := by
  unfold t_558
  repeat (first | with_reducible refine Kp.ite ?_ ?_ | with_reducible refine Kp.bdt (A := Int32) ?_ | with_reducible refine Kp.bd (A := TS) (P := KbN s0) ?_ ?_ | with_reducible refine Kp.el ?_ ?_ | with_reducible refine Kp.elt ?_ ?_ | with_reducible refine KbN.st (by decide) ?_ | with_reducible refine Kp.ret ?_ | exact Kp.no | assumption | exact True.intro | refine KbN.pt ?_ | intro _ _ | intro _)
theorem kb_563 {s0 s : TS} {v1 : Int32} (h : KbN s0 s) : Kp (fun r : Int32 × TS => KbN s0 r.2) (t_563 v1 s) := by
  unfold t_563
  repeat (first | with_reducible refine Kp.ite ?_ ?_ | with_reducible refine Kp.bdt (A := Int32) ?_ | with_reducible refine Kp.bd (A := TS) (P := KbN s0) ?_ ?_ | with_reducible refine Kp.el ?_ ?_ | with_reducible refine Kp.elt ?_ ?_ | with_reducible refine KbN.st (by decide) ?_ | with_reducible refine Kp.ret ?_ | exact Kp.no | assumption | exact True.intro | refine KbN.pt ?_ | intro _ _ | intro _)
theorem kb_806 {s0 s : TS} {v1 : Int32} (h : KbN s0 s) : Kp (fun r : Int32 × TS => KbN s0 r.2) (t_806 v1 s) := by
  unfold t_806
  repeat (first | with_reducible refine Kp.ite ?_ ?_ | with_reducible refine Kp.bdt (A := Int32) ?_ | with_reducible refine Kp.bd (A := TS) (P := KbN s0) ?_ ?_ | with_reducible refine Kp.wh (S := TS × Int32) (I := fun r => KbN s0 r.1) ?_ ?_ | with_reducible refine Kp.el ?_ ?_ | with_reducible refine Kp.elt ?_ ?_ | with_reducible refine KbN.st (by decide) ?_ | with_reducible refine Kp.ret ?_ | exact Kp.no | assumption | exact True.intro | refine KbN.pt ?_ | intro _ _ | intro _)
theorem kb_632 {s0 s : TS} {v1 : Int32} (h : KbN s0 s) : Kp (fun r : Int32 × TS => KbN s0 r.2) (t_632 v1 s) := by
  unfold t_632
  repeat (first | with_reducible refine Kp.ite ?_ ?_ | with_reducible refine Kp.bdt (A := Int32) ?_ | with_reducible refine Kp.bd (A := TS) (P := KbN s0) ?_ ?_ | with_reducible refine Kp.bd (A := Int32 × TS) (P := fun r => KbN s0 r.2) ?_ ?_ | with_reducible refine Kp.el ?_ ?_ | with_reducible refine Kp.elt ?_ ?_ | with_reducible refine KbN.st (by decide) ?_ | with_reducible refine kb_558 ?_ | with_reducible refine kb_806 ?_ | with_reducible refine Kp.ret ?_ | exact Kp.no | assumption | exact True.intro | refine KbN.pt ?_ | intro _ _ | intro _)
theorem kb_633 {s0 s : TS} {v1 : Int32} {v2 : Int32} {v3 : Int32} (h : KbN s0 s) : Kp (fun r : Int32 × TS => KbN s0 r.2) (t_633 v1 v2 v3 s) := by
  unfold t_633
  repeat (first | with_reducible refine Kp.ite ?_ ?_ | with_reducible refine Kp.bdt (A := Int32) ?_ | with_reducible refine Kp.bd (A := TS) (P := KbN s0) ?_ ?_ | with_reducible refine Kp.bd (A := Int32 × TS) (P := fun r => KbN s0 r.2) ?_ ?_ | with_reducible refine Kp.el ?_ ?_ | with_reducible refine Kp.elt ?_ ?_ | with_reducible refine KbN.st (by decide) ?_ | with_reducible refine kb_558 ?_ | with_reducible refine Kp.ret ?_ | exact Kp.no | assumption | exact True.intro | refine KbN.pt ?_ | intro _ _ | intro _)
theorem kb_634 {s0 s : TS} {v1 : Int32} {v2 : Int32} {v3 : Int32} (h : KbN s0 s) : Kp (KbN s0) (t_634 v1 v2 v3 s) := by
  unfold t_634
  repeat (first | with_reducible refine Kp.ite ?_ ?_ | with_reducible refine Kp.bdt (A := Int32) ?_ | with_reducible refine Kp.bd (A := TS) (P := KbN s0) ?_ ?_ | with_reducible refine Kp.bd (A := Int32 × TS) (P := fun r => KbN s0 r.2) ?_ ?_ | with_reducible refine Kp.el ?_ ?_ | with_reducible refine Kp.elt ?_ ?_ | with_reducible refine KbN.st (by decide) ?_ | with_reducible refine kb_558 ?_ | with_reducible refine Kp.ret ?_ | exact Kp.no | assumption | exact True.intro | refine KbN.pt ?_ | intro _ _ | intro _)
theorem kb_635 {s0 s : TS} {v1 : Int32} {v2 : Int32} {v3 : Int32} (h : KbN s0 s) : Kp (fun r : Int32 × TS => KbN s0 r.2) (t_635 v1 v2 v3 s) := by
  unfold t_635
  repeat (first | with_reducible refine Kp.ite ?_ ?_ | with_reducible refine Kp.bdt (A := Int32) ?_ | with_reducible refine Kp.bd (A := TS) (P := KbN s0) ?_ ?_ | with_reducible refine Kp.bd (A := Int32 × TS) (P := fun r => KbN s0 r.2) ?_ ?_ | with_reducible refine Kp.el ?_ ?_ | with_reducible refine Kp.elt ?_ ?_ | with_reducible refine KbN.st (by decide) ?_ | with_reducible refine kb_558 ?_ | with_reducible refine Kp.ret ?_ | exact Kp.no | assumption | exact True.intro | refine KbN.pt ?_ | intro _ _ | intro _)
theorem kb_636 {s0 s : TS} {v1 : Int32} {v2 : Int32} (h : KbN s0 s) : Kp (fun r : Int32 × TS => KbN s0 r.2) (t_636 v1 v2 s) := by
  unfold t_636
  repeat (first | with_reducible refine Kp.ite ?_ ?_ | with_reducible refine Kp.bdt (A := Int32) ?_ | with_reducible refine Kp.bd (A := TS) (P := KbN s0) ?_ ?_ | with_reducible refine Kp.bd (A := Int32 × TS) (P := fun r => KbN s0 r.2) ?_ ?_ | with_reducible refine Kp.el ?_ ?_ | with_reducible refine Kp.elt ?_ ?_ | with_reducible refine KbN.st (by decide) ?_ | with_reducible refine kb_558 ?_ | with_reducible refine Kp.ret ?_ | exact Kp.no | assumption | exact True.intro | refine KbN.pt ?_ | intro _ _ | intro _)
theorem kb_637 {s0 s : TS} {v1 : Int32} {v2 : Int32} {v3 : Int32} (h : KbN s0 s) : Kp (fun r : Int32 × TS => KbN s0 r.2) (t_637 v1 v2 v3 s) := by
  unfold t_637
  repeat (first | with_reducible refine Kp.ite ?_ ?_ | with_reducible refine Kp.bdt (A := Int32) ?_ | with_reducible refine Kp.bd (A := TS) (P := KbN s0) ?_ ?_ | with_reducible refine Kp.bd (A := Int32 × TS) (P := fun r => KbN s0 r.2) ?_ ?_ | with_reducible refine Kp.el ?_ ?_ | with_reducible refine Kp.elt ?_ ?_ | with_reducible refine KbN.st (by decide) ?_ | with_reducible refine kb_558 ?_ | with_reducible refine Kp.ret ?_ | exact Kp.no | assumption | exact True.intro | refine KbN.pt ?_ | intro _ _ | intro _)
theorem kb_807 {s0 s : TS} (h : KbN s0 s) : Kp (fun r : Int32 × TS => KbN s0 r.2) (t_807 s) := by
  unfold t_807
  repeat (first | with_reducible refine Kp.ite ?_ ?_ | with_reducible refine Kp.bdt (A := Int32) ?_ | with_reducible refine Kp.bdt (A := Sum (Unit) (Int32)) ?_ | with_reducible refine Kp.bd (A := TS) (P := KbN s0) ?_ ?_ | with_reducible refine Kp.bd (A := TS × Int32) (P := fun r => KbN s0 r.1) ?_ ?_ | with_reducible refine Kp.wh (S := TS × Int32) (I := fun r => KbN s0 r.1) ?_ ?_ | with_reducible refine Kp.wh (S := TS × Int32 × Int32) (I := fun r => KbN s0 r.1) ?_ ?_ | with_reducible refine Kp.el ?_ ?_ | with_reducible refine Kp.elt ?_ ?_ | with_reducible refine KbN.st (by decide) ?_ | with_reducible refine Kp.ret ?_ | exact Kp.no | assumption | exact True.intro | refine KbN.pt ?_ | intro _ _ | intro _)
theorem kb_641 {s0 s : TS} (h : KbN s0 s) : Kp (fun r : Int32 × TS => KbN s0 r.2) (t_641 s) := by
  unfold t_641
  repeat (first | with_reducible refine Kp.ite ?_ ?_ | with_reducible refine Kp.bdt (A := Int32) ?_ | with_reducible refine Kp.bd (A := TS) (P := KbN s0) ?_ ?_ | with_reducible refine Kp.bd (A := Int32 × TS) (P := fun r => KbN s0 r.2) ?_ ?_ | with_reducible refine Kp.el ?_ ?_ | with_reducible refine Kp.elt ?_ ?_ | with_reducible refine KbN.st (by decide) ?_ | with_reducible refine kb_563 ?_ | with_reducible refine kb_807 ?_ | with_reducible refine Kp.ret ?_ | exact Kp.no | assumption | exact True.intro | refine KbN.pt ?_ | intro _ _ | intro _)
theorem kb_810 {s0 s : TS} {v1 : Int32} (h : KbN s0 s) : Kp (fun r : Int32 × TS => KbN s0 r.2) (t_810 v1 s) := by
  unfold t_810
  repeat (first | with_reducible refine Kp.ite ?_ ?_ | with_reducible refine Kp.bdt (A := Int32) ?_ | with_reducible refine Kp.bd (A := TS) (P := KbN s0) ?_ ?_ | with_reducible refine Kp.bd (A := Int32 × TS) (P := fun r => KbN s0 r.2) ?_ ?_ | with_reducible refine Kp.el ?_ ?_ | with_reducible refine Kp.elt ?_ ?_ | with_reducible refine KbN.st (by decide) ?_ | with_reducible refine kb_807 ?_ | with_reducible refine Kp.ret ?_ | exact Kp.no | assumption | exact True.intro | refine KbN.pt ?_ | intro _ _ | intro _)
theorem kb_642 {s0 s : TS} {v1 : Int32} {v2 : Int32} (h : KbN s0 s) : Kp (fun r : Int32 × TS => KbN s0 r.2) (t_642 v1 v2 s) := by
  unfold t_642
  repeat (first | with_reducible refine Kp.ite ?_ ?_ | with_reducible refine Kp.bdt (A := Int32) ?_ | with_reducible refine Kp.bd (A := TS) (P := KbN s0) ?_ ?_ | with_reducible refine Kp.bd (A := Int32 × TS) (P := fun r => KbN s0 r.2) ?_ ?_ | with_reducible refine Kp.el ?_ ?_ | with_reducible refine Kp.elt ?_ ?_ | with_reducible refine KbN.st (by decide) ?_ | with_reducible refine kb_558 ?_ | with_reducible refine kb_810 ?_ | with_reducible refine Kp.ret ?_ | exact Kp.no | assumption | exact True.intro | refine KbN.pt ?_ | intro _ _ | intro _)
theorem kb_643 {s0 s : TS} {v1 : Int32} (h : KbN s0 s) : Kp (fun r : Int32 × TS => KbN s0 r.2) (t_643 v1 s) := by
  unfold t_643
  repeat (first | with_reducible refine Kp.ite ?_ ?_ | with_reducible refine Kp.bdt (A := Int32) ?_ | with_reducible refine Kp.bd (A := TS) (P := KbN s0) ?_ ?_ | with_reducible refine Kp.bd (A := Int32 × TS) (P := fun r => KbN s0 r.2) ?_ ?_ | with_reducible refine Kp.el ?_ ?_ | with_reducible refine Kp.elt ?_ ?_ | with_reducible refine KbN.st (by decide) ?_ | with_reducible refine kb_558 ?_ | with_reducible refine Kp.ret ?_ | exact Kp.no | assumption | exact True.intro | refine KbN.pt ?_ | intro _ _ | intro _)
theorem kb_815 {s0 s : TS} {v1 : Int32} {v2 : Int32} (h : KbN s0 s) : Kp (KbN s0) (t_815 v1 v2 s) := by
  unfold t_815
  repeat (first | with_reducible refine Kp.ite ?_ ?_ | with_reducible refine Kp.bdt (A := Int32) ?_ | with_reducible refine Kp.bd (A := TS) (P := KbN s0) ?_ ?_ | with_reducible refine Kp.el ?_ ?_ | with_reducible refine Kp.elt ?_ ?_ | with_reducible refine KbN.st (by decide) ?_ | with_reducible refine Kp.ret ?_ | exact Kp.no | assumption | exact True.intro | refine KbN.pt ?_ | intro _ _ | intro _)
theorem kb_819 {s0 s : TS} {v1 : Int32} {v2 : Int32} {v3 : Int32} (h : KbN s0 s) : Kp (fun r : Int32 × TS => KbN s0 r.2) (t_819 v1 v2 v3 s) := by
  unfold t_819
  repeat (first | with_reducible refine Kp.ite ?_ ?_ | with_reducible refine Kp.bdt (A := Int32) ?_ | with_reducible refine Kp.bd (A := TS) (P := KbN s0) ?_ ?_ | with_reducible refine Kp.el ?_ ?_ | with_reducible refine Kp.elt ?_ ?_ | with_reducible refine KbN.st (by decide) ?_ | with_reducible refine Kp.ret ?_ | exact Kp.no | assumption | exact True.intro | refine KbN.pt ?_ | intro _ _ | intro _)
theorem kb_821 {s0 s : TS} {v1 : Int32} {v2 : Int32} (h : KbN s0 s) : Kp (fun r : Int32 × TS => KbN s0 r.2) (t_821 v1 v2 s) := by
  unfold t_821
  repeat (first | with_reducible refine Kp.ite ?_ ?_ | with_reducible refine Kp.bdt (A := Int32) ?_ | with_reducible refine Kp.bd (A := TS) (P := KbN s0) ?_ ?_ | with_reducible refine Kp.el ?_ ?_ | with_reducible refine Kp.elt ?_ ?_ | with_reducible refine KbN.st (by decide) ?_ | with_reducible refine Kp.ret ?_ | exact Kp.no | assumption | exact True.intro | refine KbN.pt ?_ | intro _ _ | intro _)
theorem kb_817 {s0 s : TS} {v1 : Int32} {v2 : Int32} {v3 : Int32} (h : KbN s0 s) : Kp (fun r : Int32 × TS => KbN s0 r.2) (t_817 v1 v2 v3 s) := by
  unfold t_817
  repeat (first | with_reducible refine Kp.ite ?_ ?_ | with_reducible refine Kp.bdt (A := Int32) ?_ | with_reducible refine Kp.bd (A := TS) (P := KbN s0) ?_ ?_ | with_reducible refine Kp.bd (A := Int32 × TS) (P := fun r => KbN s0 r.2) ?_ ?_ | with_reducible refine Kp.el ?_ ?_ | with_reducible refine Kp.elt ?_ ?_ | with_reducible refine KbN.st (by decide) ?_ | with_reducible refine kb_819 ?_ | with_reducible refine kb_821 ?_ | with_reducible refine Kp.ret ?_ | exact Kp.no | assumption | exact True.intro | refine KbN.pt ?_ | intro _ _ | intro _)
theorem kb_812 {s0 s : TS} {v1 : Int32} (h : KbN s0 s) : Kp (KbN s0) (t_812 v1 s) := by
  unfold t_812
  repeat (first | with_reducible refine Kp.ite ?_ ?_ | with_reducible refine Kp.bdt (A := Int32) ?_ | with_reducible refine Kp.bd (A := TS) (P := KbN s0) ?_ ?_ | with_reducible refine Kp.bd (A := TS × Int32) (P := fun r => KbN s0 r.1) ?_ ?_ | with_reducible refine Kp.bd (A := Int32 × TS) (P := fun r => KbN s0 r.2) ?_ ?_ | with_reducible refine Kp.el ?_ ?_ | with_reducible refine Kp.elt ?_ ?_ | with_reducible refine KbN.st (by decide) ?_ | with_reducible refine kb_815 ?_ | with_reducible refine kb_817 ?_ | with_reducible refine Kp.ret ?_ | exact Kp.no | assumption | exact True.intro | refine KbN.pt ?_ | intro _ _ | intro _)
theorem kb_811 {s0 s : TS} (h : KbN s0 s) : Kp (KbN s0) (t_811 s) := by
  unfold t_811
  repeat (first | with_reducible refine Kp.ite ?_ ?_ | with_reducible refine Kp.bdt (A := Int32) ?_ | with_reducible refine Kp.bd (A := TS) (P := KbN s0) ?_ ?_ | with_reducible refine Kp.bd (A := Int32 × TS) (P := fun r => KbN s0 r.2) ?_ ?_ | with_reducible refine Kp.bd (A := Sum (Unit) (TS)) (P := Sum.elim (fun _ => True) (KbN s0)) ?_ ?_ | with_reducible refine Kp.wh (S := TS × Int32) (I := fun r => KbN s0 r.1) ?_ ?_ | with_reducible refine Kp.el ?_ ?_ | with_reducible refine Kp.elt ?_ ?_ | with_reducible refine KbN.st (by decide) ?_ | with_reducible refine kb_807 ?_ | with_reducible refine kb_812 ?_ | with_reducible refine kb_815 ?_ | with_reducible refine Kp.ret ?_ | exact Kp.no | assumption | exact True.intro | refine KbN.pt ?_ | intro _ _ | intro _)
theorem kb_u {t : TS} {o : Option TS} (h : Kp (KbN t) o) : Kp (fun r : Unit × TS => KbN t r.2) (uT o) := by
  refine ⟨trivial, fun r hr => ?_⟩
  cases o with
  | none => cases hr
  | some T => cases hr; exact h.h _ rfl
theorem Kp.kb {α : Type} {t : TS} {d : Option (α × TS)} (hb : B137 t) (h : Kp (fun r => KbN t r.2) d) : Kp (fun r => B137 r.2) d := ⟨trivial, fun r hr => by
  have := h.h r hr
  intro k hk
  rw [this.2]; exact hb k hk⟩
theorem kb_638 {t : TS} {v1 v2 : Int32} (hb : B137 t) : Kp (fun r : Int32 × TS => B137 r.2) (t_638 v1 v2 t) := by
  unfold t_638
  have h1 : (if v2 < (-1) then some (0 : Int32) else (if v2 < 10 then some 1 else some 0)) = some (if v2 < (-1) then 0 else if v2 < 10 then 1 else 0) := by
    by_cases a : v2 < (-1)
    · rw [if_pos a, if_pos a]
    · by_cases b : v2 < 10
      · rw [if_neg a, if_neg a, if_pos b, if_pos b]
      · rw [if_neg a, if_neg a, if_neg b, if_neg b]
  rw [isInB, Option.bind_some, h1]
  have bad : ∀ {v16 : Int32}, v16 = 0 → Kp (fun r : Int32 × TS => B137 r.2) (Option.bind (t_558 v16 (t.1 1) t) (fun x2 => (if x2.1 = 0 then some (0, x2.2) else Option.bind (rdI x2.2 137 40 v1) (fun x3 => Option.bind (stI x2.2 137 40 v1 (v2 + 1)) (fun s4 => some (x3 - 1, s4)))))) := fun h => by
    rw [h, goes_0, Option.bind_some, if_pos rfl]
    exact Kp.ret hb
  by_cases hi : inB v1 (t.1 400) = true
  rotate_left
  · rw [if_neg hi, if_pos rfl, Option.bind_some]
    exact bad rfl
  rw [if_pos hi, if_neg (show ¬ (1 : Int32) = 0 by decide), Option.bind_some]
  by_cases a : v2 < (-1)
  · rw [if_pos a]; exact bad rfl
  by_cases b : v2 < 10
  rotate_left
  · rw [if_neg a, if_neg b]; exact bad rfl
  rw [if_neg a, if_pos b]
  have hv : bel (v2 + 1) 11 := by
    have e1 : (10 : Int32).toInt = 10 := rfl
    have e2 : (-1 : Int32).toInt = -1 := rfl
    have e3 : (1 : Int32).toInt = 1 := rfl
    rw [Int32.lt_iff_toInt_lt, e1] at b
    rw [Int32.lt_iff_toInt_lt, e2] at a
    have e4 : (v2 + 1).toInt = v2.toInt + 1 := by
      rw [Int32.toInt_add, e3]
      exact Int.bmod_eq_of_le (by omega) (by omega)
    refine ⟨(v2.toInt + 1).toNat, by omega, ?_⟩
    apply Int32.toInt_inj.mp
    rw [e4, i_toInt (by omega)]
    omega
  refine Kp.bd (A := Int32 × TS) (P := fun r => r.2 = ptI t 0 (r.2.1 0)) ?_ (fun r hr => ?_)
  · by_cases z : t.1 1 = 0
    · rw [z, goes_2]; exact Kp.ret rfl
    · rw [goes_1 _ z]; exact Kp.ret rfl
  · obtain ⟨x, T⟩ := r
    have hr : T = ptI t 0 (T.1 0) := hr
    have hT : B137 T := fun k hk => by rw [hr]; exact hb k hk
    dsimp only
    refine Kp.ite (Kp.ret hT) (Kp.bdt (fun x3 => Kp.bd (A := TS) (P := fun U => B137 U) ?_ (fun U hU => Kp.ret hU)))
    refine ⟨trivial, fun U hU => ?_⟩
    unfold stI at hU
    split at hU
    · cases hU
      intro k hk
      rw [wr_at]
      split
      · exact hv
      · exact hT k hk
    · cases hU
