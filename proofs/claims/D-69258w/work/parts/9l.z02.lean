/-! the house: the reference's operations keep some numbers -/
def Kp {A : Type} (Q : A → Prop) (o : Option A) : Prop := True ∧ ∀ r, o = some r → Q r
theorem Kp.h {A : Type} {Q : A → Prop} {o : Option A} (k : Kp Q o) : ∀ r, o = some r → Q r := k.2
def kpNs : List Nat := [1, 2, 9, 300, 301, 503, 516, 517, 528, 612]
def KpN (s T : TS) : Prop := True ∧ ∀ c ∈ kpNs, T.1 c = s.1 c
theorem KpN.h {s T : TS} (k : KpN s T) : ∀ c ∈ kpNs, T.1 c = s.1 c := k.2
section
variable {A B S X : Type} {P : A → Prop} {Q : B → Prop} {o : Option A} {f : A → Option B}
theorem Kp.bd (h1 : Kp P o) (h2 : ∀ a, P a → Kp Q (f a)) : Kp Q (Option.bind o f) := by
  refine ⟨trivial, fun r hr => ?_⟩
  cases ho : o with
  | none => rw [ho] at hr; cases hr
  | some a => rw [ho] at hr; exact (h2 a (h1.h a ho)).h r hr
theorem Kp.bdt (h2 : ∀ a, Kp Q (f a)) : Kp Q (Option.bind o f) := Kp.bd (P := fun _ => True) ⟨trivial, fun _ _ => trivial⟩ (fun a _ => h2 a)
theorem Kp.ret {b : B} (h : Q b) : Kp Q (some b) := ⟨trivial, fun r hr => by cases hr; exact h⟩
theorem Kp.no : Kp Q none := ⟨trivial, fun r hr => by cases hr⟩
theorem Kp.ite {c : Prop} {i : Decidable c} {a b : Option B} (h1 : Kp Q a) (h2 : Kp Q b) : Kp Q (@ite _ c i a b) := by
  by_cases z : c
  · rw [if_pos z]; exact h1
  · rw [if_neg z]; exact h2
theorem Kp.el {A' : Type} {P1 : A → Prop} {P2 : A' → Prop} {f : A → Option B} {g : A' → Option B} (h1 : ∀ a, P1 a → Kp Q (f a)) (h2 : ∀ a, P2 a → Kp Q (g a)) : ∀ a, Sum.elim P1 P2 a → Kp Q (Sum.elim f g a) := fun a ha => by
  cases a with
  | inl x => exact h1 x ha
  | inr x => exact h2 x ha
theorem Kp.elt {A' : Type} {f : A → Option B} {g : A' → Option B} (h1 : ∀ a, Kp Q (f a)) (h2 : ∀ a, Kp Q (g a)) : ∀ a, Kp Q (Sum.elim f g a) := fun a => by
  cases a with
  | inl x => exact h1 x
  | inr x => exact h2 x
theorem Kp.wh {I : S → Prop} {Q : X → Prop} {F : S → Option (Sum S X)} {a : S} (h : ∀ a, I a → Kp (Sum.elim I Q) (F a)) (h0 : I a) : Kp Q (wh F a) := by
  refine ⟨trivial, fun r hr => ?_⟩
  refine wh_run (P := fun a => I a → Q r) hr (fun st x hx k1 k2 hi => ?_) h0
  have := (h st hi).h x hx
  cases x with
  | inl y => exact k1 y rfl this
  | inr y => rw [← k2 y rfl]; exact this
end
theorem KpN.st {s0 s : TS} {c n : Nat} {k v : Int32} (h : KpN s0 s) : Kp (KpN s0) (stI s c n k v) := by
  refine ⟨trivial, fun r hr => ?_⟩
  unfold stI at hr
  split at hr
  · cases hr; exact ⟨trivial, h.h⟩
  · cases hr
theorem KpN.stl {s0 s : TS} {c n : Nat} {k : Int32} {v : Int64} (h : KpN s0 s) : Kp (KpN s0) (stL s c n k v) := by
  refine ⟨trivial, fun r hr => ?_⟩
  unfold stL at hr
  split at hr
  · cases hr; exact ⟨trivial, h.h⟩
  · cases hr
theorem KpN.pt {s0 s : TS} {c : Nat} {v : Int32} (hc : c ∉ kpNs) (h : KpN s0 s) : KpN s0 (ptI s c v) := ⟨trivial, fun d hd => by
  have e : ¬ d = c := fun e => by rw [e] at hd; exact hc hd
  rw [pt_1, if_neg e]
  exact h.h d hd⟩
theorem KpN.ptl {s0 s : TS} {c : Nat} {v : Int64} (h : KpN s0 s) : KpN s0 (ptL s c v) := ⟨trivial, h.h⟩
theorem kp_558 {s0 s : TS} {v1 v2 : Int32} (h : KpN s0 s) : Kp (fun r : Int32 × TS => KpN s0 r.2) (t_558 v1 v2 s) := by
  unfold t_558
  repeat (first | with_reducible refine Kp.ite ?_ ?_ | with_reducible refine Kp.bdt (A := Int32) ?_ | with_reducible refine Kp.bd (A := TS) (P := KpN s0) ?_ ?_ | with_reducible refine Kp.el ?_ ?_ | with_reducible refine Kp.elt ?_ ?_ | with_reducible refine KpN.st ?_ | with_reducible refine KpN.stl ?_ | with_reducible refine Kp.ret ?_ | exact Kp.no | assumption | exact True.intro | refine KpN.pt (by decide) ?_ | refine KpN.ptl ?_ | intro _ _ | intro _)
theorem kp_563 {s0 s : TS} {v1 : Int32} (h : KpN s0 s) : Kp (fun r : Int32 × TS => KpN s0 r.2) (t_563 v1 s) := by
  unfold t_563
  repeat (first | with_reducible refine Kp.ite ?_ ?_ | with_reducible refine Kp.bdt (A := Int32) ?_ | with_reducible refine Kp.bd (A := TS) (P := KpN s0) ?_ ?_ | with_reducible refine Kp.el ?_ ?_ | with_reducible refine Kp.elt ?_ ?_ | with_reducible refine KpN.st ?_ | with_reducible refine KpN.stl ?_ | with_reducible refine Kp.ret ?_ | exact Kp.no | assumption | exact True.intro | refine KpN.pt (by decide) ?_ | refine KpN.ptl ?_ | intro _ _ | intro _)
theorem kp_592 {s0 s : TS} {v1 : Int32} {v2 : Int32} (h : KpN s0 s) : Kp (fun r : Int32 × TS => KpN s0 r.2) (t_592 v1 v2 s) := by
  unfold t_592
  repeat (first | with_reducible refine Kp.ite ?_ ?_ | with_reducible refine Kp.bdt (A := Int32) ?_ | with_reducible refine Kp.bd (A := TS) (P := KpN s0) ?_ ?_ | with_reducible refine Kp.bd (A := Int32 × TS) (P := fun r => KpN s0 r.2) ?_ ?_ | with_reducible refine Kp.el ?_ ?_ | with_reducible refine Kp.elt ?_ ?_ | with_reducible refine KpN.st ?_ | with_reducible refine KpN.stl ?_ | with_reducible refine kp_558 ?_ | with_reducible refine Kp.ret ?_ | exact Kp.no | assumption | exact True.intro | refine KpN.pt (by decide) ?_ | refine KpN.ptl ?_ | intro _ _ | intro _)
theorem kp_593 {s0 s : TS} {v1 : Int32} {v2 : Int32} (h : KpN s0 s) : Kp (fun r : Int32 × TS => KpN s0 r.2) (t_593 v1 v2 s) := by
  unfold t_593
  repeat (first | with_reducible refine Kp.ite ?_ ?_ | with_reducible refine Kp.bdt (A := Int32) ?_ | with_reducible refine Kp.bd (A := TS) (P := KpN s0) ?_ ?_ | with_reducible refine Kp.bd (A := Int32 × TS) (P := fun r => KpN s0 r.2) ?_ ?_ | with_reducible refine Kp.el ?_ ?_ | with_reducible refine Kp.elt ?_ ?_ | with_reducible refine KpN.st ?_ | with_reducible refine KpN.stl ?_ | with_reducible refine kp_558 ?_ | with_reducible refine Kp.ret ?_ | exact Kp.no | assumption | exact True.intro | refine KpN.pt (by decide) ?_ | refine KpN.ptl ?_ | intro _ _ | intro _)
theorem kp_596 {s0 s : TS} {v1 : Int32} {v2 : Int32} {v3 : Int32} (h : KpN s0 s) : Kp (KpN s0) (t_596 v1 v2 v3 s) := by
  unfold t_596
  repeat (first | with_reducible refine Kp.ite ?_ ?_ | with_reducible refine Kp.bdt (A := Int32) ?_ | with_reducible refine Kp.bd (A := TS) (P := KpN s0) ?_ ?_ | with_reducible refine Kp.el ?_ ?_ | with_reducible refine Kp.elt ?_ ?_ | with_reducible refine KpN.st ?_ | with_reducible refine KpN.stl ?_ | with_reducible refine Kp.ret ?_ | exact Kp.no | assumption | exact True.intro | refine KpN.pt (by decide) ?_ | refine KpN.ptl ?_ | intro _ _ | intro _)
theorem kp_594 {s0 s : TS} {v1 : Int32} {v2 : Int32} (h : KpN s0 s) : Kp (fun r : Int32 × TS => KpN s0 r.2) (t_594 v1 v2 s) := by
  unfold t_594
  repeat (first | with_reducible refine Kp.ite ?_ ?_ | with_reducible refine Kp.bdt (A := Int32) ?_ | with_reducible refine Kp.bd (A := TS) (P := KpN s0) ?_ ?_ | with_reducible refine Kp.bd (A := Int32 × TS) (P := fun r => KpN s0 r.2) ?_ ?_ | with_reducible refine Kp.el ?_ ?_ | with_reducible refine Kp.elt ?_ ?_ | with_reducible refine KpN.st ?_ | with_reducible refine KpN.stl ?_ | with_reducible refine kp_558 ?_ | with_reducible refine kp_596 ?_ | with_reducible refine Kp.ret ?_ | exact Kp.no | assumption | exact True.intro | refine KpN.pt (by decide) ?_ | refine KpN.ptl ?_ | intro _ _ | intro _)
theorem kp_597 {s0 s : TS} {v1 : Int32} {v2 : Int32} {v3 : Int32} {v4 : Int32} {v5 : Int32} (h : KpN s0 s) : Kp (fun r : Int32 × TS => KpN s0 r.2) (t_597 v1 v2 v3 v4 v5 s) := by
  unfold t_597
  repeat (first | with_reducible refine Kp.ite ?_ ?_ | with_reducible refine Kp.bdt (A := Int32) ?_ | with_reducible refine Kp.bd (A := TS) (P := KpN s0) ?_ ?_ | with_reducible refine Kp.bd (A := Int32 × TS) (P := fun r => KpN s0 r.2) ?_ ?_ | with_reducible refine Kp.el ?_ ?_ | with_reducible refine Kp.elt ?_ ?_ | with_reducible refine KpN.st ?_ | with_reducible refine KpN.stl ?_ | with_reducible refine kp_558 ?_ | with_reducible refine kp_596 ?_ | with_reducible refine Kp.ret ?_ | exact Kp.no | assumption | exact True.intro | refine KpN.pt (by decide) ?_ | refine KpN.ptl ?_ | intro _ _ | intro _)
theorem kp_598 {s0 s : TS} {v1 : Int32} {v2 : Int32} (h : KpN s0 s) : Kp (fun r : Int32 × TS => KpN s0 r.2) (t_598 v1 v2 s) := by
  unfold t_598
  repeat (first | with_reducible refine Kp.ite ?_ ?_ | with_reducible refine Kp.bdt (A := Int32) ?_ | with_reducible refine Kp.bd (A := TS) (P := KpN s0) ?_ ?_ | with_reducible refine Kp.bd (A := Int32 × TS) (P := fun r => KpN s0 r.2) ?_ ?_ | with_reducible refine Kp.el ?_ ?_ | with_reducible refine Kp.elt ?_ ?_ | with_reducible refine KpN.st ?_ | with_reducible refine KpN.stl ?_ | with_reducible refine kp_558 ?_ | with_reducible refine kp_596 ?_ | with_reducible refine Kp.ret ?_ | exact Kp.no | assumption | exact True.intro | refine KpN.pt (by decide) ?_ | refine KpN.ptl ?_ | intro _ _ | intro _)
theorem kp_600 {s0 s : TS} {v1 : Int32} {v2 : Int32} (h : KpN s0 s) : Kp (fun r : Int32 × TS => KpN s0 r.2) (t_600 v1 v2 s) := by
  unfold t_600
  repeat (first | with_reducible refine Kp.ite ?_ ?_ | with_reducible refine Kp.bdt (A := Int32) ?_ | with_reducible refine Kp.bd (A := TS) (P := KpN s0) ?_ ?_ | with_reducible refine Kp.bd (A := Int32 × TS) (P := fun r => KpN s0 r.2) ?_ ?_ | with_reducible refine Kp.el ?_ ?_ | with_reducible refine Kp.elt ?_ ?_ | with_reducible refine KpN.st ?_ | with_reducible refine KpN.stl ?_ | with_reducible refine kp_558 ?_ | with_reducible refine kp_596 ?_ | with_reducible refine Kp.ret ?_ | exact Kp.no | assumption | exact True.intro | refine KpN.pt (by decide) ?_ | refine KpN.ptl ?_ | intro _ _ | intro _)
theorem kp_601 {s0 s : TS} {v1 : Int32} {v2 : Int32} (h : KpN s0 s) : Kp (fun r : Int32 × TS => KpN s0 r.2) (t_601 v1 v2 s) := by
  unfold t_601
  repeat (first | with_reducible refine Kp.ite ?_ ?_ | with_reducible refine Kp.bdt (A := Int32) ?_ | with_reducible refine Kp.bd (A := TS) (P := KpN s0) ?_ ?_ | with_reducible refine Kp.bd (A := Int32 × TS) (P := fun r => KpN s0 r.2) ?_ ?_ | with_reducible refine Kp.el ?_ ?_ | with_reducible refine Kp.elt ?_ ?_ | with_reducible refine KpN.st ?_ | with_reducible refine KpN.stl ?_ | with_reducible refine kp_558 ?_ | with_reducible refine Kp.ret ?_ | exact Kp.no | assumption | exact True.intro | refine KpN.pt (by decide) ?_ | refine KpN.ptl ?_ | intro _ _ | intro _)
theorem kp_602 {s0 s : TS} {v1 : Int32} {v2 : Int32} {v3 : Int32} (h : KpN s0 s) : Kp (fun r : Int32 × TS => KpN s0 r.2) (t_602 v1 v2 v3 s) := by
  unfold t_602
  repeat (first | with_reducible refine Kp.ite ?_ ?_ | with_reducible refine Kp.bdt (A := Int32) ?_ | with_reducible refine Kp.bd (A := TS) (P := KpN s0) ?_ ?_ | with_reducible refine Kp.bd (A := Int32 × TS) (P := fun r => KpN s0 r.2) ?_ ?_ | with_reducible refine Kp.bd (A := Sum (Unit) (TS)) (P := Sum.elim (fun _ => True) (KpN s0)) ?_ ?_ | with_reducible refine Kp.el ?_ ?_ | with_reducible refine Kp.elt ?_ ?_ | with_reducible refine KpN.st ?_ | with_reducible refine KpN.stl ?_ | with_reducible refine kp_558 ?_ | with_reducible refine Kp.ret ?_ | exact Kp.no | assumption | exact True.intro | refine KpN.pt (by decide) ?_ | refine KpN.ptl ?_ | intro _ _ | intro _)
theorem kp_604 {s0 s : TS} {v1 : Int32} {v2 : Int32} (h : KpN s0 s) : Kp (fun r : Int32 × TS => KpN s0 r.2) (t_604 v1 v2 s) := by
  unfold t_604
  repeat (first | with_reducible refine Kp.ite ?_ ?_ | with_reducible refine Kp.bdt (A := Int32) ?_ | with_reducible refine Kp.bd (A := TS) (P := KpN s0) ?_ ?_ | with_reducible refine Kp.bd (A := Int32 × TS) (P := fun r => KpN s0 r.2) ?_ ?_ | with_reducible refine Kp.el ?_ ?_ | with_reducible refine Kp.elt ?_ ?_ | with_reducible refine KpN.st ?_ | with_reducible refine KpN.stl ?_ | with_reducible refine kp_558 ?_ | with_reducible refine Kp.ret ?_ | exact Kp.no | assumption | exact True.intro | refine KpN.pt (by decide) ?_ | refine KpN.ptl ?_ | intro _ _ | intro _)
theorem kp_613 {s0 s : TS} {v1 : Int32} {v2 : Int32} {v3 : Int32} (h : KpN s0 s) : Kp (KpN s0) (t_613 v1 v2 v3 s) := by
  unfold t_613
  repeat (first | with_reducible refine Kp.ite ?_ ?_ | with_reducible refine Kp.bdt (A := Int32) ?_ | with_reducible refine Kp.bd (A := TS) (P := KpN s0) ?_ ?_ | with_reducible refine Kp.el ?_ ?_ | with_reducible refine Kp.elt ?_ ?_ | with_reducible refine KpN.st ?_ | with_reducible refine KpN.stl ?_ | with_reducible refine Kp.ret ?_ | exact Kp.no | assumption | exact True.intro | refine KpN.pt (by decide) ?_ | refine KpN.ptl ?_ | intro _ _ | intro _)
theorem kp_612 {s0 s : TS} {v1 : Int32} {v2 : Int32} {v3 : Int32} (h : KpN s0 s) : Kp (KpN s0) (t_612 v1 v2 v3 s) := by
  unfold t_612
  repeat (first | with_reducible refine Kp.ite ?_ ?_ | with_reducible refine Kp.bdt (A := Int32) ?_ | with_reducible refine Kp.bd (A := TS) (P := KpN s0) ?_ ?_ | with_reducible refine Kp.bd (A := Sum (Unit) (TS)) (P := Sum.elim (fun _ => True) (KpN s0)) ?_ ?_ | with_reducible refine Kp.el ?_ ?_ | with_reducible refine Kp.elt ?_ ?_ | with_reducible refine KpN.st ?_ | with_reducible refine KpN.stl ?_ | with_reducible refine kp_613 ?_ | with_reducible refine Kp.ret ?_ | exact Kp.no | assumption | exact True.intro | refine KpN.pt (by decide) ?_ | refine KpN.ptl ?_ | intro _ _ | intro _)
theorem kp_605 {s0 s : TS} {v1 : Int32} {v2 : Int32} {v3 : Int32} (h : KpN s0 s) : Kp (fun r : Int32 × TS => KpN s0 r.2) (t_605 v1 v2 v3 s) := by
  unfold t_605
  repeat (first | with_reducible refine Kp.ite ?_ ?_ | with_reducible refine Kp.bdt (A := Int32) ?_ | with_reducible refine Kp.bdt (A := Sum (Unit) (Int32)) ?_ | with_reducible refine Kp.bd (A := TS) (P := KpN s0) ?_ ?_ | with_reducible refine Kp.bd (A := Int32 × TS) (P := fun r => KpN s0 r.2) ?_ ?_ | with_reducible refine Kp.el ?_ ?_ | with_reducible refine Kp.elt ?_ ?_ | with_reducible refine KpN.st ?_ | with_reducible refine KpN.stl ?_ | with_reducible refine kp_558 ?_ | with_reducible refine kp_612 ?_ | with_reducible refine Kp.ret ?_ | exact Kp.no | assumption | exact True.intro | refine KpN.pt (by decide) ?_ | refine KpN.ptl ?_ | intro _ _ | intro _)
theorem kp_614 {s0 s : TS} {v1 : Int32} {v2 : Int32} {v3 : Int32} {v4 : Int32} (h : KpN s0 s) : Kp (fun r : Int32 × TS => KpN s0 r.2) (t_614 v1 v2 v3 v4 s) := by
  unfold t_614
  repeat (first | with_reducible refine Kp.ite ?_ ?_ | with_reducible refine Kp.bdt (A := Int32) ?_ | with_reducible refine Kp.bdt (A := Sum (Unit) (Int32)) ?_ | with_reducible refine Kp.bd (A := TS) (P := KpN s0) ?_ ?_ | with_reducible refine Kp.bd (A := Int32 × TS) (P := fun r => KpN s0 r.2) ?_ ?_ | with_reducible refine Kp.el ?_ ?_ | with_reducible refine Kp.elt ?_ ?_ | with_reducible refine KpN.st ?_ | with_reducible refine KpN.stl ?_ | with_reducible refine kp_558 ?_ | with_reducible refine kp_612 ?_ | with_reducible refine Kp.ret ?_ | exact Kp.no | assumption | exact True.intro | refine KpN.pt (by decide) ?_ | refine KpN.ptl ?_ | intro _ _ | intro _)
theorem kp_615 {s0 s : TS} {v1 : Int32} {v2 : Int32} (h : KpN s0 s) : Kp (fun r : Int32 × TS => KpN s0 r.2) (t_615 v1 v2 s) := by
  unfold t_615
  repeat (first | with_reducible refine Kp.ite ?_ ?_ | with_reducible refine Kp.bdt (A := Int32) ?_ | with_reducible refine Kp.bd (A := TS) (P := KpN s0) ?_ ?_ | with_reducible refine Kp.bd (A := Int32 × TS) (P := fun r => KpN s0 r.2) ?_ ?_ | with_reducible refine Kp.wh (S := TS × Int32) (I := fun r => KpN s0 r.1) ?_ ?_ | with_reducible refine Kp.el ?_ ?_ | with_reducible refine Kp.elt ?_ ?_ | with_reducible refine KpN.st ?_ | with_reducible refine KpN.stl ?_ | with_reducible refine kp_558 ?_ | with_reducible refine kp_613 ?_ | with_reducible refine Kp.ret ?_ | exact Kp.no | assumption | exact True.intro | refine KpN.pt (by decide) ?_ | refine KpN.ptl ?_ | intro _ _ | intro _)
theorem kp_616 {s0 s : TS} {v1 : Int32} {v2 : Int32} (h : KpN s0 s) : Kp (fun r : Int32 × TS => KpN s0 r.2) (t_616 v1 v2 s) := by
  unfold t_616
  repeat (first | with_reducible refine Kp.ite ?_ ?_ | with_reducible refine Kp.bdt (A := Int32) ?_ | with_reducible refine Kp.bd (A := TS) (P := KpN s0) ?_ ?_ | with_reducible refine Kp.bd (A := Int32 × TS) (P := fun r => KpN s0 r.2) ?_ ?_ | with_reducible refine Kp.el ?_ ?_ | with_reducible refine Kp.elt ?_ ?_ | with_reducible refine KpN.st ?_ | with_reducible refine KpN.stl ?_ | with_reducible refine kp_558 ?_ | with_reducible refine Kp.ret ?_ | exact Kp.no | assumption | exact True.intro | refine KpN.pt (by decide) ?_ | refine KpN.ptl ?_ | intro _ _ | intro _)
theorem kp_617 {s0 s : TS} {v1 : Int32} (h : KpN s0 s) : Kp (fun r : Int32 × TS => KpN s0 r.2) (t_617 v1 s) := by
  unfold t_617
  repeat (first | with_reducible refine Kp.ite ?_ ?_ | with_reducible refine Kp.bdt (A := Int32) ?_ | with_reducible refine Kp.bd (A := TS) (P := KpN s0) ?_ ?_ | with_reducible refine Kp.bd (A := Int32 × TS) (P := fun r => KpN s0 r.2) ?_ ?_ | with_reducible refine Kp.el ?_ ?_ | with_reducible refine Kp.elt ?_ ?_ | with_reducible refine KpN.st ?_ | with_reducible refine KpN.stl ?_ | with_reducible refine kp_558 ?_ | with_reducible refine Kp.ret ?_ | exact Kp.no | assumption | exact True.intro | refine KpN.pt (by decide) ?_ | refine KpN.ptl ?_ | intro _ _ | intro _)
theorem kp_618 {s0 s : TS} {v1 : Int32} {v2 : Int32} (h : KpN s0 s) : Kp (fun r : Int32 × TS => KpN s0 r.2) (t_618 v1 v2 s) := by
  unfold t_618
  repeat (first | with_reducible refine Kp.ite ?_ ?_ | with_reducible refine Kp.bdt (A := Int32) ?_ | with_reducible refine Kp.bd (A := TS) (P := KpN s0) ?_ ?_ | with_reducible refine Kp.bd (A := Int32 × TS) (P := fun r => KpN s0 r.2) ?_ ?_ | with_reducible refine Kp.el ?_ ?_ | with_reducible refine Kp.elt ?_ ?_ | with_reducible refine KpN.st ?_ | with_reducible refine KpN.stl ?_ | with_reducible refine kp_558 ?_ | with_reducible refine Kp.ret ?_ | exact Kp.no | assumption | exact True.intro | refine KpN.pt (by decide) ?_ | refine KpN.ptl ?_ | intro _ _ | intro _)
theorem kp_764 {s0 s : TS} {v1 : Int32} (h : KpN s0 s) : Kp (fun r : Int32 × TS => KpN s0 r.2) (t_764 v1 s) := by
  unfold t_764
  repeat (first | with_reducible refine Kp.ite ?_ ?_ | with_reducible refine Kp.bdt (A := Int32) ?_ | with_reducible refine Kp.bd (A := TS) (P := KpN s0) ?_ ?_ | with_reducible refine Kp.el ?_ ?_ | with_reducible refine Kp.elt ?_ ?_ | with_reducible refine KpN.st ?_ | with_reducible refine KpN.stl ?_ | with_reducible refine Kp.ret ?_ | exact Kp.no | assumption | exact True.intro | refine KpN.pt (by decide) ?_ | refine KpN.ptl ?_ | intro _ _ | intro _)
theorem kp_619 {s0 s : TS} {v1 : Int32} (h : KpN s0 s) : Kp (fun r : Int32 × TS => KpN s0 r.2) (t_619 v1 s) := by
  unfold t_619
  repeat (first | with_reducible refine Kp.ite ?_ ?_ | with_reducible refine Kp.bdt (A := Int32) ?_ | with_reducible refine Kp.bd (A := TS) (P := KpN s0) ?_ ?_ | with_reducible refine Kp.bd (A := Int32 × TS) (P := fun r => KpN s0 r.2) ?_ ?_ | with_reducible refine Kp.el ?_ ?_ | with_reducible refine Kp.elt ?_ ?_ | with_reducible refine KpN.st ?_ | with_reducible refine KpN.stl ?_ | with_reducible refine kp_558 ?_ | with_reducible refine kp_764 ?_ | with_reducible refine Kp.ret ?_ | exact Kp.no | assumption | exact True.intro | refine KpN.pt (by decide) ?_ | refine KpN.ptl ?_ | intro _ _ | intro _)
