/-! the program as runners of methods; every run is sound -/
abbrev lProc : Type := lE → lRec → Nat → List Value → lMem → Option lF
def lMk (nL : Nat) (cd : List lI) : lProc := fun E rec f args M => if (lg_sl args).length ≤ nL then lRun E rec (fun i => cd[i]?) f 0 (lv_args 0 args, [], M) else none
def lRunM (prog : Nat → Option lProc) (E : lE) (f : Nat) : Nat → lRec
  | 0 => fun _ _ _ => none
  | d + 1 => fun i args M => match prog i with
    | none => none
    | some pr => pr E (lRunM prog E f d) f args M
/-- the i-th method's runner is sound -/
def lPr1 (g : lG) (inf : Nat → Option lInf) (i : Nat) (pr : lProc) : Prop := ∃ q, inf i = some q ∧ ∀ (l : Launch) (d : Nat) (rec : lRec), lRecOk g inf l d rec → ∀ (f : Nat) (args : List Value) (M : lMem) (fin : lF), pr (lev g) rec f args M = some fin → lLe M fin.2 ∧ lMet g l q (d + 1) args M fin
theorem lMk_ok {g : lG} {inf : Nat → Option lInf} {q : lInf} {pc : Nat → Nat} {cd : List lI} {i : Nat} (hi : inf i = some q) (hcd : lOks g inf q pc 0 cd) (hpc : pc 0 = 0) : lPr1 g inf i (lMk q.2.2.1 cd) := by
  refine ⟨q, hi, fun l d rec hrec f args M fin h => ?_⟩
  unfold lMk at h
  split at h
  · rename_i hl
    exact lMet_run hcd.all hpc hrec hl h
  · cases h
def lPrs (g : lG) (inf : Nat → Option lInf) : Nat → List lProc → Prop
  | _, [] => True
  | i, f :: r => lPr1 g inf i f ∧ lPrs g inf (i + 1) r
theorem lPrs.get {g : lG} {inf : Nat → Option lInf} {a : List lProc} {i : Nat} (h : lPrs g inf i a) : ∀ (k : Nat) (f : lProc), a[k]? = some f → lPr1 g inf (i + k) f := by
  induction a generalizing i with
  | nil => intro k f e; cases e
  | cons x r ih =>
    intro k f e
    cases k with
    | zero => cases e; exact h.1
    | succ k =>
      have := ih h.2 k f e
      rwa [show i + 1 + k = i + (k + 1) by omega] at this
/-- chunks of 40 -/
def lPrss (g : lG) (inf : Nat → Option lInf) : Nat → List (List lProc) → Prop
  | _, [] => True
  | i, f :: r => lPrs g inf (40 * i) f ∧ lPrss g inf (i + 1) r
theorem lPrss.get {g : lG} {inf : Nat → Option lInf} {a : List (List lProc)} {i : Nat} (h : lPrss g inf i a) : ∀ (k : Nat) (f : List lProc), a[k]? = some f → lPrs g inf (40 * (i + k)) f := by
  induction a generalizing i with
  | nil => intro k f e; cases e
  | cons x r ih =>
    intro k f e
    cases k with
    | zero => cases e; exact h.1
    | succ k =>
      have := ih h.2 k f e
      rwa [show i + 1 + k = i + (k + 1) by omega] at this
def lProg (a : List (List lProc)) : Nat → Option lProc := fun i => (a[i / 40]?).bind (fun r => r[i % 40]?)
theorem lProg_ok {g : lG} {inf : Nat → Option lInf} {a : List (List lProc)} (h : lPrss g inf 0 a) : ∀ i pr, lProg a i = some pr → lPr1 g inf i pr := by
  intro i pr e
  unfold lProg at e
  obtain ⟨r, e1, e2⟩ := Option.bind_eq_some_iff.mp e
  have h1 := h.get _ _ e1
  have h2 := h1.get _ _ e2
  rwa [show 40 * (0 + i / 40) + i % 40 = i by omega] at h2
theorem lRunM_ok {g : lG} {inf : Nat → Option lInf} {prog : Nat → Option lProc} (h : ∀ i pr, prog i = some pr → lPr1 g inf i pr) (l : Launch) (hl : l.stackTraces = false) (f : Nat) : ∀ d, lRecOk g inf l d (lRunM prog (lev g) f d) := by
  intro d
  induction d with
  | zero => exact ⟨hl, fun i args M fin e => by cases e⟩
  | succ d ih =>
    refine ⟨hl, ?_⟩
    intro i args M fin e
    unfold lRunM at e
    split at e
    · cases e
    · rename_i pr hp
      obtain ⟨q, hq, hh⟩ := h i pr hp
      obtain ⟨h1, h2⟩ := hh l d _ ih f args M fin e
      exact ⟨h1, q, hq, h2⟩
