/-! the library: trees told place by place, plain -/
def upd {α : Type} (f : Nat → α) (q : Nat) (v : α) : Nat → α := fun m => if m = q then v else f m
theorem upd_eq {α : Type} (f : Nat → α) (q : Nat) (v : α) : upd f q v q = v := if_pos rfl
theorem upd_ne {α : Type} {f : Nat → α} {q m : Nat} {v : α} (h : m ≠ q) : upd f q v m = f m := if_neg h
/-- turning at e, whose child j rises -/
def ro1 (f p : Nat → Option Nat) (e j : Nat) : Nat → Option Nat := fun m => if m = j then some e else if p e = some m ∧ f m = some e then some j else f m
def ro2 (f g p : Nat → Option Nat) (e j : Nat) : Nat → Option Nat := fun m => if m = e then f j else if p e = some m ∧ g m = some e then some j else g m
def ro3 (f p : Nat → Option Nat) (e j : Nat) : Nat → Option Nat := fun m => if m = e then some j else if m = j then p e else if f j = some m then some e else p m
section
variable {N : Nat → Prop} {n : Nat} {ps ia ib : Nat → Nat} {root : Option Nat} {l r p : Nat → Option Nat}
theorem WFc.mir (h : WFc N n ps root ia ib l r p) : WFc N n (fun e => n - 1 - ps e) root (fun e => n - ib e) (fun e => n - ia e) r l p := by
  obtain ⟨h1, h2, h3⟩ := h
  refine ⟨h1, fun e he => ?_, fun e he => ?_⟩
  · obtain ⟨q1, q2, q3, q4⟩ := h2 e he
    exact ⟨q1, by dsimp only; omega, by dsimp only; omega, q4⟩
  · obtain ⟨q1, q2, q3, q4, q5, q6, q7, q8, q9⟩ := h3 e he
    refine ⟨by dsimp only; omega, by dsimp only; omega, by dsimp only; omega, fun z => ?_, fun x hx => ?_, fun z => ?_, fun x hx => ?_, q8, fun q hq => ?_⟩
    · have := q6 z
      dsimp only
      omega
    · obtain ⟨w1, w2, w3, w4⟩ := q7 x hx
      exact ⟨w1, by dsimp only; omega, by dsimp only; omega, w4⟩
    · have := q4 z
      dsimp only
      omega
    · obtain ⟨w1, w2, w3, w4⟩ := q5 x hx
      exact ⟨w1, by dsimp only; omega, by dsimp only; omega, w4⟩
    · obtain ⟨w1, w2⟩ := q9 q hq
      exact ⟨w1, w2.symm⟩
theorem WFc.cgp (h : WFc N n ps root ia ib l r p) {ps' : Nat → Nat} (e : ∀ x, N x → ps x = ps' x) : WFc N n ps' root ia ib l r p := by
  obtain ⟨h1, h2, h3⟩ := h
  refine ⟨h1, h2, fun x hx => ?_⟩
  rw [← e x hx]
  exact h3 x hx
theorem WFc.mir2 (h : WFc N n (fun e => n - 1 - ps e) root ia ib r l p) (hb : ∀ e, N e → ps e < n) : ∃ ia' ib', WFc N n ps root ia' ib' l r p := by
  exact ⟨_, _, h.mir.cgp (fun x hx => by have := hb x hx; omega)⟩
/-- what a child on the right is -/
theorem WFc.rt (h : WFc N n ps root ia ib l r p) {e j : Nat} (he : N e) (hj : r e = some j) : N j ∧ ia j = ps e + 1 ∧ ib j = ib e ∧ p j = some e ∧ ps e < ps j ∧ e ≠ j := by
  obtain ⟨h1, h2, h3⟩ := h
  obtain ⟨q1, q2, q3, q4⟩ := (h3 e he).2.2.2.2.2.2.1 j hj
  obtain ⟨w1, w2, _⟩ := h3 j q1
  refine ⟨q1, q2, q3, q4, by omega, fun z => ?_⟩
  rw [← z] at w1 q2
  omega
theorem WFc.lf (h : WFc N n ps root ia ib l r p) {e j : Nat} (he : N e) (hj : l e = some j) : N j ∧ ia j = ia e ∧ ib j = ps e ∧ p j = some e ∧ ps j < ps e ∧ e ≠ j := by
  obtain ⟨h1, h2, h3⟩ := h
  obtain ⟨q1, q2, q3, q4⟩ := (h3 e he).2.2.2.2.1 j hj
  obtain ⟨w1, w2, _⟩ := h3 j q1
  refine ⟨q1, q2, q3, q4, by omega, fun z => ?_⟩
  rw [← z] at w2 q3
  omega
theorem WFc.pr (h : WFc N n ps root ia ib l r p) {e q : Nat} (he : N e) (hq : p e = some q) : N q ∧ (l q = some e ∧ r q ≠ some e ∨ r q = some e ∧ l q ≠ some e) ∧ e ≠ q ∧ ib q - ia q > ib e - ia e := by
  have h3 := h.2.2
  obtain ⟨w1, w2⟩ := (h3 e he).2.2.2.2.2.2.2.2 q hq
  obtain ⟨z1, z2, z3, _⟩ := h3 q w1
  rcases w2 with w | w
  · have k := h.lf w1 w
    refine ⟨w1, Or.inl ⟨w, fun z => ?_⟩, fun z => k.2.2.2.2.2 z.symm, by omega⟩
    have := h.rt w1 z
    omega
  · have k := h.rt w1 w
    refine ⟨w1, Or.inr ⟨w, fun z => ?_⟩, fun z => k.2.2.2.2.2 z.symm, by omega⟩
    have := h.lf w1 z
    omega
/-- the right child rises -/
theorem WFc.roL (h : WFc N n ps root ia ib l r p) {e j : Nat} (he : N e) (hj : r e = some j) : WFc N n ps (if p e = none then some j else root) (upd ia j (ia e)) (upd ib e (ps j)) (ro1 l p e j) (ro2 l r p e j) (ro3 l p e j) := by
  have hrt := h.rt he hj
  obtain ⟨j1, j2, j3, j4, j5, j6⟩ := hrt
  have h3 := h.2.2
  have e3 := h3 e he
  have f3 := h3 j j1
  have aj : ∀ m, m ≠ j → upd ia j (ia e) m = ia m := fun m z => upd_ne z
  have bj : ∀ m, m ≠ e → upd ib e (ps j) m = ib m := fun m z => upd_ne z
  have aj0 : upd ia j (ia e) j = ia e := upd_eq ..
  have bj0 : upd ib e (ps j) e = ps j := upd_eq ..
  -- the parent's place
  have pne : p e ≠ some j := fun z => by
    have := (h.pr he z).2.1
    rcases this with w | w
    · have := h.lf j1 w.1
      omega
    · have := h.rt j1 w.1
      omega
  have pee : p e ≠ some e := fun z => (h.pr he z).2.2.1 rfl
  refine ⟨fun z => ?_, fun x hx => ?_, fun m hm => ?_⟩
  · by_cases w : p e = none
    · rw [if_pos w] at z
      cases z
    · rw [if_neg w] at z
      exact h.1 z
  · by_cases w : p e = none
    · rw [if_pos w] at hx
      cases hx
      have hroot := e3.2.2.2.2.2.2.2.1 w
      obtain ⟨q1, q2, q3, q4⟩ := h.2.1 e hroot
      refine ⟨j1, by rw [aj0]; exact q2, by rw [bj j (fun z => j6 z.symm)]; omega, ?_⟩
      unfold ro3
      rw [if_neg (fun z => j6 z.symm), if_pos rfl]
      exact w
    · rw [if_neg w] at hx
      obtain ⟨q1, q2, q3, q4⟩ := h.2.1 x hx
      have xe : x ≠ e := fun z => w (by rw [← z]; exact q4)
      have xj : x ≠ j := fun z => by
        rw [z, j4] at q4
        cases q4
      refine ⟨q1, by rw [aj x xj]; exact q2, by rw [bj x xe]; exact q3, ?_⟩
      unfold ro3
      rw [if_neg xe, if_neg xj, if_neg (fun z => by
        have := (h.lf j1 z).2.2.2.1
        rw [q4] at this
        cases this)]
      exact q4
  · obtain ⟨m1, m2, m3, m4, m5, m6, m7, m8, m9⟩ := h3 m hm
    -- children keep or change their parents
    by_cases me : m = e
    · subst me
      have l1 : ro1 l p m j m = l m := by
        unfold ro1
        rw [if_neg j6, if_neg (fun z => pee z.1)]
      have r1 : ro2 l r p m j m = l j := if_pos rfl
      have p1 : ro3 l p m j m = some j := if_pos rfl
      have ll := ro1 l p m j j
      rw [l1, r1, p1, aj m j6, bj0]
      refine ⟨m1, j5, by omega, m4, fun x hx => ?_, fun z => ?_, fun x hx => ?_, (fun z => by cases z), fun q hq => ?_⟩
      · obtain ⟨x1, x2, x3, x4, x5, x6⟩ := h.lf hm hx
        have xj : x ≠ j := fun z => by
          rw [z] at x5
          omega
        refine ⟨x1, by rw [aj x xj]; exact x2, by rw [bj x (fun z => x6 z.symm)]; exact x3, ?_⟩
        unfold ro3
        rw [if_neg (fun z => x6 z.symm), if_neg xj, if_neg (fun z => by
          have := (h.lf j1 z).2.2.2.1
          rw [x4] at this
          cases this
          exact j6 rfl)]
        exact x4
      · have := f3.2.2.2.1 z
        omega
      · obtain ⟨x1, x2, x3, x4, x5, x6⟩ := h.lf j1 hx
        have xm : x ≠ m := fun z => by
          rw [z] at x2
          omega
        refine ⟨x1, by rw [aj x (fun z => x6 z.symm)]; omega, by rw [bj x xm]; exact x3, ?_⟩
        unfold ro3
        rw [if_neg xm, if_neg (fun z => x6 z.symm), if_pos hx]
      · cases hq
        refine ⟨j1, Or.inl ?_⟩
        exact if_pos rfl
    · by_cases mj : m = j
      · subst mj
        have l1 : ro1 l p e m m = some e := if_pos rfl
        have r1 : ro2 l r p e m m = r m := by
          unfold ro2
          rw [if_neg me, if_neg (fun z => pne z.1)]
        have p1 : ro3 l p e m m = p e := by
          unfold ro3
          rw [if_neg me, if_pos rfl]
        rw [l1, r1, p1, aj0, bj m me]
        refine ⟨by omega, m2, m3, (fun z => by cases z), fun x hx => ?_, m6, fun x hx => ?_, fun z => if_pos z, fun q hq => ?_⟩
        · cases hx
          refine ⟨he, aj e j6, bj0, if_pos rfl⟩
        · obtain ⟨x1, x2, x3, x4, x5, x6⟩ := h.rt hm hx
          have xe : x ≠ e := fun z => by
            rw [z] at x5
            omega
          refine ⟨x1, by rw [aj x (fun z => x6 z.symm)]; exact x2, by rw [bj x xe]; exact x3, ?_⟩
          unfold ro3
          rw [if_neg xe, if_neg (fun z => x6 z.symm), if_neg (fun z => by
            have := h.lf hm z
            omega)]
          exact x4
        · obtain ⟨z1, z2, z3, _⟩ := h.pr he hq
          refine ⟨z1, ?_⟩
          have qm : q ≠ m := fun z => pne (by rw [← z]; exact hq)
          have qe : q ≠ e := fun z => z3 z.symm
          rcases z2 with ⟨w, _⟩ | ⟨w, _⟩
          · refine Or.inl ?_
            unfold ro1
            rw [if_neg qm, if_pos ⟨hq, w⟩]
          · refine Or.inr ?_
            unfold ro2
            rw [if_neg qe, if_pos ⟨hq, w⟩]
      · -- the others
        have p0 : ∀ x, x ≠ e → p x = some m → ro3 l p e j x = some m := fun x xe hx => by
          have xj : x ≠ j := fun z => by
            rw [z, j4] at hx
            cases hx
            exact me rfl
          unfold ro3
          rw [if_neg xe, if_neg xj, if_neg (fun z => by
            have := (h.lf j1 z).2.2.2.1
            rw [hx] at this
            cases this
            exact mj rfl)]
          exact hx
        have chl : ∀ x, ro1 l p e j m = some x → N x ∧ upd ia j (ia e) x = ia m ∧ upd ib e (ps j) x = ps m ∧ ro3 l p e j x = some m := by
          intro x hx
          unfold ro1 at hx
          rw [if_neg mj] at hx
          by_cases w : p e = some m ∧ l m = some e
          · rw [if_pos w] at hx
            cases hx
            have k := h.lf hm w.2
            refine ⟨j1, by rw [aj0]; exact k.2.1, by rw [bj j (fun z => j6 z.symm)]; omega, ?_⟩
            unfold ro3
            rw [if_neg (fun z => j6 z.symm), if_pos rfl]
            exact w.1
          · rw [if_neg w] at hx
            have k := h.lf hm hx
            have xe : x ≠ e := fun z => w ⟨by rw [← z]; exact k.2.2.2.1, by rw [← z]; exact hx⟩
            have xj : x ≠ j := fun z => by
              have := k.2.2.2.1
              rw [z, j4] at this
              cases this
              exact me rfl
            exact ⟨k.1, by rw [aj x xj]; exact k.2.1, by rw [bj x xe]; exact k.2.2.1, p0 x xe k.2.2.2.1⟩
        have chr : ∀ x, ro2 l r p e j m = some x → N x ∧ upd ia j (ia e) x = ps m + 1 ∧ upd ib e (ps j) x = ib m ∧ ro3 l p e j x = some m := by
          intro x hx
          unfold ro2 at hx
          rw [if_neg me] at hx
          by_cases w : p e = some m ∧ r m = some e
          · rw [if_pos w] at hx
            cases hx
            have k := h.rt hm w.2
            refine ⟨j1, by rw [aj0]; exact k.2.1, by rw [bj j (fun z => j6 z.symm)]; omega, ?_⟩
            unfold ro3
            rw [if_neg (fun z => j6 z.symm), if_pos rfl]
            exact w.1
          · rw [if_neg w] at hx
            have k := h.rt hm hx
            have xe : x ≠ e := fun z => w ⟨by rw [← z]; exact k.2.2.2.1, by rw [← z]; exact hx⟩
            have xj : x ≠ j := fun z => by
              have := k.2.2.2.1
              rw [z, j4] at this
              cases this
              exact me rfl
            exact ⟨k.1, by rw [aj x xj]; exact k.2.1, by rw [bj x xe]; exact k.2.2.1, p0 x xe k.2.2.2.1⟩
        have nl : ro1 l p e j m = none → l m = none := fun z => by
          unfold ro1 at z
          rw [if_neg mj] at z
          by_cases w : p e = some m ∧ l m = some e
          · rw [if_pos w] at z
            cases z
          · rw [if_neg w] at z
            exact z
        have nr : ro2 l r p e j m = none → r m = none := fun z => by
          unfold ro2 at z
          rw [if_neg me] at z
          by_cases w : p e = some m ∧ r m = some e
          · rw [if_pos w] at z
            cases z
          · rw [if_neg w] at z
            exact z
        rw [aj m mj, bj m me]
        refine ⟨m1, m2, m3, fun z => m4 (nl z), chl, fun z => m6 (nr z), chr, fun z => ?_, fun q hq => ?_⟩
        · unfold ro3 at z
          rw [if_neg me, if_neg mj] at z
          by_cases w : l j = some m
          · rw [if_pos w] at z
            cases z
          · rw [if_neg w] at z
            have hr := m8 z
            by_cases w2 : p e = none
            · have := e3.2.2.2.2.2.2.2.1 w2
              rw [this] at hr
              cases hr
              exact absurd rfl me
            · rw [if_neg w2]
              exact hr
        · unfold ro3 at hq
          rw [if_neg me, if_neg mj] at hq
          by_cases w : l j = some m
          · rw [if_pos w] at hq
            cases hq
            refine ⟨he, Or.inr ?_⟩
            unfold ro2
            rw [if_pos rfl]
            exact w
          · rw [if_neg w] at hq
            obtain ⟨z1, z2, z3, _⟩ := h.pr hm hq
            refine ⟨z1, ?_⟩
            rcases z2 with ⟨y, _⟩ | ⟨y, _⟩
            · refine Or.inl ?_
              unfold ro1
              rw [if_neg (fun z => w (by rw [← z]; exact y)), if_neg (fun z => by
                have := z.2
                rw [y] at this
                cases this
                exact me rfl)]
              exact y
            · refine Or.inr ?_
              have qe : q ≠ e := fun z => by
                rw [z, hj] at y
                cases y
                exact mj rfl
              unfold ro2
              rw [if_neg qe, if_neg (fun z => by
                have := z.2
                rw [y] at this
                cases this
                exact me rfl)]
              exact y
theorem WFc.lt (h : WFc N n ps root ia ib l r p) {e : Nat} (he : N e) : ps e < n := by
  obtain ⟨_, _, h3⟩ := h
  have := h3 e he
  omega
/-- the left child rises -/
theorem WFc.roR (h : WFc N n ps root ia ib l r p) {e j : Nat} (he : N e) (hj : l e = some j) : ∃ ia' ib', WFc N n ps (if p e = none then some j else root) ia' ib' (ro2 r l p e j) (ro1 r p e j) (ro3 r p e j) := (h.mir.roL he hj).mir2 (fun _ hx => h.lt hx)
end
