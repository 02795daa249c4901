/-! L2: runs over an abstract memory, told by what they come to -/
def vR : Option Nat → Value
  | none => .null
  | some a => .ref a
theorem vR_cat (r : Option Nat) : (vR r).category = 1 := by cases r <;> rfl
theorem vR_fitO (r : Option Nat) {c : String} : fits (.object c) (vR r) = true := by cases r <;> rfl
theorem vR_fitA (r : Option Nat) {t : FieldType} : fits (.array t) (vR r) = true := by cases r <;> rfl
theorem vR_inj {r q : Option Nat} (h : vR r = vR q) : r = q := by cases r <;> cases q <;> first | rfl | cases h; rfl | cases h
abbrev lZ : Type := lO → lMem → Prop
/-- how an abstract memory tells of a memory -/
abbrev lAR : Type := lMem → lMem → Prop
theorem lGet_cons (k : Nat) (v : Value) (L : lL) (n : Nat) : lGet ((k, v) :: L) n = if k = n then some v else lGet L n := rfl
def lHas (lv L : lL) : Prop := ∀ n v, lGet L n = some v → lGet lv n = some v
def lSub (L L' : lL) : Prop := ∀ n v, lGet L' n = some v → lGet L n = some v
theorem lSb0 {L : lL} : lSub L [] := fun _ _ h => by cases h
theorem lSb {L L' : lL} {n : Nat} {v : Value} (h : lGet L n = some v) (k : lSub L L') : lSub L ((n, v) :: L') := by
  intro m w e
  rw [lGet_cons] at e
  split at e
  · rename_i e1
    cases e
    rw [← e1]
    exact h
  · exact k m w e
theorem lv_args_ge : ∀ (vs : List Value) (i : Nat) (p : Nat × Value), p ∈ lv_args i vs → i ≤ p.1 := by
  intro vs
  induction vs with
  | nil => intro i p h; cases h
  | cons v vs ih =>
    intro i p h
    unfold lv_args at h
    rcases List.mem_cons.mp h with rfl | h
    · exact Nat.le_refl _
    · have := ih _ p h
      split at this <;> omega
theorem lHas_rf (lv : lL) : lHas lv lv := fun _ _ h => h
theorem lGet_filter {lv : lL} {f : Nat × Value → Bool} {n : Nat} {v : Value} (h : lGet lv n = some v) (hf : f (n, v) = true) : lGet (lv.filter f) n = some v := by
  induction lv with
  | nil => cases h
  | cons q r ih =>
    unfold lGet at h
    split at h
    · rename_i e
      cases h
      have eq : q = (n, q.2) := by rw [← e]
      rw [List.filter_cons_of_pos (by rw [eq]; exact hf)]
      unfold lGet
      rw [if_pos e]
    · rename_i e
      by_cases hq : f q = true
      · rw [List.filter_cons_of_pos hq]
        unfold lGet
        rw [if_neg e]
        exact ih h
      · rw [List.filter_cons_of_neg hq]
        exact ih h
/-- the place before n isn't the first half of a long -/
def lN2 (L : lL) (n : Nat) : Prop := ∀ k v, k + 1 = n → lGet L k = some v → v.category = 1
theorem lN20 {L : lL} : lN2 L 0 := fun k v e => by omega
theorem lN2n {L : lL} {k : Nat} (h : lGet L k = none) : lN2 L (k + 1) := fun k' v e hv => by
  cases Nat.succ.inj e
  rw [h] at hv
  cases hv
theorem lN2s {L : lL} {k : Nat} {v : Value} (h : lGet L k = some v) (hc : v.category = 1) : lN2 L (k + 1) := fun k' w e hv => by
  cases Nat.succ.inj e
  rw [h] at hv
  cases hv
  exact hc
theorem lHas.s1 {lv L : lL} {n : Nat} {v : Value} (h : lHas lv L) (h2 : lN2 L n) : lHas (st1 n v lv) ((n, v) :: L) := by
  intro m w e
  rw [lGet_cons] at e
  unfold st1
  rw [lGet_cons]
  split at e
  · rename_i e1
    cases e
    rw [if_pos e1]
  · rename_i e1
    rw [if_neg e1]
    refine lGet_filter (h m w e) ?_
    have h3 : ¬ (m == n) = true := fun z => e1 (by rw [beq_iff_eq] at z; exact z.symm)
    have h4 : ((m == n) = false) := by simpa using h3
    by_cases h5 : m + 1 = n
    · have := h2 m w h5 e
      simp [h4, this]
    · have h6 : (m + 1 == n) = false := by simpa using h5
      simp [h4, h6]
theorem lHas.s2 {lv L : lL} {n : Nat} {v : Value} (h : lHas lv L) (h2 : lN2 L n) (h1 : lGet L (n + 1) = none) : lHas (st2 n v lv) ((n, v) :: L) := by
  intro m w e
  rw [lGet_cons] at e
  unfold st2
  rw [lGet_cons]
  split at e
  · rename_i e1
    cases e
    rw [if_pos e1]
  · rename_i e1
    rw [if_neg e1]
    refine lGet_filter (h m w e) ?_
    have h3 : ¬ (m == n) = true := fun z => e1 (by rw [beq_iff_eq] at z; exact z.symm)
    have h4 : ((m == n) = false) := by simpa using h3
    have h7 : (m == n + 1) = false := by
      cases hb : (m == n + 1) with
      | false => rfl
      | true =>
        rw [beq_iff_eq] at hb
        rw [hb, h1] at e
        cases e
    by_cases h5 : m + 1 = n
    · have := h2 m w h5 e
      simp [h4, h7, this]
    · have h6 : (m + 1 == n) = false := by simpa using h5
      simp [h4, h7, h6]
/-- what is owed of a relation: kinds from 1000 on are the abstract ones (their rest by 1000 is the real kind) -/
def lRok (R : lAR) : Prop :=
  (∀ (M A : lMem) (a : Nat) (w b : Bool) (ci : Nat) (fs : List Value), R M A → A.1 a = some (w, b, ci, fs) → ci < 1000 → ∃ w', M.1 a = some (w', b, ci, fs) ∧ (w = true → w' = true)) ∧
  (∀ (M A : lMem) (a : Nat) (w : Bool) (ci : Nat) (fs : List Value), R M A → A.1 a = some (w, false, ci, fs) → ∃ w' fs', M.1 a = some (w', false, ci % 1000, fs')) ∧
  (∀ (M A : lMem) (a : Nat) (b : Bool) (ci : Nat) (fs fs' : List Value), R M A → A.1 a = some (true, b, ci, fs) → ci < 1000 → fs'.length = fs.length → R (lUpd M.1 a (true, b, ci, fs'), M.2.1, M.2.2) (lUpd A.1 a (true, b, ci, fs'), A.2.1, A.2.2)) ∧
  (∀ (M A : lMem) (b : Bool) (ci : Nat) (fs : List Value), R M A → ci < 1000 → (b = false → raTab.contains (6, ci) = true) → A.1 M.2.1 = none ∧ R (lUpd M.1 M.2.1 (true, b, ci, fs), M.2.1 + 1, M.2.2 + fs.length) (lUpd A.1 M.2.1 (true, b, ci, fs), A.2.1 + 1, A.2.2 + fs.length))
/-- an object that may be thrown -/
def xK (A : lMem) (q : Nat) : Prop := ∃ (w : Bool) (ci : Nat) (fs : List Value), A.1 q = some (w, false, ci, fs) ∧ ci ≠ 0 ∧ ci < 1000
def lXk (A : lMem) : lO → Prop
  | .inl _ => True
  | .inr q => xK A q
def lQ (R : lAR) (E : lE) (D : Nat) (cd : List lI) (i : Nat) (L : lL) (stk : List Value) (A : lMem) (Z : lZ) : Prop :=
  ∀ lv M, lHas lv L → R M A → ∃ (fin : lF) (A' : lMem), lGo E prog D cd i (lv, stk, M) fin ∧ R fin.2 A' ∧ lXk A' fin.1 ∧ Z fin.1 A'
def lSQ (R : lAR) (E : lE) (D n : Nat) (args : List Value) (A : lMem) (Z : lZ) : Prop :=
  ∀ M, R M A → ∃ (fin : lF) (A' : lMem), lSp E prog D n args M fin ∧ R fin.2 A' ∧ lXk A' fin.1 ∧ Z fin.1 A'
theorem lSQ.mono {R : lAR} {E : lE} {D D' n : Nat} {args : List Value} {A : lMem} {Z Z' : lZ} (h : lSQ R E D n args A Z) (hD : D ≤ D') (hZ : ∀ o A', Z o A' → Z' o A') : lSQ R E D' n args A Z' := by
  intro M hM
  obtain ⟨fin, A', h1, h2, h3, h4⟩ := h M hM
  exact ⟨fin, A', h1.mono hD, h2, h3, hZ _ _ h4⟩
theorem lSQ.dp {R : lAR} {E : lE} {D D' n : Nat} {args : List Value} {A : lMem} {Z : lZ} (h : lSQ R E D n args A Z) (hD : D ≤ D') : lSQ R E D' n args A Z := h.mono hD (fun _ _ h => h)
/-- another abstract memory that tells of the same -/
theorem lSQ.weak {R : lAR} {E : lE} {D n : Nat} {args : List Value} {A B : lMem} {Z : lZ} (hw : ∀ M, R M A → R M B) (h : lSQ R E D n args B Z) : lSQ R E D n args A Z := fun M hM => h M (hw M hM)
/-! answers of a call -/
def cI (k : Int32 → lMem → Prop) (e : Nat → lMem → Prop) : lZ := fun o A => match o with
  | .inl (some (.int x)) => k x A
  | .inr q => e q A
  | _ => False
def cL (k : Int64 → lMem → Prop) (e : Nat → lMem → Prop) : lZ := fun o A => match o with
  | .inl (some (.long x)) => k x A
  | .inr q => e q A
  | _ => False
def cR (k : Option Nat → lMem → Prop) (e : Nat → lMem → Prop) : lZ := fun o A => match o with
  | .inl (some (.ref x)) => k (some x) A
  | .inl (some .null) => k none A
  | .inr q => e q A
  | _ => False
def cV (k : lMem → Prop) (e : Nat → lMem → Prop) : lZ := fun o A => match o with
  | .inl none => k A
  | .inr q => e q A
  | _ => False
theorem cR_vR {k : Option Nat → lMem → Prop} {e : Nat → lMem → Prop} {r : Option Nat} {A : lMem} : cR k e (.inl (some (vR r))) A = k r A := by cases r <;> rfl
/-! reads and writes -/
def gF (A : lMem) (tab : List (Nat × Nat)) (a : Nat) (v : Value) : Prop := ∃ (w : Bool) (ci k : Nat) (fs : List Value), A.1 a = some (w, false, ci, fs) ∧ ci < 1000 ∧ lLook tab ci = some k ∧ fs[k]? = some v
def pF (A : lMem) (tab : List (Nat × Nat)) (a : Nat) (v : Value) (K : lMem → Prop) : Prop := ∃ (ci k : Nat) (fs : List Value), A.1 a = some (true, false, ci, fs) ∧ ci < 1000 ∧ lLook tab ci = some k ∧ k < fs.length ∧ K (lUpd A.1 a (true, false, ci, fs.set k v), A.2.1, A.2.2)
def aW (A : lMem) (b : Bool) (ci : Nat) (fs : List Value) (K : Nat → lMem → Prop) : Prop := ∀ n, A.1 n = none → K n (lUpd A.1 n (true, b, ci, fs), A.2.1 + 1, A.2.2 + fs.length)
def gL (A : lMem) (a : Nat) (x : Int32) : Prop := ∃ (w : Bool) (t : Nat) (xs : List Value), A.1 a = some (w, true, t, xs) ∧ t < 1000 ∧ x = xs.length.toInt32
def gA (A : lMem) (ts : List Nat) (a : Nat) (n : Int32) (v : Value) : Prop := ∃ (w : Bool) (t : Nat) (xs : List Value), A.1 a = some (w, true, t, xs) ∧ t < 1000 ∧ ts.contains t = true ∧ ¬ n < 0 ∧ xs[n.toNatClampNeg]? = some v
def pA (A : lMem) (t a : Nat) (n : Int32) (v : Value) (K : lMem → Prop) : Prop := ∃ xs : List Value, A.1 a = some (true, true, t, xs) ∧ t < 1000 ∧ ¬ n < 0 ∧ n.toNatClampNeg < xs.length ∧ K (lUpd A.1 a (true, true, t, xs.set n.toNatClampNeg v), A.2.1, A.2.2)
def pB (A : lMem) (a : Nat) (n x : Int32) (K : lMem → Prop) : Prop := ∃ (t : Nat) (xs : List Value), A.1 a = some (true, true, t, xs) ∧ (t = 2 ∨ t = 3) ∧ ¬ n < 0 ∧ n.toNatClampNeg < xs.length ∧ K (lUpd A.1 a (true, true, t, xs.set n.toNatClampNeg (.int (if t = 2 then x.toInt8.toInt32 else x &&& 1))), A.2.1, A.2.2)
def kT (A : lMem) (tab : List (Nat × Nat)) (t : Nat) : Option Nat → Prop
  | none => tab.any (fun q => q.1 == t) = true
  | some v => ∃ (w : Bool) (ci : Nat) (fs : List Value), A.1 v = some (w, false, ci, fs) ∧ tab.contains (t, ci % 1000) = true
def pR (A : lMem) (tab : List (Nat × Nat)) (a : Nat) (n : Int32) (x : Option Nat) (K : lMem → Prop) : Prop := ∃ (t : Nat) (xs : List Value), A.1 a = some (true, true, t, xs) ∧ t < 1000 ∧ ¬ n < 0 ∧ n.toNatClampNeg < xs.length ∧ kT A tab t x ∧ K (lUpd A.1 a (true, true, t, xs.set n.toNatClampNeg (vR x)), A.2.1, A.2.2)
def kC (A : lMem) (tab : List Nat) (x : Option Nat) : Prop := ∀ a, x = some a → ∃ (w : Bool) (ci : Nat) (fs : List Value), A.1 a = some (w, false, ci, fs) ∧ tab.contains (ci % 1000) = true
def kA (A : lMem) (ts : List Nat) (x : Option Nat) : Prop := ∀ a, x = some a → ∃ (w : Bool) (t : Nat) (xs : List Value), A.1 a = some (w, true, t, xs) ∧ t < 1000 ∧ ts.contains t = true
def kN (A : lMem) (tab : List Nat) (x : Option Nat) (v : Int32) : Prop := match x with
  | none => v = 0
  | some a => v = 1 ∧ ∃ (w : Bool) (ci : Nat) (fs : List Value), A.1 a = some (w, false, ci, fs) ∧ tab.contains (ci % 1000) = true
def kV (A : lMem) (tab : List (Nat × Nat)) (b mi : Nat) : Prop := ∃ (w : Bool) (ci : Nat) (fs : List Value), A.1 b = some (w, false, ci, fs) ∧ lLook tab (ci % 1000) = some mi
def fL (E : lE) (A : lMem) (t1 t2 : List (Nat × Nat)) (q a : Nat) : Prop := ∃ (ci : Nat) (fs : List Value) (k kb : Nat), A.1 a = some (true, false, ci, fs) ∧ ci < 1000 ∧ lLook t1 ci = some k ∧ lLook t2 ci = some kb ∧ fs[k]? = some (E q) ∧ fs[kb]? = some .null ∧ (E q).isRef = true
def cP (A : lMem) (a0 : Nat) (sp : Int32) (a : Nat) (dp n : Int32) (K : lMem → Prop) : Prop := ∃ (w : Bool) (t0 : Nat) (xs : List Value) (t1 : Nat) (ys : List Value), A.1 a0 = some (w, true, t0, xs) ∧ A.1 a = some (true, true, t1, ys) ∧ t0 < 1000 ∧ t1 < 1000 ∧ ¬ n < 0 ∧ ¬ dp < 0 ∧ ¬ sp < 0 ∧ sp.toNatClampNeg + n.toNatClampNeg ≤ xs.length ∧ dp.toNatClampNeg + n.toNatClampNeg ≤ ys.length ∧
  ((t0 = t1 ∧ lPrm lPrims t1 ((xs.drop sp.toNatClampNeg).take n.toNatClampNeg) = true) ∨ (raTab.any (fun q => q.1 == t0) = true ∧ raTab.any (fun q => q.1 == t1) = true ∧ ∀ v ∈ (xs.drop sp.toNatClampNeg).take n.toNatClampNeg, ∃ x, v = vR x ∧ kT A raTab t1 x)) ∧
  K (lUpd A.1 a (true, true, t1, lSt ys dp.toNatClampNeg ((xs.drop sp.toNatClampNeg).take n.toNatClampNeg)), A.2.1, A.2.2)
theorem lSt_length : ∀ (zs ys : List Value) (p : Nat), (lSt ys p zs).length = ys.length := by
  intro zs
  induction zs with
  | nil => intro ys p; rfl
  | cons z zs ih =>
    intro ys p
    unfold lSt
    rw [ih, List.length_set]
theorem cat_le (v : Value) : v.category ≤ 2 := by cases v <;> exact Nat.le_of_ble_eq_true rfl
theorem cat_sum : ∀ (r : List Value), (r.map (fun v => v.category)).sum ≤ 2 * r.length := by
  intro r
  induction r with
  | nil => exact Nat.le_refl _
  | cons v r ih =>
    simp only [List.map_cons, List.sum_cons, List.length_cons]
    have := cat_le v
    omega
theorem cat_sum8 {r : List Value} (h : r.length ≤ 4) : (r.map (fun v => v.category)).sum ≤ 8 := by
  have := cat_sum r
  omega
/-! switches -/
def swAll (d : Nat) (x : Int32) : Int → List Nat → Prop
  | _, [] => True
  | lo, t :: ts => (t = d ∨ ¬ x.toInt = lo) ∧ swAll d x (lo + 1) ts
theorem swT_all {lo : Int} {ts : List Nat} {d : Nat} {x : Int32} (h : swAll d x lo ts) : swT lo ts d x = d := by
  unfold swT
  split
  · rfl
  · rename_i hlo
    have key : ∀ (ts : List Nat) (lo : Int), swAll d x lo ts → ¬ x.toInt < lo → (ts[(x.toInt - lo).toNat]?).getD d = d := by
      intro ts
      induction ts with
      | nil => intro lo _ _; rfl
      | cons t ts ih =>
        intro lo h hl
        by_cases e : x.toInt = lo
        · rcases h.1 with h1 | h1
          · rw [e, Int.sub_self]
            exact h1
          · exact absurd e h1
        · have e2 : (x.toInt - lo).toNat = (x.toInt - (lo + 1)).toNat + 1 := by omega
          rw [e2, List.getElem?_cons_succ]
          exact ih (lo + 1) h.2 (by omega)
    exact key ts lo h hlo
def swAllL (d : Nat) (x : Int32) : List (Int × Nat) → Prop
  | [] => True
  | p :: ps => (p.2 = d ∨ ¬ x.toInt = p.1) ∧ swAllL d x ps
theorem swL_all {ps : List (Int × Nat)} {d : Nat} {x : Int32} (h : swAllL d x ps) : swL ps d x = d := by
  induction ps with
  | nil => unfold swL; rfl
  | cons p ps ih =>
    unfold swL
    split
    · rename_i e
      rcases h.1 with h1 | h1
      · exact h1
      · exact absurd e.symm h1
    · exact ih h.2
section LQ
variable {R : lAR} {E : lE} {D : Nat} {cd : List lI} {i j : Nat} {L L' : lL} {stk stk' r : List Value} {A A' : lMem} {Z : lZ}
theorem lQ.sub (hs : lSub L L') (h : lQ R E D cd i L' stk A Z) : lQ R E D cd i L stk A Z := fun lv M hl hM => h lv M (fun n v e => hl n v (hs n v e)) hM
theorem lQ.weak {B : lMem} (hw : ∀ M, R M A → R M B) (h : lQ R E D cd i L stk B Z) : lQ R E D cd i L stk A Z := fun lv M hl hM => h lv M hl (hw M hM)
theorem lQ.sq {n nL : Nat} {args : List Value} (hp : prog n = some (lMk nL cd)) (hl : (lg_sl args).length ≤ nL) (hL : lv_args 0 args = L) (h : lQ R E D cd 0 L [] A Z) : lSQ R E (D + 1) n args A Z := by
  intro M hM
  obtain ⟨fin, A', h1, h2⟩ := h (lv_args 0 args) M (by rw [hL]; exact lHas_rf _) hM
  exact ⟨fin, A', lGo.sp hp hl h1, h2⟩
theorem lQ.step {ins : lI} (hi : cd[i]? = some ins) (hs : ∀ lv M, lHas lv L → R M A → ∃ lv' M', (∀ rec, ins E rec (lv, stk, M) = some (.inl (j, lv', stk', M'))) ∧ lHas lv' L' ∧ R M' A') (h : lQ R E D cd j L' stk' A' Z) : lQ R E D cd i L stk A Z := by
  intro lv M hl hM
  obtain ⟨lv', M', h1, h2, h3⟩ := hs lv M hl hM
  obtain ⟨fin, B, k1, k2⟩ := h lv' M' h2 h3
  exact ⟨fin, B, lGo.step hi h1 k1, k2⟩
theorem lQ.pu {p : lP} (hi : cd[i]? = some (aP p)) (hs : ∀ lv, lHas lv L → ∃ lv', p lv stk = some (j, lv', stk') ∧ lHas lv' L') (h : lQ R E D cd j L' stk' A Z) : lQ R E D cd i L stk A Z := by
  refine lQ.step hi (fun lv M hl hM => ?_) h
  obtain ⟨lv', e, hl'⟩ := hs lv hl
  refine ⟨lv', M, fun rec => ?_, hl', hM⟩
  show lMemI (lPm p) E rec (lv, stk, M) = _
  simp only [lMemI, lPm, e]
theorem lQ.push {v : Value} (hi : cd[i]? = some (aP (pPush v j))) (h : lQ R E D cd j L (v :: stk) A Z) : lQ R E D cd i L stk A Z := lQ.pu hi (fun lv hl => ⟨lv, rfl, hl⟩) h
theorem lQ.loadI {n : Nat} {x : Int32} (hi : cd[i]? = some (aP (pLoadI n j))) (hg : lGet L n = some (.int x)) (h : lQ R E D cd j L (.int x :: stk) A Z) : lQ R E D cd i L stk A Z := lQ.pu hi (fun lv hl => ⟨lv, by unfold pLoadI; rw [hl _ _ hg], hl⟩) h
theorem lQ.loadL {n : Nat} {x : Int64} (hi : cd[i]? = some (aP (pLoadL n j))) (hg : lGet L n = some (.long x)) (h : lQ R E D cd j L (.long x :: stk) A Z) : lQ R E D cd i L stk A Z := lQ.pu hi (fun lv hl => ⟨lv, by unfold pLoadL; rw [hl _ _ hg], hl⟩) h
theorem lQ.loadN {n a : Nat} (hi : cd[i]? = some (aP (pLoadA n j))) (hg : lGet L n = some (.ref a)) (h : lQ R E D cd j L (.ref a :: stk) A Z) : lQ R E D cd i L stk A Z := lQ.pu hi (fun lv hl => ⟨lv, by unfold pLoadA; rw [hl _ _ hg], hl⟩) h
theorem lQ.loadZ {n : Nat} (hi : cd[i]? = some (aP (pLoadA n j))) (hg : lGet L n = some .null) (h : lQ R E D cd j L (.null :: stk) A Z) : lQ R E D cd i L stk A Z := lQ.pu hi (fun lv hl => ⟨lv, by unfold pLoadA; rw [hl _ _ hg], hl⟩) h
theorem lQ.loadR {n : Nat} {x : Option Nat} (hi : cd[i]? = some (aP (pLoadA n j))) (hg : lGet L n = some (vR x)) (h : lQ R E D cd j L (vR x :: stk) A Z) : lQ R E D cd i L stk A Z := by
  cases x with
  | none => exact lQ.loadZ hi hg h
  | some a => exact lQ.loadN hi hg h
theorem lQ.stI {n : Nat} {x : Int32} (hi : cd[i]? = some (aP (pStI n j))) (h2 : lN2 L n) (h : lQ R E D cd j ((n, .int x) :: L) r A Z) : lQ R E D cd i L (.int x :: r) A Z := lQ.pu hi (fun lv hl => ⟨_, rfl, hl.s1 h2⟩) h
theorem lQ.stL {n : Nat} {x : Int64} (hi : cd[i]? = some (aP (pStL n j))) (h2 : lN2 L n) (h1 : lGet L (n + 1) = none) (h : lQ R E D cd j ((n, .long x) :: L) r A Z) : lQ R E D cd i L (.long x :: r) A Z := lQ.pu hi (fun lv hl => ⟨_, rfl, hl.s2 h2 h1⟩) h
theorem lQ.stN {n a : Nat} (hi : cd[i]? = some (aP (pStA n j))) (h2 : lN2 L n) (h : lQ R E D cd j ((n, .ref a) :: L) r A Z) : lQ R E D cd i L (.ref a :: r) A Z := lQ.pu hi (fun lv hl => ⟨_, rfl, hl.s1 h2⟩) h
theorem lQ.stZ {n : Nat} (hi : cd[i]? = some (aP (pStA n j))) (h2 : lN2 L n) (h : lQ R E D cd j ((n, .null) :: L) r A Z) : lQ R E D cd i L (.null :: r) A Z := lQ.pu hi (fun lv hl => ⟨_, rfl, hl.s1 h2⟩) h
theorem lQ.stR {n : Nat} {x : Option Nat} (hi : cd[i]? = some (aP (pStA n j))) (h2 : lN2 L n) (h : lQ R E D cd j ((n, vR x) :: L) r A Z) : lQ R E D cd i L (vR x :: r) A Z := by
  cases x with
  | none => exact lQ.stZ hi h2 h
  | some a => exact lQ.stN hi h2 h
theorem lQ.inc {n : Nat} {x z : Int32} (hi : cd[i]? = some (aP (pInc n z j))) (hg : lGet L n = some (.int x)) (h2 : lN2 L n) (h : lQ R E D cd j ((n, .int (x + z)) :: L) stk A Z) : lQ R E D cd i L stk A Z := lQ.pu hi (fun lv hl => ⟨st1 n (.int (x + z)) lv, by unfold pInc; rw [hl _ _ hg], hl.s1 h2⟩) h
theorem lQ.dec {n : Nat} {x z y : Int32} (hi : cd[i]? = some (aP (pInc n z j))) (hg : lGet L n = some (.int x)) (hz : x + z = y) (h2 : lN2 L n) (h : lQ R E D cd j ((n, .int y) :: L) stk A Z) : lQ R E D cd i L stk A Z := by
  subst hz
  exact lQ.inc hi hg h2 h
theorem lQ.unI {f : Int32 → Int32} {x : Int32} (hi : cd[i]? = some (aP (pUnI f j))) (h : lQ R E D cd j L (.int (f x) :: r) A Z) : lQ R E D cd i L (.int x :: r) A Z := lQ.pu hi (fun lv hl => ⟨lv, rfl, hl⟩) h
theorem lQ.unL {f : Int64 → Int64} {x : Int64} (hi : cd[i]? = some (aP (pUnL f j))) (h : lQ R E D cd j L (.long (f x) :: r) A Z) : lQ R E D cd i L (.long x :: r) A Z := lQ.pu hi (fun lv hl => ⟨lv, rfl, hl⟩) h
theorem lQ.binI {f : Int32 → Int32 → Int32} {x y : Int32} (hi : cd[i]? = some (aP (pBinI f j))) (h : lQ R E D cd j L (.int (f x y) :: r) A Z) : lQ R E D cd i L (.int y :: .int x :: r) A Z := lQ.pu hi (fun lv hl => ⟨lv, rfl, hl⟩) h
theorem lQ.binL {f : Int64 → Int64 → Int64} {x y : Int64} (hi : cd[i]? = some (aP (pBinL f j))) (h : lQ R E D cd j L (.long (f x y) :: r) A Z) : lQ R E D cd i L (.long y :: .long x :: r) A Z := lQ.pu hi (fun lv hl => ⟨lv, rfl, hl⟩) h
theorem lQ.shL {f : Int64 → Int32 → Int64} {x : Int64} {y : Int32} (hi : cd[i]? = some (aP (pShL f j))) (h : lQ R E D cd j L (.long (f x y) :: r) A Z) : lQ R E D cd i L (.int y :: .long x :: r) A Z := lQ.pu hi (fun lv hl => ⟨lv, rfl, hl⟩) h
theorem lQ.divI {f : Int32 → Int32 → Int32} {x y : Int32} (hi : cd[i]? = some (aP (pDivI f j))) (h0 : ¬ y = 0) (h : lQ R E D cd j L (.int (f x y) :: r) A Z) : lQ R E D cd i L (.int y :: .int x :: r) A Z := lQ.pu hi (fun lv hl => ⟨lv, by unfold pDivI; dsimp only; rw [if_neg h0], hl⟩) h
theorem lQ.divL {f : Int64 → Int64 → Int64} {x y : Int64} (hi : cd[i]? = some (aP (pDivL f j))) (h0 : ¬ y = 0) (h : lQ R E D cd j L (.long (f x y) :: r) A Z) : lQ R E D cd i L (.long y :: .long x :: r) A Z := lQ.pu hi (fun lv hl => ⟨lv, by unfold pDivL; dsimp only; rw [if_neg h0], hl⟩) h
theorem lQ.i2l {x : Int32} (hi : cd[i]? = some (aP (pI2L j))) (h : lQ R E D cd j L (.long x.toInt64 :: r) A Z) : lQ R E D cd i L (.int x :: r) A Z := lQ.pu hi (fun lv hl => ⟨lv, rfl, hl⟩) h
theorem lQ.l2i {x : Int64} (hi : cd[i]? = some (aP (pL2I j))) (h : lQ R E D cd j L (.int x.toInt32 :: r) A Z) : lQ R E D cd i L (.long x :: r) A Z := lQ.pu hi (fun lv hl => ⟨lv, rfl, hl⟩) h
theorem lQ.lcmp {x y : Int64} (hi : cd[i]? = some (aP (pLcmp j))) (h : lQ R E D cd j L (.int (lg_cmp x y) :: r) A Z) : lQ R E D cd i L (.long y :: .long x :: r) A Z := lQ.pu hi (fun lv hl => ⟨lv, rfl, hl⟩) h
theorem lQ.ifT {f : Int32 → Bool} {t : Nat} {x : Int32} (hi : cd[i]? = some (aP (pIf f t j))) (hc : f x = true) (h : lQ R E D cd t L r A Z) : lQ R E D cd i L (.int x :: r) A Z := lQ.pu hi (fun lv hl => ⟨lv, by simp only [pIf, hc, cond_true, cond_false], hl⟩) h
theorem lQ.ifF {f : Int32 → Bool} {t : Nat} {x : Int32} (hi : cd[i]? = some (aP (pIf f t j))) (hc : f x = false) (h : lQ R E D cd j L r A Z) : lQ R E D cd i L (.int x :: r) A Z := lQ.pu hi (fun lv hl => ⟨lv, by simp only [pIf, hc, cond_true, cond_false], hl⟩) h
theorem lQ.cmpT {f : Int32 → Int32 → Bool} {t : Nat} {x y : Int32} (hi : cd[i]? = some (aP (pCmp f t j))) (hc : f x y = true) (h : lQ R E D cd t L r A Z) : lQ R E D cd i L (.int y :: .int x :: r) A Z := lQ.pu hi (fun lv hl => ⟨lv, by simp only [pCmp, hc, cond_true, cond_false], hl⟩) h
theorem lQ.cmpF {f : Int32 → Int32 → Bool} {t : Nat} {x y : Int32} (hi : cd[i]? = some (aP (pCmp f t j))) (hc : f x y = false) (h : lQ R E D cd j L r A Z) : lQ R E D cd i L (.int y :: .int x :: r) A Z := lQ.pu hi (fun lv hl => ⟨lv, by simp only [pCmp, hc, cond_true, cond_false], hl⟩) h
theorem lQ.nulN {t a : Nat} (hi : cd[i]? = some (aP (pNul t j))) (h : lQ R E D cd j L r A Z) : lQ R E D cd i L (.ref a :: r) A Z := lQ.pu hi (fun lv hl => ⟨lv, rfl, hl⟩) h
theorem lQ.nulZ {t : Nat} (hi : cd[i]? = some (aP (pNul t j))) (h : lQ R E D cd t L r A Z) : lQ R E D cd i L (.null :: r) A Z := lQ.pu hi (fun lv hl => ⟨lv, rfl, hl⟩) h
theorem lQ.nulT {t : Nat} {x : Option Nat} (hi : cd[i]? = some (aP (pNul t j))) (h0 : x = none) (h : lQ R E D cd t L r A Z) : lQ R E D cd i L (vR x :: r) A Z := by
  subst h0
  exact lQ.nulZ hi h
theorem lQ.nulF {t : Nat} {x : Option Nat} (hi : cd[i]? = some (aP (pNul t j))) (h0 : ¬ x = none) (h : lQ R E D cd j L r A Z) : lQ R E D cd i L (vR x :: r) A Z := by
  cases x with
  | none => exact absurd rfl h0
  | some a => exact lQ.nulN hi h
theorem lQ.aeqT {t : Nat} {x y : Option Nat} (hi : cd[i]? = some (aP (pAeq t j))) (h0 : x = y) (h : lQ R E D cd t L r A Z) : lQ R E D cd i L (vR y :: vR x :: r) A Z := by
  subst h0
  refine lQ.pu hi (fun lv hl => ⟨lv, ?_, hl⟩) h
  cases x with
  | none => rfl
  | some a => simp [pAeq, vR]
theorem lQ.aeqF {t : Nat} {x y : Option Nat} (hi : cd[i]? = some (aP (pAeq t j))) (h0 : ¬ x = y) (h : lQ R E D cd j L r A Z) : lQ R E D cd i L (vR y :: vR x :: r) A Z := by
  refine lQ.pu hi (fun lv hl => ⟨lv, ?_, hl⟩) h
  cases x with
  | none =>
    cases y with
    | none => exact absurd rfl h0
    | some b => rfl
  | some a =>
    cases y with
    | none => rfl
    | some b =>
      have h1 : ¬ a = b := fun z => h0 (by rw [z])
      simp [pAeq, vR, h1]
theorem lQ.goto (hi : cd[i]? = some (aP (pGoto j))) (h : lQ R E D cd j L stk A Z) : lQ R E D cd i L stk A Z := lQ.pu hi (fun lv hl => ⟨lv, rfl, hl⟩) h
theorem lQ.sw {f : Int32 → Nat} {x : Int32} (hi : cd[i]? = some (aP (pSw f))) (hj : f x = j) (h : lQ R E D cd j L r A Z) : lQ R E D cd i L (.int x :: r) A Z := lQ.pu hi (fun lv hl => ⟨lv, by unfold pSw; dsimp only; rw [hj], hl⟩) h
theorem lQ.dup {v : Value} (hi : cd[i]? = some (aP (pDup j))) (hc : v.category = 1) (h : lQ R E D cd j L (v :: v :: r) A Z) : lQ R E D cd i L (v :: r) A Z := lQ.pu hi (fun lv hl => ⟨lv, by unfold pDup; dsimp only; rw [if_pos hc], hl⟩) h
theorem lQ.dupI {x : Int32} (hi : cd[i]? = some (aP (pDup j))) (h : lQ R E D cd j L (.int x :: .int x :: r) A Z) : lQ R E D cd i L (.int x :: r) A Z := lQ.dup hi rfl h
theorem lQ.dupN {x : Nat} (hi : cd[i]? = some (aP (pDup j))) (h : lQ R E D cd j L (.ref x :: .ref x :: r) A Z) : lQ R E D cd i L (.ref x :: r) A Z := lQ.dup hi rfl h
theorem lQ.dupZ (hi : cd[i]? = some (aP (pDup j))) (h : lQ R E D cd j L (.null :: .null :: r) A Z) : lQ R E D cd i L (.null :: r) A Z := lQ.dup hi rfl h
theorem lQ.dupR {x : Option Nat} (hi : cd[i]? = some (aP (pDup j))) (h : lQ R E D cd j L (vR x :: vR x :: r) A Z) : lQ R E D cd i L (vR x :: r) A Z := lQ.dup hi (vR_cat x) h
theorem lQ.pop {v : Value} (hi : cd[i]? = some (aP (pPop j))) (hc : v.category = 1) (h : lQ R E D cd j L r A Z) : lQ R E D cd i L (v :: r) A Z := lQ.pu hi (fun lv hl => ⟨lv, by unfold pPop; dsimp only; rw [if_pos hc], hl⟩) h
theorem lQ.popI {x : Int32} (hi : cd[i]? = some (aP (pPop j))) (h : lQ R E D cd j L r A Z) : lQ R E D cd i L (.int x :: r) A Z := lQ.pop hi rfl h
theorem lQ.popN {x : Nat} (hi : cd[i]? = some (aP (pPop j))) (h : lQ R E D cd j L r A Z) : lQ R E D cd i L (.ref x :: r) A Z := lQ.pop hi rfl h
theorem lQ.popZ (hi : cd[i]? = some (aP (pPop j))) (h : lQ R E D cd j L r A Z) : lQ R E D cd i L (.null :: r) A Z := lQ.pop hi rfl h
theorem lQ.popR {x : Option Nat} (hi : cd[i]? = some (aP (pPop j))) (h : lQ R E D cd j L r A Z) : lQ R E D cd i L (vR x :: r) A Z := lQ.pop hi (vR_cat x) h
theorem lQ.dupX1 {v w : Value} (hi : cd[i]? = some (aP (pDupX1 j))) (h1 : v.category = 1) (h2 : w.category = 1) (h : lQ R E D cd j L (v :: w :: v :: r) A Z) : lQ R E D cd i L (v :: w :: r) A Z := lQ.pu hi (fun lv hl => ⟨lv, by unfold pDupX1; dsimp only; rw [if_pos ⟨h1, h2⟩], hl⟩) h
theorem lQ.dup2 {v w : Value} (hi : cd[i]? = some (aP (pDup2G j))) (h1 : v.category = 1) (h2 : w.category = 1) (h : lQ R E D cd j L (v :: w :: v :: w :: r) A Z) : lQ R E D cd i L (v :: w :: r) A Z := lQ.pu hi (fun lv hl => ⟨lv, by unfold pDup2G pDup2; dsimp only; rw [if_neg (by rw [h1]; decide), if_pos ⟨h1, h2⟩], hl⟩) h
theorem lQ.dup2L {x : Int64} (hi : cd[i]? = some (aP (pDup2G j))) (h : lQ R E D cd j L (.long x :: .long x :: r) A Z) : lQ R E D cd i L (.long x :: r) A Z := lQ.pu hi (fun lv hl => ⟨lv, rfl, hl⟩) h
theorem lQ.me {h0 : lM} (hi : cd[i]? = some (aM h0)) (hs : ∀ lv M, lHas lv L → R M A → ∃ M', h0 E (lv, stk, M) = some (j, lv, stk', M') ∧ R M' A') (h : lQ R E D cd j L stk' A' Z) : lQ R E D cd i L stk A Z := by
  refine lQ.step hi (fun lv M hl hM => ?_) h
  obtain ⟨M', e, h1⟩ := hs lv M hl hM
  refine ⟨lv, M', fun rec => ?_, hl, h1⟩
  show lMemI h0 E rec (lv, stk, M) = _
  simp only [lMemI, e]
theorem lQ.get {tab : List (Nat × Nat)} {a : Nat} {v : Value} (hR : lRok R) (hi : cd[i]? = some (aM (fGet tab j))) (h0 : gF A tab a v) (h : lQ R E D cd j L (v :: r) A Z) : lQ R E D cd i L (.ref a :: r) A Z := by
  obtain ⟨w, ci, k, fs, h1, h2, h3, h4⟩ := h0
  refine lQ.me hi (fun lv M hl hM => ⟨M, ?_, hM⟩) h
  obtain ⟨w', k1, -⟩ := hR.1 M A a w false ci fs hM h1 h2
  simp only [fGet, k1, h3, h4]
theorem lQ.put {tab : List (Nat × Nat)} {ty : FieldType} {a : Nat} {v : Value} {K : lMem → Prop} (hR : lRok R) (hi : cd[i]? = some (aM (fPut tab ty j))) (hf : fits ty v = true) (h0 : pF A tab a v K) (h : ∀ A', K A' → lQ R E D cd j L r A' Z) : lQ R E D cd i L (v :: .ref a :: r) A Z := by
  obtain ⟨ci, k, fs, h1, h2, h3, h4, h5⟩ := h0
  refine lQ.me hi (fun lv M hl hM => ⟨(lUpd M.1 a (true, false, ci, fs.set k v), M.2.1, M.2.2), ?_, hR.2.2.1 M A a false ci fs _ hM h1 h2 (List.length_set ..)⟩) (h _ h5)
  obtain ⟨w', k1, k2⟩ := hR.1 M A a true false ci fs hM h1 h2
  rw [k2 rfl] at k1
  simp only [fPut, k1, h3]
  rw [if_pos ⟨h4, hf⟩]
theorem lQ.aw {ins : lI} {b : Bool} {ci : Nat} {fs : List Value} {K : Nat → lMem → Prop} (hR : lRok R) (hi : cd[i]? = some ins) (hc : ci < 1000) (h6 : b = false → raTab.contains (6, ci) = true) (hs : ∀ lv M rec, R M A → ins E rec (lv, stk, M) = some (.inl (j, lv, .ref M.2.1 :: stk', lUpd M.1 M.2.1 (true, b, ci, fs), M.2.1 + 1, M.2.2 + fs.length))) (h0 : aW A b ci fs K) (h : ∀ n A', K n A' → lQ R E D cd j L (.ref n :: stk') A' Z) : lQ R E D cd i L stk A Z := by
  intro lv M hl hM
  obtain ⟨h1, h2⟩ := hR.2.2.2 M A b ci fs hM hc h6
  obtain ⟨fin, B, k1, k2⟩ := h _ _ (h0 M.2.1 h1) lv _ hl h2
  exact ⟨fin, B, lGo.step hi (fun rec => hs lv M rec hM) k1, k2⟩
theorem lQ.new {ci : Nat} {fs : List Value} {K : Nat → lMem → Prop} (hR : lRok R) (hi : cd[i]? = some (aM (fNew ci fs j))) (hc : ci < 1000) (h0 : aW A false ci fs K) (h : ∀ n A', K n A' → lQ R E D cd j L (.ref n :: stk) A' Z) (h6 : raTab.contains (6, ci) = true := by decide) : lQ R E D cd i L stk A Z := lQ.aw hR hi hc (fun _ => h6) (fun lv M rec _ => rfl) h0 h
theorem lQ.newa {t : Nat} {dv : Value} {n : Int32} {K : Nat → lMem → Prop} (hR : lRok R) (hi : cd[i]? = some (aM (fNewa t dv j))) (hc : t < 1000) (h1 : ¬ n < 0) (h2 : n.toNatClampNeg ≤ 1000000) (h0 : aW A true t (List.replicate n.toNatClampNeg dv) K) (h : ∀ n A', K n A' → lQ R E D cd j L (.ref n :: r) A' Z) : lQ R E D cd i L (.int n :: r) A Z := by
  refine lQ.aw hR hi hc (fun z => by cases z) (fun lv M rec _ => ?_) h0 h
  show lMemI (fNewa t dv j) E rec _ = _
  simp only [lMemI, fNewa, List.length_replicate]
  rw [if_neg (fun z => z.elim h1 (fun z => absurd z (Nat.not_lt.mpr h2)))]
theorem lQ.len {a : Nat} {x : Int32} (hR : lRok R) (hi : cd[i]? = some (aM (fLen j))) (h0 : gL A a x) (h : lQ R E D cd j L (.int x :: r) A Z) : lQ R E D cd i L (.ref a :: r) A Z := by
  obtain ⟨w, t, xs, h1, h2, rfl⟩ := h0
  refine lQ.me hi (fun lv M hl hM => ⟨M, ?_, hM⟩) h
  obtain ⟨w', k1, -⟩ := hR.1 M A a w true t xs hM h1 h2
  simp only [fLen, k1]
theorem lQ.ald {ts : List Nat} {a : Nat} {n : Int32} {v : Value} (hR : lRok R) (hi : cd[i]? = some (aM (fAld ts j))) (h0 : gA A ts a n v) (h : lQ R E D cd j L (v :: r) A Z) : lQ R E D cd i L (.int n :: .ref a :: r) A Z := by
  obtain ⟨w, t, xs, h1, h2, h3, h4, h5⟩ := h0
  refine lQ.me hi (fun lv M hl hM => ⟨M, ?_, hM⟩) h
  obtain ⟨w', k1, -⟩ := hR.1 M A a w true t xs hM h1 h2
  simp only [fAld, k1]
  rw [if_pos ⟨h3, h4⟩, h5]
theorem lQ.ast {t a : Nat} {f : Int32 → Int32} {n x : Int32} {K : lMem → Prop} (hR : lRok R) (hi : cd[i]? = some (aM (fAst t f j))) (h0 : pA A t a n (.int (f x)) K) (h : ∀ A', K A' → lQ R E D cd j L r A' Z) : lQ R E D cd i L (.int x :: .int n :: .ref a :: r) A Z := by
  obtain ⟨xs, h1, h2, h3, h4, h5⟩ := h0
  refine lQ.me hi (fun lv M hl hM => ⟨(lUpd M.1 a (true, true, t, xs.set n.toNatClampNeg (.int (f x))), M.2.1, M.2.2), ?_, hR.2.2.1 M A a true t xs _ hM h1 h2 (List.length_set ..)⟩) (h _ h5)
  obtain ⟨w', k1, k2⟩ := hR.1 M A a true true t xs hM h1 h2
  rw [k2 rfl] at k1
  simp only [fAst, k1]
  rw [if_pos ⟨trivial, h3, h4⟩]
theorem lQ.bst {a : Nat} {n x : Int32} {K : lMem → Prop} (hR : lRok R) (hi : cd[i]? = some (aM (fBst 2 3 j))) (h0 : pB A a n x K) (h : ∀ A', K A' → lQ R E D cd j L r A' Z) : lQ R E D cd i L (.int x :: .int n :: .ref a :: r) A Z := by
  obtain ⟨t, xs, h1, h2, h3, h4, h5⟩ := h0
  have ht : t < 1000 := by omega
  refine lQ.me hi (fun lv M hl hM => ⟨(lUpd M.1 a (true, true, t, xs.set n.toNatClampNeg (.int (if t = 2 then x.toInt8.toInt32 else x &&& 1))), M.2.1, M.2.2), ?_, hR.2.2.1 M A a true t xs _ hM h1 ht (List.length_set ..)⟩) (h _ h5)
  obtain ⟨w', k1, k2⟩ := hR.1 M A a true true t xs hM h1 ht
  rw [k2 rfl] at k1
  rcases h2 with rfl | rfl
  · simp only [fBst, fAst, k1]
    rw [if_pos trivial, if_pos ⟨trivial, h3, h4⟩]
    rfl
  · simp only [fBst, fAst, k1]
    rw [if_neg (by decide), if_pos ⟨trivial, h3, h4⟩]
    rfl
theorem lQ.lst {t a : Nat} {n : Int32} {x : Int64} {K : lMem → Prop} (hR : lRok R) (hi : cd[i]? = some (aM (fLst t j))) (h0 : pA A t a n (.long x) K) (h : ∀ A', K A' → lQ R E D cd j L r A' Z) : lQ R E D cd i L (.long x :: .int n :: .ref a :: r) A Z := by
  obtain ⟨xs, h1, h2, h3, h4, h5⟩ := h0
  refine lQ.me hi (fun lv M hl hM => ⟨(lUpd M.1 a (true, true, t, xs.set n.toNatClampNeg (.long x)), M.2.1, M.2.2), ?_, hR.2.2.1 M A a true t xs _ hM h1 h2 (List.length_set ..)⟩) (h _ h5)
  obtain ⟨w', k1, k2⟩ := hR.1 M A a true true t xs hM h1 h2
  rw [k2 rfl] at k1
  simp only [fLst, k1]
  rw [if_pos ⟨trivial, h3, h4⟩]
theorem lQ.rst {tab : List (Nat × Nat)} {a : Nat} {n : Int32} {x : Option Nat} {K : lMem → Prop} (hR : lRok R) (hi : cd[i]? = some (aM (fRst tab j))) (h0 : pR A tab a n x K) (h : ∀ A', K A' → lQ R E D cd j L r A' Z) : lQ R E D cd i L (vR x :: .int n :: .ref a :: r) A Z := by
  obtain ⟨t, xs, h1, h2, h3, h4, h5, h6⟩ := h0
  refine lQ.me hi (fun lv M hl hM => ⟨(lUpd M.1 a (true, true, t, xs.set n.toNatClampNeg (vR x)), M.2.1, M.2.2), ?_, hR.2.2.1 M A a true t xs _ hM h1 h2 (List.length_set ..)⟩) (h _ h6)
  obtain ⟨w', k1, k2⟩ := hR.1 M A a true true t xs hM h1 h2
  rw [k2 rfl] at k1
  cases x with
  | none =>
    simp only [fRst, vR, k1]
    rw [if_pos ⟨h5, h3, h4⟩]
  | some v =>
    obtain ⟨w2, ci, fs, q1, q2⟩ := h5
    obtain ⟨w3, fs3, q3⟩ := hR.2.1 M A v w2 ci fs hM q1
    simp only [fRst, vR, k1, q3]
    rw [if_pos ⟨q2, h3, h4⟩]
theorem lQ.env {q : Nat} {v : Value} (hi : cd[i]? = some (aM (fEnv q j))) (h0 : E q = v) (h : lQ R E D cd j L (v :: stk) A Z) : lQ R E D cd i L stk A Z := lQ.me hi (fun lv M hl hM => ⟨M, by simp only [fEnv, h0], hM⟩) h
theorem lQ.cast {tab : List Nat} {x : Option Nat} (hR : lRok R) (hi : cd[i]? = some (aM (fCast tab j))) (h0 : kC A tab x) (h : lQ R E D cd j L (vR x :: r) A Z) : lQ R E D cd i L (vR x :: r) A Z := by
  refine lQ.me hi (fun lv M hl hM => ⟨M, ?_, hM⟩) h
  cases x with
  | none => rfl
  | some a =>
    obtain ⟨w, ci, fs, h1, h2⟩ := h0 a rfl
    obtain ⟨w', fs', k1⟩ := hR.2.1 M A a w ci fs hM h1
    simp only [fCast, vR, k1]
    rw [if_pos h2]
theorem lQ.castZ {tab : List Nat} (hi : cd[i]? = some (aM (fCast tab j))) (h : lQ R E D cd j L (.null :: r) A Z) : lQ R E D cd i L (.null :: r) A Z := lQ.me hi (fun lv M hl hM => ⟨M, rfl, hM⟩) h
theorem lQ.castA {ts : List Nat} {x : Option Nat} (hR : lRok R) (hi : cd[i]? = some (aM (fCastA ts j))) (h0 : kA A ts x) (h : lQ R E D cd j L (vR x :: r) A Z) : lQ R E D cd i L (vR x :: r) A Z := by
  refine lQ.me hi (fun lv M hl hM => ⟨M, ?_, hM⟩) h
  cases x with
  | none => rfl
  | some a =>
    obtain ⟨w, t, xs, h1, h2, h3⟩ := h0 a rfl
    obtain ⟨w', k1, -⟩ := hR.1 M A a w true t xs hM h1 h2
    simp only [fCastA, vR, k1]
    rw [if_pos h3]
theorem lQ.inst {tab : List Nat} {x : Option Nat} {v : Int32} (hR : lRok R) (hi : cd[i]? = some (aM (fInst tab j))) (h0 : kN A tab x v) (h : lQ R E D cd j L (.int v :: r) A Z) : lQ R E D cd i L (vR x :: r) A Z := by
  refine lQ.me hi (fun lv M hl hM => ⟨M, ?_, hM⟩) h
  cases x with
  | none => cases h0; rfl
  | some a =>
    obtain ⟨rfl, w, ci, fs, h1, h2⟩ := h0
    obtain ⟨w', fs', k1⟩ := hR.2.1 M A a w ci fs hM h1
    simp only [fInst, vR, k1]
    rw [if_pos h2]
theorem lQ.getC {ts : List Nat} {q a b : Nat} (hR : lRok R) (hi : cd[i]? = some (aM (fGetC ts q j))) (h0 : E q = .ref b) (h1 : kA A ts (some a)) (hr : r.length ≤ 4) (h : lQ R E D cd j L (.ref b :: r) A Z) : lQ R E D cd i L (.ref a :: r) A Z := by
  refine lQ.me hi (fun lv M hl hM => ⟨M, ?_, hM⟩) h
  obtain ⟨w, t, xs, k1, k2, k3⟩ := h1 a rfl
  obtain ⟨w', k4, -⟩ := hR.1 M A a w true t xs hM k1 k2
  simp only [fGetC, k4]
  rw [if_pos ⟨k3, cat_sum8 hr⟩, h0]
theorem lQ.clone {t a : Nat} {w : Bool} {xs : List Value} {ty : FieldType} {K : Nat → lMem → Prop} (hR : lRok R) (hi : cd[i]? = some (aM (fClone t ty j))) (hc : t < 1000) (h1 : A.1 a = some (w, true, t, xs)) (h2 : xs.all (fun v => fits ty v) = true) (hr : r.length ≤ 4) (h0 : aW A true t xs K) (h : ∀ n A', K n A' → lQ R E D cd j L (.ref n :: r) A' Z) : lQ R E D cd i L (.ref a :: r) A Z := by
  refine lQ.aw hR hi hc (fun z => by cases z) (fun lv M rec hM => ?_) h0 h
  obtain ⟨w', k1, -⟩ := hR.1 M A a w true t xs hM h1 hc
  show lMemI (fClone t ty j) E rec _ = _
  simp only [lMemI, fClone, k1]
  rw [if_pos ⟨trivial, h2, cat_sum8 hr⟩]
theorem lQ.fill {t1 t2 : List (Nat × Nat)} {q a : Nat} (hR : lRok R) (hi : cd[i]? = some (aM (fFill t1 t2 q j))) (h0 : fL E A t1 t2 q a) (hr : r.length ≤ 4) (h : lQ R E D cd j L (.ref a :: r) A Z) : lQ R E D cd i L (.ref a :: r) A Z := by
  obtain ⟨ci, fs, k, kb, h1, h2, h3, h4, h5, h6, h7⟩ := h0
  refine lQ.me hi (fun lv M hl hM => ⟨M, ?_, hM⟩) h
  obtain ⟨w', k1, k2⟩ := hR.1 M A a true false ci fs hM h1 h2
  rw [k2 rfl] at k1
  simp only [fFill, k1, h3, h4]
  rw [if_pos ⟨h5, h6, h7, cat_sum8 hr⟩]
theorem lQ.obj {a : Nat} (hi : cd[i]? = some (fObj j)) (hr : r.length ≤ 4) (h : lQ R E D cd j L r A Z) : lQ R E D cd i L (.ref a :: r) A Z := by
  refine lQ.step hi (fun lv M hl hM => ⟨lv, M, fun rec => ?_, hl, hM⟩) h
  simp only [fObj]
  rw [if_pos (cat_sum8 hr)]
theorem lInA_of {M A : lMem} (hR : lRok R) (hM : R M A) {t : Nat} {x : Option Nat} (h : kT A raTab t x) : lInA M.1 raTab t (vR x) = true := by
  cases x with
  | none => exact h
  | some v =>
    obtain ⟨w, ci, fs, h1, h2⟩ := h
    obtain ⟨w', fs', k1⟩ := hR.2.1 M A v w ci fs hM h1
    simp only [lInA, vR, k1]
    exact h2
theorem lQ.copy {a0 a : Nat} {sp dp n : Int32} {K : lMem → Prop} (hR : lRok R) (hi : cd[i]? = some (aM (fCopy lPrims raTab j))) (hr : r.length ≤ 4) (h0 : cP A a0 sp a dp n K) (h : ∀ A', K A' → lQ R E D cd j L r A' Z) : lQ R E D cd i L (.int n :: .int dp :: .ref a :: .int sp :: .ref a0 :: r) A Z := by
  obtain ⟨w, t0, xs, t1, ys, h1, h2, h3, h4, h5, h6, h7, h8, h9, h10, h11⟩ := h0
  refine lQ.me hi (fun lv M hl hM => ⟨(lUpd M.1 a (true, true, t1, lSt ys dp.toNatClampNeg ((xs.drop sp.toNatClampNeg).take n.toNatClampNeg)), M.2.1, M.2.2), ?_, hR.2.2.1 M A a true t1 ys _ hM h2 h4 (lSt_length ..)⟩) (h _ h11)
  obtain ⟨w', k1, -⟩ := hR.1 M A a0 w true t0 xs hM h1 h3
  obtain ⟨w2, k2, k3⟩ := hR.1 M A a true true t1 ys hM h2 h4
  rw [k3 rfl] at k2
  have h12 : (t0 = t1 ∧ lPrm lPrims t1 ((xs.drop sp.toNatClampNeg).take n.toNatClampNeg) = true) ∨ (raTab.any (fun q => q.1 == t0) = true ∧ raTab.any (fun q => q.1 == t1) = true ∧ ((xs.drop sp.toNatClampNeg).take n.toNatClampNeg).all (lInA M.1 raTab t1) = true) := by
    rcases h10 with h10 | ⟨q1, q2, q3⟩
    · exact Or.inl h10
    · refine Or.inr ⟨q1, q2, List.all_eq_true.mpr (fun v hv => ?_)⟩
      obtain ⟨x, rfl, hx⟩ := q3 v hv
      exact lInA_of hR hM hx
  simp only [fCopy, k1, k2]
  rw [if_pos ⟨h5, h6, h7, h8, h9, cat_sum8 hr, h12⟩]
/-! returns, throws, calls -/
theorem lQ.fin {ins : lI} {o : lO} (hi : cd[i]? = some ins) (hs : ∀ lv M rec, R M A → ins E rec (lv, stk, M) = some (.inr (o, M))) (hk : lXk A o) (h : Z o A) : lQ R E D cd i L stk A Z := fun lv M hl hM => ⟨(o, M), A, lGo.done hi (fun rec => hs lv M rec hM), hM, hk, h⟩
theorem lQ.retI {ty : FieldType} {x : Int32} (hi : cd[i]? = some (fRetI ty)) (hf : fits ty (.int x) = true) (h : Z (.inl (some (.int x))) A) : lQ R E D cd i L [.int x] A Z := lQ.fin (o := .inl (some (.int x))) hi (fun lv M rec _ => by simp only [fRetI]; rw [if_pos hf]) trivial h
theorem lQ.retL {x : Int64} (hi : cd[i]? = some fRetL) (h : Z (.inl (some (.long x))) A) : lQ R E D cd i L [.long x] A Z := lQ.fin (o := .inl (some (.long x))) hi (fun lv M rec _ => rfl) trivial h
theorem lQ.retN {x : Nat} (hi : cd[i]? = some fRetA) (h : Z (.inl (some (.ref x))) A) : lQ R E D cd i L [.ref x] A Z := lQ.fin (o := .inl (some (.ref x))) hi (fun lv M rec _ => rfl) trivial h
theorem lQ.retZ (hi : cd[i]? = some fRetA) (h : Z (.inl (some .null)) A) : lQ R E D cd i L [.null] A Z := lQ.fin (o := .inl (some .null)) hi (fun lv M rec _ => rfl) trivial h
theorem lQ.retR {x : Option Nat} (hi : cd[i]? = some fRetA) (h : Z (.inl (some (vR x))) A) : lQ R E D cd i L [vR x] A Z := by
  cases x with
  | none => exact lQ.retZ hi h
  | some a => exact lQ.retN hi h
theorem lQ.retV (hi : cd[i]? = some fRetV) (h : Z (.inl none) A) : lQ R E D cd i L [] A Z := lQ.fin (o := .inl none) hi (fun lv M rec _ => rfl) trivial h
theorem lQ.thr {a : Nat} (hR : lRok R) (hi : cd[i]? = some (fThrow hdOut)) (hk : xK A a) (h : Z (.inr a) A) : lQ R E D cd i L (.ref a :: r) A Z := by
  refine lQ.fin (o := .inr a) hi (fun lv M rec hM => ?_) hk h
  obtain ⟨w, ci, fs, h1, h2, h3⟩ := hk
  obtain ⟨w', k1, -⟩ := hR.1 M A a w false ci fs hM h1 h3
  simp only [fThrow, lThrow, k1]
  rw [if_neg h2]
/-- what handlers make of a thrown object -/
def lHq (R : lAR) (E : lE) (D : Nat) (cd : List lI) (hd : lHd) (L : lL) (q : Nat) (A : lMem) (Z : lZ) : Prop := ∃ (w : Bool) (ci : Nat) (fs : List Value), A.1 q = some (w, false, ci, fs) ∧ ci ≠ 0 ∧ ci < 1000 ∧ ((hd ci = some none ∧ Z (.inr q) A) ∨ ∃ t, hd ci = some (some t) ∧ lQ R E D cd t L [.ref q] A Z)
theorem lHq.go {hd : lHd} {q : Nat} (hR : lRok R) (h : lHq R E D cd hd L q A Z) {lv : lL} {M : lMem} (hl : lHas lv L) (hM : R M A) : ∃ r : lR, lThrow hd lv q M = some r ∧ ∃ (fin : lF) (A' : lMem), (match r with
    | .inl x => lGo E prog D cd x.1 x.2 fin
    | .inr f => f = fin) ∧ R fin.2 A' ∧ lXk A' fin.1 ∧ Z fin.1 A' := by
  obtain ⟨w, ci, fs, h1, h2, h3, h4⟩ := h
  obtain ⟨w', k1, -⟩ := hR.1 M A q w false ci fs hM h1 h3
  rcases h4 with ⟨h4, h5⟩ | ⟨t, h4, h5⟩
  · refine ⟨.inr (.inr q, M), ?_, (.inr q, M), A, rfl, hM, ⟨w, ci, fs, h1, h2, h3⟩, h5⟩
    simp only [lThrow, k1]
    rw [if_neg h2, h4]
  · obtain ⟨fin, B, q1, q2⟩ := h5 lv M hl hM
    refine ⟨.inl (t, lv, [.ref q], M), ?_, fin, B, q1, q2⟩
    simp only [lThrow, k1]
    rw [if_neg h2, h4]
theorem lQ.thrH {hd : lHd} {a : Nat} (hR : lRok R) (hi : cd[i]? = some (fThrow hd)) (h : lHq R E D cd hd L a A Z) : lQ R E D cd i L (.ref a :: r) A Z := by
  intro lv M hl hM
  obtain ⟨res, h1, fin, B, h2, h3⟩ := h.go hR hl hM
  have e : ∀ rec, fThrow hd E rec (lv, .ref a :: r, M) = some res := fun rec => by simp only [fThrow]; exact h1
  cases res with
  | inl x => exact ⟨fin, B, lGo.step hi (j := x.1) (st' := x.2) e h2, h3⟩
  | inr f =>
    cases h2
    exact ⟨_, B, lGo.done hi e, h3⟩
def lHx (R : lAR) (E : lE) (D : Nat) (cd : List lI) (hd : lHd) (L : lL) (G : Nat → lMem → Prop) (Z : lZ) : Prop := ∀ q A, xK A q → G q A → lHq R E D cd hd L q A Z
theorem lHx.out : lHx R E D cd hdOut L (fun q A => Z (.inr q) A) Z := by
  intro q A hk h
  obtain ⟨w, ci, fs, h1, h2, h3⟩ := hk
  exact ⟨w, ci, fs, h1, h2, h3, Or.inl ⟨rfl, h⟩⟩
theorem lQ.callG {hd : lHd} {n mi D' : Nat} {args : List Value} {Zc : lZ} (hR : lRok R) (hi : cd[i]? = some (fCall hd n mi j)) (hs : stk = args.reverse ++ r) (hn : args.length = n) (hr : r.length ≤ 4) (hD : D' ≤ D) (hc : lSQ R E D' mi args A Zc) (hk : ∀ v A', Zc (.inl v) A' → lQ R E D cd j L (v.toList ++ r) A' Z) (hx : lHx R E D cd hd L (fun q A => Zc (.inr q) A) Z) : lQ R E D cd i L stk A Z := by
  intro lv M hl hM
  subst hs
  have e1 : ((args.reverse ++ r).take n).reverse = args := by rw [List.take_left' (by rw [List.length_reverse]; exact hn), List.reverse_reverse]
  have e2 : (args.reverse ++ r).drop n = r := List.drop_left' (by rw [List.length_reverse]; exact hn)
  have hn' : n ≤ (args.reverse ++ r).length ∧ (((args.reverse ++ r).drop n).map (fun v => v.category)).sum ≤ 8 := ⟨by rw [List.length_append, List.length_reverse, hn]; omega, by rw [e2]; exact cat_sum8 hr⟩
  obtain ⟨⟨o, M1⟩, A1, h1, h2, h3, h4⟩ := hc M hM
  have h1 := h1.mono hD
  rw [← e1] at h1
  cases o with
  | inl v =>
    obtain ⟨fin, B, k1, k2⟩ := hk v A1 h4 lv M1 hl h2
    rw [← e2] at k1
    exact ⟨fin, B, lGo.call hi hn' h1 k1, k2⟩
  | inr q =>
    obtain ⟨res, k1, fin, B, k2, k3⟩ := (hx q A1 h3 h4).go hR hl h2
    cases res with
    | inl x => exact ⟨fin, B, lGo.callX hi hn' h1 k1 k2, k3⟩
    | inr x => exact ⟨fin, B, lGo.callX hi hn' h1 k1 k2, k3⟩
theorem lQ.callVG {hd : lHd} {n mi D' b : Nat} {args : List Value} {tab : List (Nat × Nat)} {Zc : lZ} (hR : lRok R) (hi : cd[i]? = some (fCallV hd n tab j)) (hs : stk = args.reverse ++ r) (hn : args.length = n + 1) (hr : r.length ≤ 4) (hD : D' ≤ D) (ha : args.head? = some (.ref b)) (hV : kV A tab b mi) (hc : lSQ R E D' mi args A Zc) (hk : ∀ v A', Zc (.inl v) A' → lQ R E D cd j L (v.toList ++ r) A' Z) (hx : lHx R E D cd hd L (fun q A => Zc (.inr q) A) Z) : lQ R E D cd i L stk A Z := by
  intro lv M hl hM
  subst hs
  have e1 : ((args.reverse ++ r).take (n + 1)).reverse = args := by rw [List.take_left' (by rw [List.length_reverse]; exact hn), List.reverse_reverse]
  have e2 : (args.reverse ++ r).drop (n + 1) = r := List.drop_left' (by rw [List.length_reverse]; exact hn)
  have hn' : n + 1 ≤ (args.reverse ++ r).length ∧ (((args.reverse ++ r).drop (n + 1)).map (fun v => v.category)).sum ≤ 8 := ⟨by rw [List.length_append, List.length_reverse, hn]; omega, by rw [e2]; exact cat_sum8 hr⟩
  have hb : (args.reverse ++ r)[n]? = some (.ref b) := by
    rw [List.getElem?_append_left (by rw [List.length_reverse]; omega), List.getElem?_reverse (by omega), show args.length - 1 - n = 0 by omega, ← List.head?_eq_getElem?]
    exact ha
  obtain ⟨w, ci, fs, v1, v2⟩ := hV
  obtain ⟨w', fs', v3⟩ := hR.2.1 M A b w ci fs hM v1
  obtain ⟨⟨o, M1⟩, A1, h1, h2, h3, h4⟩ := hc M hM
  have h1 := h1.mono hD
  rw [← e1] at h1
  cases o with
  | inl v =>
    obtain ⟨fin, B, k1, k2⟩ := hk v A1 h4 lv M1 hl h2
    rw [← e2] at k1
    exact ⟨fin, B, lGo.callV hi hb v3 v2 hn' h1 k1, k2⟩
  | inr q =>
    obtain ⟨res, k1, fin, B, k2, k3⟩ := (hx q A1 h3 h4).go hR hl h2
    cases res with
    | inl x => exact ⟨fin, B, lGo.callVX hi hb v3 v2 hn' h1 k1 k2, k3⟩
    | inr x => exact ⟨fin, B, lGo.callVX hi hb v3 v2 hn' h1 k1 k2, k3⟩
theorem cI_in {F : Int32 → lMem → Prop} {G : Nat → lMem → Prop} {v : Option Value} {A : lMem} (h : cI F G (.inl v) A) : ∃ x, v = some (.int x) ∧ F x A := by
  unfold cI at h
  split at h
  · rename_i x e
    cases e
    exact ⟨x, rfl, h⟩
  · rename_i e
    cases e
  · exact h.elim
theorem cL_in {F : Int64 → lMem → Prop} {G : Nat → lMem → Prop} {v : Option Value} {A : lMem} (h : cL F G (.inl v) A) : ∃ x, v = some (.long x) ∧ F x A := by
  unfold cL at h
  split at h
  · rename_i x e
    cases e
    exact ⟨x, rfl, h⟩
  · rename_i e
    cases e
  · exact h.elim
theorem cR_in {F : Option Nat → lMem → Prop} {G : Nat → lMem → Prop} {v : Option Value} {A : lMem} (h : cR F G (.inl v) A) : ∃ x, v = some (vR x) ∧ F x A := by
  unfold cR at h
  split at h
  · rename_i x e
    cases e
    exact ⟨some x, rfl, h⟩
  · rename_i e
    cases e
    exact ⟨none, rfl, h⟩
  · rename_i e
    cases e
  · exact h.elim
theorem cV_in {F : lMem → Prop} {G : Nat → lMem → Prop} {v : Option Value} {A : lMem} (h : cV F G (.inl v) A) : v = none ∧ F A := by
  unfold cV at h
  split at h
  · rename_i e
    cases e
    exact ⟨rfl, h⟩
  · rename_i e
    cases e
  · exact h.elim
variable {hd : lHd} {n mi D' : Nat} {args : List Value} {G : Nat → lMem → Prop}
theorem lQ.callI {F : Int32 → lMem → Prop} (hR : lRok R) (hi : cd[i]? = some (fCall hd n mi j)) (hs : stk = args.reverse ++ r) (hn : args.length = n) (hr : r.length ≤ 4) (hD : D' ≤ D) (hc : lSQ R E D' mi args A (cI F G)) (hk : ∀ x A', F x A' → lQ R E D cd j L (.int x :: r) A' Z) (hx : lHx R E D cd hd L G Z) : lQ R E D cd i L stk A Z := by
  refine lQ.callG hR hi hs hn hr hD hc (fun v A' h => ?_) hx
  obtain ⟨x, rfl, h⟩ := cI_in h
  exact hk x A' h
theorem lQ.callL {F : Int64 → lMem → Prop} (hR : lRok R) (hi : cd[i]? = some (fCall hd n mi j)) (hs : stk = args.reverse ++ r) (hn : args.length = n) (hr : r.length ≤ 4) (hD : D' ≤ D) (hc : lSQ R E D' mi args A (cL F G)) (hk : ∀ x A', F x A' → lQ R E D cd j L (.long x :: r) A' Z) (hx : lHx R E D cd hd L G Z) : lQ R E D cd i L stk A Z := by
  refine lQ.callG hR hi hs hn hr hD hc (fun v A' h => ?_) hx
  obtain ⟨x, rfl, h⟩ := cL_in h
  exact hk x A' h
theorem lQ.callR {F : Option Nat → lMem → Prop} (hR : lRok R) (hi : cd[i]? = some (fCall hd n mi j)) (hs : stk = args.reverse ++ r) (hn : args.length = n) (hr : r.length ≤ 4) (hD : D' ≤ D) (hc : lSQ R E D' mi args A (cR F G)) (hk : ∀ x A', F x A' → lQ R E D cd j L (vR x :: r) A' Z) (hx : lHx R E D cd hd L G Z) : lQ R E D cd i L stk A Z := by
  refine lQ.callG hR hi hs hn hr hD hc (fun v A' h => ?_) hx
  obtain ⟨x, e, h1⟩ := cR_in h
  subst e
  exact hk x A' h1
theorem lQ.callV {F : lMem → Prop} (hR : lRok R) (hi : cd[i]? = some (fCall hd n mi j)) (hs : stk = args.reverse ++ r) (hn : args.length = n) (hr : r.length ≤ 4) (hD : D' ≤ D) (hc : lSQ R E D' mi args A (cV F G)) (hk : ∀ A', F A' → lQ R E D cd j L r A' Z) (hx : lHx R E D cd hd L G Z) : lQ R E D cd i L stk A Z := by
  refine lQ.callG hR hi hs hn hr hD hc (fun v A' h => ?_) hx
  obtain ⟨rfl, h⟩ := cV_in h
  exact hk A' h
variable {tab : List (Nat × Nat)} {b : Nat}
theorem lQ.callVI {F : Int32 → lMem → Prop} (hR : lRok R) (hi : cd[i]? = some (fCallV hd n tab j)) (hs : stk = args.reverse ++ r) (hn : args.length = n + 1) (hr : r.length ≤ 4) (hD : D' ≤ D) (ha : args.head? = some (.ref b)) (hV : kV A tab b mi) (hc : lSQ R E D' mi args A (cI F G)) (hk : ∀ x A', F x A' → lQ R E D cd j L (.int x :: r) A' Z) (hx : lHx R E D cd hd L G Z) : lQ R E D cd i L stk A Z := by
  refine lQ.callVG hR hi hs hn hr hD ha hV hc (fun v A' h => ?_) hx
  obtain ⟨x, rfl, h⟩ := cI_in h
  exact hk x A' h
theorem lQ.callVL {F : Int64 → lMem → Prop} (hR : lRok R) (hi : cd[i]? = some (fCallV hd n tab j)) (hs : stk = args.reverse ++ r) (hn : args.length = n + 1) (hr : r.length ≤ 4) (hD : D' ≤ D) (ha : args.head? = some (.ref b)) (hV : kV A tab b mi) (hc : lSQ R E D' mi args A (cL F G)) (hk : ∀ x A', F x A' → lQ R E D cd j L (.long x :: r) A' Z) (hx : lHx R E D cd hd L G Z) : lQ R E D cd i L stk A Z := by
  refine lQ.callVG hR hi hs hn hr hD ha hV hc (fun v A' h => ?_) hx
  obtain ⟨x, rfl, h⟩ := cL_in h
  exact hk x A' h
theorem lQ.callVR {F : Option Nat → lMem → Prop} (hR : lRok R) (hi : cd[i]? = some (fCallV hd n tab j)) (hs : stk = args.reverse ++ r) (hn : args.length = n + 1) (hr : r.length ≤ 4) (hD : D' ≤ D) (ha : args.head? = some (.ref b)) (hV : kV A tab b mi) (hc : lSQ R E D' mi args A (cR F G)) (hk : ∀ x A', F x A' → lQ R E D cd j L (vR x :: r) A' Z) (hx : lHx R E D cd hd L G Z) : lQ R E D cd i L stk A Z := by
  refine lQ.callVG hR hi hs hn hr hD ha hV hc (fun v A' h => ?_) hx
  obtain ⟨x, e, h1⟩ := cR_in h
  subst e
  exact hk x A' h1
theorem lQ.callVV {F : lMem → Prop} (hR : lRok R) (hi : cd[i]? = some (fCallV hd n tab j)) (hs : stk = args.reverse ++ r) (hn : args.length = n + 1) (hr : r.length ≤ 4) (hD : D' ≤ D) (ha : args.head? = some (.ref b)) (hV : kV A tab b mi) (hc : lSQ R E D' mi args A (cV F G)) (hk : ∀ A', F A' → lQ R E D cd j L r A' Z) (hx : lHx R E D cd hd L G Z) : lQ R E D cd i L stk A Z := by
  refine lQ.callVG hR hi hs hn hr hD ha hV hc (fun v A' h => ?_) hx
  obtain ⟨rfl, h⟩ := cV_in h
  exact hk A' h
end LQ
theorem cI_mk {F : Int32 → lMem → Prop} {G : Nat → lMem → Prop} {x : Int32} {A : lMem} (h : F x A) : cI F G (.inl (some (.int x))) A := h
theorem cL_mk {F : Int64 → lMem → Prop} {G : Nat → lMem → Prop} {x : Int64} {A : lMem} (h : F x A) : cL F G (.inl (some (.long x))) A := h
theorem cV_mk {F : lMem → Prop} {G : Nat → lMem → Prop} {A : lMem} (h : F A) : cV F G (.inl none) A := h
theorem fitB {v : Int32} (h : v = 0 ∨ v = 1) : fits .boolean (.int v) = true := by rcases h with rfl | rfl <;> rfl
