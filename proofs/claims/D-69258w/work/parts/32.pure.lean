/-! THE SHADOW MACHINE (L1): a pure functional picture of the run, and its soundness over the kit's W.
A cell (w, k, i, xs): w: it may be written (it is new); k false: an object of the i-th kind with fields xs; k true: an array of the i-th element type with elements xs. Memory: heap, size, slots used. -/
abbrev lCell : Type := Bool × Bool × Nat × List Value
abbrev lHeap : Type := Nat → Option lCell
abbrev lMem : Type := lHeap × Nat × Nat
/-- values of statics and constants of the start, by number -/
abbrev lE : Type := Nat → Value
/-- the fixed things of a run: kinds of objects, element types of arrays, the kinds' numbers and slots in the machine, the start's state, the first new address, the start's heap, the values of statics; addresses of texts, statics and their values, kinds that don't fit, mirrors -/
abbrev lG : Type := (List vw_C × List FieldType) × va_G × State × (Nat × Heap) × lE × (String → Nat → Nat) × (String → String → String → Value → Prop) × (String → String → Prop) × (String → Nat)
abbrev lcl (g : lG) : List vw_C := g.1.1
abbrev lty (g : lG) : List FieldType := g.1.2
abbrev lD (g : lG) : va_G := g.2.1
abbrev lU (g : lG) : State := g.2.2.1
/-- the machine's array kind c has elements of the t-th type -/
def lar (g : lG) (t : Nat) (c : ClassId) : Prop := ∃ (ty : FieldType) (k : Class) (comp : ClassId), (lty g)[t]? = some ty ∧ (lU g).vm.classes[c]? = some k ∧ k.kind = .array comp ty ∧ (∀ E, ty = .object E → (lU g).vm.findClass E = some comp) ∧ (t < 10 → (lU g).vm.findClass ("[" ++ ty.toString) = some c)
abbrev lba (g : lG) : Nat := g.2.2.2.1.1
abbrev lh0 (g : lG) : Heap := g.2.2.2.1.2
abbrev lev (g : lG) : lE := g.2.2.2.2.1
abbrev lsa (g : lG) : String → Nat → Nat := g.2.2.2.2.2.1
abbrev lst (g : lG) : String → String → String → Value → Prop := g.2.2.2.2.2.2.1
abbrev lnc (g : lG) : String → String → Prop := g.2.2.2.2.2.2.2.1
abbrev lmi (g : lG) : String → Nat := g.2.2.2.2.2.2.2.2
abbrev lL : Type := List (Nat × Value)
abbrev lS : Type := lL × List Value × lMem
/-- returned a value (or none), or threw the object at an address -/
abbrev lO : Type := Option Value ⊕ Nat
abbrev lF : Type := lO × lMem
abbrev lRec : Type := Nat → List Value → lMem → Option lF
abbrev lR : Type := (Nat × lS) ⊕ lF
abbrev lI : Type := lE → lRec → lS → Option lR
def lGet : lL → Nat → Option Value
  | [], _ => none
  | q :: r, i => if q.1 = i then some q.2 else lGet r i
theorem lGet_mem {l : lL} {i : Nat} {v : Value} (h : lGet l i = some v) : (i, v) ∈ l := by
  induction l with
  | nil => cases h
  | cons q r ih =>
    unfold lGet at h
    split at h
    · rename_i e
      cases h
      subst e
      exact List.mem_cons_self
    · exact List.mem_cons_of_mem _ (ih h)
theorem lGet_has {ls : Array Slot} {nL : Nat} {l : lL} {i : Nat} {v : Value} (h : lv_has ls nL l) (e : lGet l i = some v) : ls[i]? = some (.val v) := h.2.2 (i, v) (lGet_mem e)
/-- a pure instruction: what it makes of locals and stack, and where it goes -/
abbrev lP : Type := lL → List Value → Option (Nat × lL × List Value)
def lPure (h : lP) : lI := fun _ _ st => match h st.1 st.2.1 with
  | some (j, l, k) => some (.inl (j, l, k, st.2.2))
  | none => none
def st1 (i : Nat) (v : Value) (l : lL) : lL := (i, v) :: l.filter (fun q => !(q.1 == i) && !(q.1 + 1 == i && q.2.category == 2))
def st2 (i : Nat) (v : Value) (l : lL) : lL := (i, v) :: l.filter (fun q => !(q.1 == i) && (!(q.1 == i + 1) && !(q.1 + 1 == i && q.2.category == 2)))
/-- where a pure instruction stands and what it owes -/
def lOkP (own : String) (cc : ByteArray) (nL : Nat) (pc : Nat → Nat) (i : Nat) (h : lP) : Prop :=
  ∀ (p : Program) (l : Launch) (e : Env) (R : Room) (s : State) (m : MethodId) (args : Array Value) (below : List Frame) (meth : Method) (c : Code) (H : Heap) (locs : List Loc) (cells slots : Nat) (Q : State → Prop) (ls : Array Slot) (lv : lL) (st : List Value) (j : Nat) (lv' : lL) (st' : List Value),
    p.tables.exec = Jvm.exec → c.code = cc → s.vm.findClass own = some m.cls → (∀ w ∈ lw_all, w.before args s = true) → h lv st = some (j, lv', st') → lv_has ls nL lv →
    (∀ ls' : Array Slot, lv_has ls' nL lv' → W p l e R s m args below meth c H locs cells slots Q (F0 m (pc j) ls' st')) → W p l e R s m args below meth c H locs cells slots Q (F0 m (pc i) ls st)
section LPure
variable {own : String} {cc : ByteArray} {nL : Nat} {pc : Nat → Nat} {i j : Nat}
def pPush (v : Value) (j : Nat) : lP := fun l st => some (j, l, v :: st)
def pLoadI (n j : Nat) : lP := fun l st => match lGet l n with | some (.int x) => some (j, l, .int x :: st) | _ => none
def pLoadL (n j : Nat) : lP := fun l st => match lGet l n with | some (.long x) => some (j, l, .long x :: st) | _ => none
def pLoadA (n j : Nat) : lP := fun l st => match lGet l n with | some (.ref x) => some (j, l, .ref x :: st) | some .null => some (j, l, .null :: st) | _ => none
def pStI (n j : Nat) : lP := fun l st => match st with | .int x :: r => some (j, st1 n (.int x) l, r) | _ => none
def pStL (n j : Nat) : lP := fun l st => match st with | .long x :: r => some (j, st2 n (.long x) l, r) | _ => none
def pStA (n j : Nat) : lP := fun l st => match st with | .ref x :: r => some (j, st1 n (.ref x) l, r) | .null :: r => some (j, st1 n .null l, r) | _ => none
def pInc (n : Nat) (z : Int32) (j : Nat) : lP := fun l st => match lGet l n with | some (.int x) => some (j, st1 n (.int (x + z)) l, st) | _ => none
def pUnI (f : Int32 → Int32) (j : Nat) : lP := fun l st => match st with | .int x :: r => some (j, l, .int (f x) :: r) | _ => none
def pBinI (f : Int32 → Int32 → Int32) (j : Nat) : lP := fun l st => match st with | .int y :: .int x :: r => some (j, l, .int (f x y) :: r) | _ => none
def pDivI (f : Int32 → Int32 → Int32) (j : Nat) : lP := fun l st => match st with | .int y :: .int x :: r => if y = 0 then none else some (j, l, .int (f x y) :: r) | _ => none
def pUnL (f : Int64 → Int64) (j : Nat) : lP := fun l st => match st with | .long x :: r => some (j, l, .long (f x) :: r) | _ => none
def pBinL (f : Int64 → Int64 → Int64) (j : Nat) : lP := fun l st => match st with | .long y :: .long x :: r => some (j, l, .long (f x y) :: r) | _ => none
def pDivL (f : Int64 → Int64 → Int64) (j : Nat) : lP := fun l st => match st with | .long y :: .long x :: r => if y = 0 then none else some (j, l, .long (f x y) :: r) | _ => none
def pShL (f : Int64 → Int32 → Int64) (j : Nat) : lP := fun l st => match st with | .int y :: .long x :: r => some (j, l, .long (f x y) :: r) | _ => none
def pI2L (j : Nat) : lP := fun l st => match st with | .int x :: r => some (j, l, .long x.toInt64 :: r) | _ => none
def pL2I (j : Nat) : lP := fun l st => match st with | .long x :: r => some (j, l, .int x.toInt32 :: r) | _ => none
def pLcmp (j : Nat) : lP := fun l st => match st with | .long y :: .long x :: r => some (j, l, .int (lg_cmp x y) :: r) | _ => none
def pIf (f : Int32 → Bool) (t j : Nat) : lP := fun l st => match st with | .int x :: r => some (cond (f x) t j, l, r) | _ => none
def pCmp (f : Int32 → Int32 → Bool) (t j : Nat) : lP := fun l st => match st with | .int y :: .int x :: r => some (cond (f x y) t j, l, r) | _ => none
def lRf : Value → Option (Option Nat)
  | .ref a => some (some a)
  | .null => some none
  | _ => none
def pAeq (t j : Nat) : lP := fun l st => match st with | .ref y :: .ref x :: r => some (cond (decide (x = y)) t j, l, r) | .ref _ :: .null :: r => some (j, l, r) | .null :: .ref _ :: r => some (j, l, r) | .null :: .null :: r => some (t, l, r) | _ => none
def pNul (t j : Nat) : lP := fun l st => match st with | .ref _ :: r => some (j, l, r) | .null :: r => some (t, l, r) | _ => none
def pGoto (t : Nat) : lP := fun l st => some (t, l, st)
def pDup (j : Nat) : lP := fun l st => match st with | a :: r => if a.category = 1 then some (j, l, a :: a :: r) else none | _ => none
def pPop (j : Nat) : lP := fun l st => match st with | a :: r => if a.category = 1 then some (j, l, r) else none | _ => none
def pDupX1 (j : Nat) : lP := fun l st => match st with | a :: b :: r => if a.category = 1 ∧ b.category = 1 then some (j, l, a :: b :: a :: r) else none | _ => none
def pDup2 (j : Nat) : lP := fun l st => match st with | a :: b :: r => if a.category = 1 ∧ b.category = 1 then some (j, l, a :: b :: a :: b :: r) else none | _ => none
def pDup2G (j : Nat) : lP := fun l st => match st with | a :: r => (if a.category = 2 then some (j, l, a :: a :: r) else pDup2 j l st) | _ => none
def pDup2L (j : Nat) : lP := fun l st => match st with | a :: r => if a.category = 2 then some (j, l, a :: a :: r) else none | _ => none
def pPop2L (j : Nat) : lP := fun l st => match st with | a :: r => if a.category = 2 then some (j, l, r) else none | _ => none
def pSw (f : Int32 → Nat) : lP := fun l st => match st with | .int x :: r => some (f x, l, r) | _ => none
theorem ok_iconst {n : Int} {v : Int32} (hd : decode cc (pc i) = .ok (.iconst n, 1)) (hv : Int32.ofInt n = v) (hj : pc j = pc i + 1) : lOkP own cc nL pc i (pPush (.int v) j) := by
  intro p l e R s m args below meth c H locs cells slots Q ls lv st j' lv' st' hx hb hown hts h hl k
  cases h
  refine lv_iconst hx hb hd hv ?_
  rw [← hj]
  exact k ls hl
theorem ok_bipush {n : Int} {v : Int32} (hd : decode cc (pc i) = .ok (.bipush n, 2)) (hv : (Int8.ofInt n).toInt32 = v) (hj : pc j = pc i + 2) : lOkP own cc nL pc i (pPush (.int v) j) := by
  intro p l e R s m args below meth c H locs cells slots Q ls lv st j' lv' st' hx hb hown hts h hl k
  cases h
  refine lv_bipush hx hb hd hv ?_
  rw [← hj]
  exact k ls hl
theorem ok_sipush {n : Int} {v : Int32} (hd : decode cc (pc i) = .ok (.sipush n, 3)) (hv : (Int16.ofInt n).toInt32 = v) (hj : pc j = pc i + 3) : lOkP own cc nL pc i (pPush (.int v) j) := by
  intro p l e R s m args below meth c H locs cells slots Q ls lv st j' lv' st' hx hb hown hts h hl k
  cases h
  refine lv_sipush hx hb hd hv ?_
  rw [← hj]
  exact k ls hl
theorem ok_lconst {n : Fin 2} {v : Int64} (hd : decode cc (pc i) = .ok (.lconst n, 1)) (hv : Int64.ofNat (n : Nat) = v) (hj : pc j = pc i + 1) : lOkP own cc nL pc i (pPush (.long v) j) := by
  intro p l e R s m args below meth c H locs cells slots Q ls lv st j' lv' st' hx hb hown hts h hl k
  cases h
  refine lv_lconst hx hb hd hv ?_
  rw [← hj]
  exact k ls hl
theorem ok_null (hd : decode cc (pc i) = .ok (.aconst_null, 1)) (hj : pc j = pc i + 1) : lOkP own cc nL pc i (pPush (.null) j) := by
  intro p l e R s m args below meth c H locs cells slots Q ls lv st j' lv' st' hx hb hown hts h hl k
  cases h
  refine lv_null hx hb hd ?_
  rw [← hj]
  exact k ls hl
theorem ok_ldc {index : Nat} {v : Int32} (hd : decode cc (pc i) = .ok (.ldc index, 2)) (hc : Jvm.Cond.constant own index v ∈ lw_all) (hj : pc j = pc i + 2) : lOkP own cc nL pc i (pPush (.int v) j) := by
  intro p l e R s m args below meth c H locs cells slots Q ls lv st j' lv' st' hx hb hown hts h hl k
  cases h
  refine lv_ldc hx hb hown (hts _ hc) hd ?_
  rw [← hj]
  exact k ls hl
theorem ok_ldcw {index : Nat} {v : Int32} (hd : decode cc (pc i) = .ok (.ldc_w index, 3)) (hc : Jvm.Cond.constant own index v ∈ lw_all) (hj : pc j = pc i + 3) : lOkP own cc nL pc i (pPush (.int v) j) := by
  intro p l e R s m args below meth c H locs cells slots Q ls lv st j' lv' st' hx hb hown hts h hl k
  cases h
  refine lv_ldcw hx hb hown (hts _ hc) hd ?_
  rw [← hj]
  exact k ls hl
theorem ok_ldc2 {index : Nat} {v : Int64} (hd : decode cc (pc i) = .ok (.ldc2_w index, 3)) (hc : Jvm.Cond.constantLong own index v ∈ lw_all) (hj : pc j = pc i + 3) : lOkP own cc nL pc i (pPush (.long v) j) := by
  intro p l e R s m args below meth c H locs cells slots Q ls lv st j' lv' st' hx hb hown hts h hl k
  cases h
  refine lv_ldc2 hx hb hown (hts _ hc) hd ?_
  rw [← hj]
  exact k ls hl
theorem ok_iload_n {n : Fin 4} {v : Nat} (hd : decode cc (pc i) = .ok (.iload_n n, 1)) (hn : (n : Nat) = v) (hj : pc j = pc i + 1) : lOkP own cc nL pc i (pLoadI v j) := by
  intro p l e R s m args below meth c H locs cells slots Q ls lv st j' lv' st' hx hb hown hts h hl k
  unfold pLoadI at h
  split at h
  · rename_i e
    cases h
    refine lv_iload_n hx hb hd hn (lGet_has hl e) ?_
    rw [← hj]
    exact k ls hl
  · cases h
theorem ok_iload {v : Nat} (hd : decode cc (pc i) = .ok (.iload v, 2)) (hj : pc j = pc i + 2) : lOkP own cc nL pc i (pLoadI v j) := by
  intro p l e R s m args below meth c H locs cells slots Q ls lv st j' lv' st' hx hb hown hts h hl k
  unfold pLoadI at h
  split at h
  · rename_i e
    cases h
    refine lv_iload hx hb hd (lGet_has hl e) ?_
    rw [← hj]
    exact k ls hl
  · cases h
theorem ok_lload_n {n : Fin 4} {v : Nat} (hd : decode cc (pc i) = .ok (.lload_n n, 1)) (hn : (n : Nat) = v) (hj : pc j = pc i + 1) : lOkP own cc nL pc i (pLoadL v j) := by
  intro p l e R s m args below meth c H locs cells slots Q ls lv st j' lv' st' hx hb hown hts h hl k
  unfold pLoadL at h
  split at h
  · rename_i e
    cases h
    refine lv_lload_n hx hb hd hn (lGet_has hl e) ?_
    rw [← hj]
    exact k ls hl
  · cases h
theorem ok_lload {v : Nat} (hd : decode cc (pc i) = .ok (.lload v, 2)) (hj : pc j = pc i + 2) : lOkP own cc nL pc i (pLoadL v j) := by
  intro p l e R s m args below meth c H locs cells slots Q ls lv st j' lv' st' hx hb hown hts h hl k
  unfold pLoadL at h
  split at h
  · rename_i e
    cases h
    refine lv_lload hx hb hd (lGet_has hl e) ?_
    rw [← hj]
    exact k ls hl
  · cases h
theorem ok_aload_n {n : Fin 4} {v : Nat} (hd : decode cc (pc i) = .ok (.aload_n n, 1)) (hn : (n : Nat) = v) (hj : pc j = pc i + 1) : lOkP own cc nL pc i (pLoadA v j) := by
  intro p l e R s m args below meth c H locs cells slots Q ls lv st j' lv' st' hx hb hown hts h hl k
  unfold pLoadA at h
  split at h
  · rename_i e
    cases h
    refine lv_aload_n hx hb hd hn (lGet_has hl e) ?_
    rw [← hj]
    exact k ls hl
  · rename_i e
    cases h
    refine lv_aload_nN hx hb hd hn (lGet_has hl e) ?_
    rw [← hj]
    exact k ls hl
  · cases h
theorem ok_aload {v : Nat} (hd : decode cc (pc i) = .ok (.aload v, 2)) (hj : pc j = pc i + 2) : lOkP own cc nL pc i (pLoadA v j) := by
  intro p l e R s m args below meth c H locs cells slots Q ls lv st j' lv' st' hx hb hown hts h hl k
  unfold pLoadA at h
  split at h
  · rename_i e
    cases h
    refine lv_aload hx hb hd (lGet_has hl e) ?_
    rw [← hj]
    exact k ls hl
  · rename_i e
    cases h
    refine lv_aloadN hx hb hd (lGet_has hl e) ?_
    rw [← hj]
    exact k ls hl
  · cases h
theorem ok_istore_n {n : Fin 4} {v : Nat} (hd : decode cc (pc i) = .ok (.istore_n n, 1)) (hn : (n : Nat) = v) (hv : v < nL) (hj : pc j = pc i + 1) : lOkP own cc nL pc i (pStI v j) := by
  intro p l e R s m args below meth c H locs cells slots Q ls lv st j' lv' st' hx hb hown hts h hl k
  unfold pStI at h
  split at h
  · cases h
    refine lv_istore_n hx hb hd hn hl hv rfl (fun ls' hl' => ?_)
    rw [← hj]
    exact k ls' hl'
  · cases h
theorem ok_istore {v : Nat} (hd : decode cc (pc i) = .ok (.istore v, 2)) (hv : v < nL) (hj : pc j = pc i + 2) : lOkP own cc nL pc i (pStI v j) := by
  intro p l e R s m args below meth c H locs cells slots Q ls lv st j' lv' st' hx hb hown hts h hl k
  unfold pStI at h
  split at h
  · cases h
    refine lv_istore hx hb hd hl hv rfl (fun ls' hl' => ?_)
    rw [← hj]
    exact k ls' hl'
  · cases h
theorem ok_lstore_n {n : Fin 4} {v : Nat} (hd : decode cc (pc i) = .ok (.lstore_n n, 1)) (hn : (n : Nat) = v) (hv : v + 1 < nL) (hj : pc j = pc i + 1) : lOkP own cc nL pc i (pStL v j) := by
  intro p l e R s m args below meth c H locs cells slots Q ls lv st j' lv' st' hx hb hown hts h hl k
  unfold pStL at h
  split at h
  · cases h
    refine lv_lstore_n hx hb hd hn hl hv rfl (fun ls' hl' => ?_)
    rw [← hj]
    exact k ls' hl'
  · cases h
theorem ok_lstore {v : Nat} (hd : decode cc (pc i) = .ok (.lstore v, 2)) (hv : v + 1 < nL) (hj : pc j = pc i + 2) : lOkP own cc nL pc i (pStL v j) := by
  intro p l e R s m args below meth c H locs cells slots Q ls lv st j' lv' st' hx hb hown hts h hl k
  unfold pStL at h
  split at h
  · cases h
    refine lv_lstore hx hb hd hl hv rfl (fun ls' hl' => ?_)
    rw [← hj]
    exact k ls' hl'
  · cases h
theorem ok_astore_n {n : Fin 4} {v : Nat} (hd : decode cc (pc i) = .ok (.astore_n n, 1)) (hn : (n : Nat) = v) (hv : v < nL) (hj : pc j = pc i + 1) : lOkP own cc nL pc i (pStA v j) := by
  intro p l e R s m args below meth c H locs cells slots Q ls lv st j' lv' st' hx hb hown hts h hl k
  unfold pStA at h
  split at h
  · cases h
    refine lv_astore_n hx hb hd hn hl hv rfl (fun ls' hl' => ?_)
    rw [← hj]
    exact k ls' hl'
  · cases h
    refine lv_astore_nN hx hb hd hn hl hv rfl (fun ls' hl' => ?_)
    rw [← hj]
    exact k ls' hl'
  · cases h
theorem ok_astore {v : Nat} (hd : decode cc (pc i) = .ok (.astore v, 2)) (hv : v < nL) (hj : pc j = pc i + 2) : lOkP own cc nL pc i (pStA v j) := by
  intro p l e R s m args below meth c H locs cells slots Q ls lv st j' lv' st' hx hb hown hts h hl k
  unfold pStA at h
  split at h
  · cases h
    refine lv_astore hx hb hd hl hv rfl (fun ls' hl' => ?_)
    rw [← hj]
    exact k ls' hl'
  · cases h
    refine lv_astoreN hx hb hd hl hv rfl (fun ls' hl' => ?_)
    rw [← hj]
    exact k ls' hl'
  · cases h
theorem ok_iinc {v : Nat} {n : Int} {z : Int32} (hd : decode cc (pc i) = .ok (.iinc v n, 3)) (hz : Int32.ofInt n = z) (hv : v < nL) (hj : pc j = pc i + 3) : lOkP own cc nL pc i (pInc v z j) := by
  intro p l e R s m args below meth c H locs cells slots Q ls lv st j' lv' st' hx hb hown hts h hl k
  unfold pInc at h
  split at h
  · rename_i x e
    cases h
    obtain ⟨kq, hkq⟩ := List.getElem?_of_mem (lGet_mem e)
    refine lv_iinc (v := x + z) hx hb hd hl hkq (by rw [hz]) hv rfl (fun ls' hl' => ?_)
    rw [← hj]
    exact k ls' hl'
  · cases h
theorem ok_iadd (hd : decode cc (pc i) = .ok (.iadd, 1)) (hj : pc j = pc i + 1) : lOkP own cc nL pc i (pBinI (· + ·) j) := by
  intro p l e R s m args below meth c H locs cells slots Q ls lv st j' lv' st' hx hb hown hts h hl k
  unfold pBinI at h
  split at h
  · cases h
    refine lv_iadd hx hb hd ?_
    rw [← hj]
    exact k ls hl
  · cases h
theorem ok_isub (hd : decode cc (pc i) = .ok (.isub, 1)) (hj : pc j = pc i + 1) : lOkP own cc nL pc i (pBinI (· - ·) j) := by
  intro p l e R s m args below meth c H locs cells slots Q ls lv st j' lv' st' hx hb hown hts h hl k
  unfold pBinI at h
  split at h
  · cases h
    refine lv_isub hx hb hd ?_
    rw [← hj]
    exact k ls hl
  · cases h
theorem ok_imul (hd : decode cc (pc i) = .ok (.imul, 1)) (hj : pc j = pc i + 1) : lOkP own cc nL pc i (pBinI (· * ·) j) := by
  intro p l e R s m args below meth c H locs cells slots Q ls lv st j' lv' st' hx hb hown hts h hl k
  unfold pBinI at h
  split at h
  · cases h
    refine lv_imul hx hb hd ?_
    rw [← hj]
    exact k ls hl
  · cases h
theorem ok_iand (hd : decode cc (pc i) = .ok (.iand, 1)) (hj : pc j = pc i + 1) : lOkP own cc nL pc i (pBinI (· &&& ·) j) := by
  intro p l e R s m args below meth c H locs cells slots Q ls lv st j' lv' st' hx hb hown hts h hl k
  unfold pBinI at h
  split at h
  · cases h
    refine lv_iand hx hb hd ?_
    rw [← hj]
    exact k ls hl
  · cases h
theorem ok_ior (hd : decode cc (pc i) = .ok (.ior, 1)) (hj : pc j = pc i + 1) : lOkP own cc nL pc i (pBinI (· ||| ·) j) := by
  intro p l e R s m args below meth c H locs cells slots Q ls lv st j' lv' st' hx hb hown hts h hl k
  unfold pBinI at h
  split at h
  · cases h
    refine lv_ior hx hb hd ?_
    rw [← hj]
    exact k ls hl
  · cases h
theorem ok_ixor (hd : decode cc (pc i) = .ok (.ixor, 1)) (hj : pc j = pc i + 1) : lOkP own cc nL pc i (pBinI (· ^^^ ·) j) := by
  intro p l e R s m args below meth c H locs cells slots Q ls lv st j' lv' st' hx hb hown hts h hl k
  unfold pBinI at h
  split at h
  · cases h
    refine lv_ixor hx hb hd ?_
    rw [← hj]
    exact k ls hl
  · cases h
theorem ok_ishl (hd : decode cc (pc i) = .ok (.ishl, 1)) (hj : pc j = pc i + 1) : lOkP own cc nL pc i (pBinI (fun x y => x <<< (y &&& 31)) j) := by
  intro p l e R s m args below meth c H locs cells slots Q ls lv st j' lv' st' hx hb hown hts h hl k
  unfold pBinI at h
  split at h
  · cases h
    refine lv_ishl hx hb hd ?_
    rw [← hj]
    exact k ls hl
  · cases h
theorem ok_ishr (hd : decode cc (pc i) = .ok (.ishr, 1)) (hj : pc j = pc i + 1) : lOkP own cc nL pc i (pBinI (fun x y => x >>> (y &&& 31)) j) := by
  intro p l e R s m args below meth c H locs cells slots Q ls lv st j' lv' st' hx hb hown hts h hl k
  unfold pBinI at h
  split at h
  · cases h
    refine lv_ishr hx hb hd ?_
    rw [← hj]
    exact k ls hl
  · cases h
theorem ok_iushr (hd : decode cc (pc i) = .ok (.iushr, 1)) (hj : pc j = pc i + 1) : lOkP own cc nL pc i (pBinI (fun x y => (x.toUInt32 >>> (y.toUInt32 &&& Int32.toUInt32 31)).toInt32) j) := by
  intro p l e R s m args below meth c H locs cells slots Q ls lv st j' lv' st' hx hb hown hts h hl k
  unfold pBinI at h
  split at h
  · cases h
    refine lv_iushr hx hb hd rfl ?_
    rw [← hj]
    exact k ls hl
  · cases h
theorem ok_idiv (hd : decode cc (pc i) = .ok (.idiv, 1)) (hj : pc j = pc i + 1) : lOkP own cc nL pc i (pDivI (· / ·) j) := by
  intro p l e R s m args below meth c H locs cells slots Q ls lv st j' lv' st' hx hb hown hts h hl k
  unfold pDivI at h
  split at h
  · split at h
    · cases h
    · rename_i hne
      cases h
      refine lv_idiv hx hb hd hne ?_
      rw [← hj]
      exact k ls hl
  · cases h
theorem ok_irem (hd : decode cc (pc i) = .ok (.irem, 1)) (hj : pc j = pc i + 1) : lOkP own cc nL pc i (pDivI (fun x y => x - x / y * y) j) := by
  intro p l e R s m args below meth c H locs cells slots Q ls lv st j' lv' st' hx hb hown hts h hl k
  unfold pDivI at h
  split at h
  · split at h
    · cases h
    · rename_i hne
      cases h
      refine lv_irem hx hb hd hne ?_
      rw [← hj]
      exact k ls hl
  · cases h
theorem ok_ladd (hd : decode cc (pc i) = .ok (.ladd, 1)) (hj : pc j = pc i + 1) : lOkP own cc nL pc i (pBinL (· + ·) j) := by
  intro p l e R s m args below meth c H locs cells slots Q ls lv st j' lv' st' hx hb hown hts h hl k
  unfold pBinL at h
  split at h
  · cases h
    refine lv_ladd hx hb hd ?_
    rw [← hj]
    exact k ls hl
  · cases h
theorem ok_lsub (hd : decode cc (pc i) = .ok (.lsub, 1)) (hj : pc j = pc i + 1) : lOkP own cc nL pc i (pBinL (· - ·) j) := by
  intro p l e R s m args below meth c H locs cells slots Q ls lv st j' lv' st' hx hb hown hts h hl k
  unfold pBinL at h
  split at h
  · cases h
    refine lv_lsub hx hb hd ?_
    rw [← hj]
    exact k ls hl
  · cases h
theorem ok_lmul (hd : decode cc (pc i) = .ok (.lmul, 1)) (hj : pc j = pc i + 1) : lOkP own cc nL pc i (pBinL (· * ·) j) := by
  intro p l e R s m args below meth c H locs cells slots Q ls lv st j' lv' st' hx hb hown hts h hl k
  unfold pBinL at h
  split at h
  · cases h
    refine lv_lmul hx hb hd ?_
    rw [← hj]
    exact k ls hl
  · cases h
theorem ok_land (hd : decode cc (pc i) = .ok (.land, 1)) (hj : pc j = pc i + 1) : lOkP own cc nL pc i (pBinL (· &&& ·) j) := by
  intro p l e R s m args below meth c H locs cells slots Q ls lv st j' lv' st' hx hb hown hts h hl k
  unfold pBinL at h
  split at h
  · cases h
    refine lv_land hx hb hd ?_
    rw [← hj]
    exact k ls hl
  · cases h
theorem ok_lor (hd : decode cc (pc i) = .ok (.lor, 1)) (hj : pc j = pc i + 1) : lOkP own cc nL pc i (pBinL (· ||| ·) j) := by
  intro p l e R s m args below meth c H locs cells slots Q ls lv st j' lv' st' hx hb hown hts h hl k
  unfold pBinL at h
  split at h
  · cases h
    refine lv_lor hx hb hd ?_
    rw [← hj]
    exact k ls hl
  · cases h
theorem ok_lxor (hd : decode cc (pc i) = .ok (.lxor, 1)) (hj : pc j = pc i + 1) : lOkP own cc nL pc i (pBinL (· ^^^ ·) j) := by
  intro p l e R s m args below meth c H locs cells slots Q ls lv st j' lv' st' hx hb hown hts h hl k
  unfold pBinL at h
  split at h
  · cases h
    refine lv_lxor hx hb hd ?_
    rw [← hj]
    exact k ls hl
  · cases h
theorem ok_ldiv (hd : decode cc (pc i) = .ok (.ldiv, 1)) (hj : pc j = pc i + 1) : lOkP own cc nL pc i (pDivL (· / ·) j) := by
  intro p l e R s m args below meth c H locs cells slots Q ls lv st j' lv' st' hx hb hown hts h hl k
  unfold pDivL at h
  split at h
  · split at h
    · cases h
    · rename_i hne
      cases h
      refine lv_ldiv hx hb hd hne ?_
      rw [← hj]
      exact k ls hl
  · cases h
theorem ok_lrem (hd : decode cc (pc i) = .ok (.lrem, 1)) (hj : pc j = pc i + 1) : lOkP own cc nL pc i (pDivL (fun x y => x - x / y * y) j) := by
  intro p l e R s m args below meth c H locs cells slots Q ls lv st j' lv' st' hx hb hown hts h hl k
  unfold pDivL at h
  split at h
  · split at h
    · cases h
    · rename_i hne
      cases h
      refine lv_lrem hx hb hd hne ?_
      rw [← hj]
      exact k ls hl
  · cases h
theorem ok_lshl (hd : decode cc (pc i) = .ok (.lshl, 1)) (hj : pc j = pc i + 1) : lOkP own cc nL pc i (pShL (fun x y => x <<< (y.toInt64 &&& 63)) j) := by
  intro p l e R s m args below meth c H locs cells slots Q ls lv st j' lv' st' hx hb hown hts h hl k
  unfold pShL at h
  split at h
  · cases h
    refine lv_lshl hx hb hd rfl ?_
    rw [← hj]
    exact k ls hl
  · cases h
theorem ok_lshr (hd : decode cc (pc i) = .ok (.lshr, 1)) (hj : pc j = pc i + 1) : lOkP own cc nL pc i (pShL (fun x y => x >>> (y.toInt64 &&& 63)) j) := by
  intro p l e R s m args below meth c H locs cells slots Q ls lv st j' lv' st' hx hb hown hts h hl k
  unfold pShL at h
  split at h
  · cases h
    refine lv_lshr hx hb hd rfl ?_
    rw [← hj]
    exact k ls hl
  · cases h
theorem ok_lushr (hd : decode cc (pc i) = .ok (.lushr, 1)) (hj : pc j = pc i + 1) : lOkP own cc nL pc i (pShL (fun x y => (x.toUInt64 >>> (y.toInt64.toUInt64 &&& Int64.toUInt64 63)).toInt64) j) := by
  intro p l e R s m args below meth c H locs cells slots Q ls lv st j' lv' st' hx hb hown hts h hl k
  unfold pShL at h
  split at h
  · cases h
    refine lv_lushr hx hb hd rfl ?_
    rw [← hj]
    exact k ls hl
  · cases h
theorem ok_ineg (hd : decode cc (pc i) = .ok (.ineg, 1)) (hj : pc j = pc i + 1) : lOkP own cc nL pc i (pUnI (fun x => -x) j) := by
  intro p l e R s m args below meth c H locs cells slots Q ls lv st j' lv' st' hx hb hown hts h hl k
  unfold pUnI at h
  split at h
  · cases h
    refine lv_ineg hx hb hd ?_
    rw [← hj]
    exact k ls hl
  · cases h
theorem ok_lneg (hd : decode cc (pc i) = .ok (.lneg, 1)) (hj : pc j = pc i + 1) : lOkP own cc nL pc i (pUnL (fun x => -x) j) := by
  intro p l e R s m args below meth c H locs cells slots Q ls lv st j' lv' st' hx hb hown hts h hl k
  unfold pUnL at h
  split at h
  · cases h
    refine lv_lneg hx hb hd ?_
    rw [← hj]
    exact k ls hl
  · cases h
theorem ok_i2b (hd : decode cc (pc i) = .ok (.i2b, 1)) (hj : pc j = pc i + 1) : lOkP own cc nL pc i (pUnI (fun x => x.toInt8.toInt32) j) := by
  intro p l e R s m args below meth c H locs cells slots Q ls lv st j' lv' st' hx hb hown hts h hl k
  unfold pUnI at h
  split at h
  · cases h
    refine lv_i2b hx hb hd rfl ?_
    rw [← hj]
    exact k ls hl
  · cases h
theorem ok_i2s (hd : decode cc (pc i) = .ok (.i2s, 1)) (hj : pc j = pc i + 1) : lOkP own cc nL pc i (pUnI (fun x => x.toInt16.toInt32) j) := by
  intro p l e R s m args below meth c H locs cells slots Q ls lv st j' lv' st' hx hb hown hts h hl k
  unfold pUnI at h
  split at h
  · cases h
    refine lv_i2s hx hb hd rfl ?_
    rw [← hj]
    exact k ls hl
  · cases h
theorem ok_i2c (hd : decode cc (pc i) = .ok (.i2c, 1)) (hj : pc j = pc i + 1) : lOkP own cc nL pc i (pUnI (fun x => (x.toUInt32 % 65536).toInt32) j) := by
  intro p l e R s m args below meth c H locs cells slots Q ls lv st j' lv' st' hx hb hown hts h hl k
  unfold pUnI at h
  split at h
  · cases h
    refine lv_i2c hx hb hd rfl ?_
    rw [← hj]
    exact k ls hl
  · cases h
theorem ok_i2l (hd : decode cc (pc i) = .ok (.i2l, 1)) (hj : pc j = pc i + 1) : lOkP own cc nL pc i (pI2L j) := by
  intro p l e R s m args below meth c H locs cells slots Q ls lv st j' lv' st' hx hb hown hts h hl k
  unfold pI2L at h
  split at h
  · cases h
    refine lv_i2l hx hb hd rfl ?_
    rw [← hj]
    exact k ls hl
  · cases h
theorem ok_l2i (hd : decode cc (pc i) = .ok (.l2i, 1)) (hj : pc j = pc i + 1) : lOkP own cc nL pc i (pL2I j) := by
  intro p l e R s m args below meth c H locs cells slots Q ls lv st j' lv' st' hx hb hown hts h hl k
  unfold pL2I at h
  split at h
  · cases h
    refine lv_l2i hx hb hd rfl ?_
    rw [← hj]
    exact k ls hl
  · cases h
theorem ok_lcmp (hd : decode cc (pc i) = .ok (.lcmp, 1)) (hj : pc j = pc i + 1) : lOkP own cc nL pc i (pLcmp j) := by
  intro p l e R s m args below meth c H locs cells slots Q ls lv st j' lv' st' hx hb hown hts h hl k
  unfold pLcmp at h
  split at h
  · cases h
    refine W.lcmp hx hb hd ?_
    rw [← hj]
    exact k ls hl
  · cases h
abbrev fz_eq : Int32 → Bool := fun x => decide (x = 0)
abbrev fc_eq : Int32 → Int32 → Bool := fun x y => decide (x = y)
abbrev fz_ne : Int32 → Bool := fun x => decide (¬ x = 0)
abbrev fc_ne : Int32 → Int32 → Bool := fun x y => decide (¬ x = y)
abbrev fz_lt : Int32 → Bool := fun x => decide (x < 0)
abbrev fc_lt : Int32 → Int32 → Bool := fun x y => decide (x < y)
abbrev fz_ge : Int32 → Bool := fun x => decide (0 ≤ x)
abbrev fc_ge : Int32 → Int32 → Bool := fun x y => decide (y ≤ x)
abbrev fz_gt : Int32 → Bool := fun x => decide (0 < x)
abbrev fc_gt : Int32 → Int32 → Bool := fun x y => decide (y < x)
abbrev fz_le : Int32 → Bool := fun x => decide (x ≤ 0)
abbrev fc_le : Int32 → Int32 → Bool := fun x y => decide (x ≤ y)
theorem ok_if_eq {off : Int} {t : Nat} (hd : decode cc (pc i) = .ok (.ifCond .eq off, 3)) (ht : (pc i : Int) + off = (pc t : Int)) (hj : pc j = pc i + 3) : lOkP own cc nL pc i (pIf fz_eq t j) := by
  intro p l e R s m args below meth c H locs cells slots Q ls lv st j' lv' st' hx hb hown hts h hl k
  unfold pIf at h
  split at h
  · rename_i x r
    cases h
    have k := k ls hl
    refine lv_if_eq hx hb hd ht (fun q => ?_) (fun q => ?_)
    · rw [show fz_eq x = true from decide_eq_true q] at k
      exact k
    · rw [← hj]
      rw [show fz_eq x = false from decide_eq_false q] at k
      exact k
  · cases h
theorem ok_icmp_eq {off : Int} {t : Nat} (hd : decode cc (pc i) = .ok (.if_icmp .eq off, 3)) (ht : (pc i : Int) + off = (pc t : Int)) (hj : pc j = pc i + 3) : lOkP own cc nL pc i (pCmp fc_eq t j) := by
  intro p l e R s m args below meth c H locs cells slots Q ls lv st j' lv' st' hx hb hown hts h hl k
  unfold pCmp at h
  split at h
  · rename_i y x r
    cases h
    have k := k ls hl
    refine lv_icmp_eq hx hb hd ht (fun q => ?_) (fun q => ?_)
    · rw [show fc_eq x y = true from decide_eq_true q] at k
      exact k
    · rw [← hj]
      rw [show fc_eq x y = false from decide_eq_false q] at k
      exact k
  · cases h
theorem ok_if_ne {off : Int} {t : Nat} (hd : decode cc (pc i) = .ok (.ifCond .ne off, 3)) (ht : (pc i : Int) + off = (pc t : Int)) (hj : pc j = pc i + 3) : lOkP own cc nL pc i (pIf fz_ne t j) := by
  intro p l e R s m args below meth c H locs cells slots Q ls lv st j' lv' st' hx hb hown hts h hl k
  unfold pIf at h
  split at h
  · rename_i x r
    cases h
    have k := k ls hl
    refine lv_if_ne hx hb hd ht (fun q => ?_) (fun q => ?_)
    · rw [show fz_ne x = true from decide_eq_true q] at k
      exact k
    · rw [← hj]
      rw [show fz_ne x = false from decide_eq_false (fun z => z q)] at k
      exact k
  · cases h
theorem ok_icmp_ne {off : Int} {t : Nat} (hd : decode cc (pc i) = .ok (.if_icmp .ne off, 3)) (ht : (pc i : Int) + off = (pc t : Int)) (hj : pc j = pc i + 3) : lOkP own cc nL pc i (pCmp fc_ne t j) := by
  intro p l e R s m args below meth c H locs cells slots Q ls lv st j' lv' st' hx hb hown hts h hl k
  unfold pCmp at h
  split at h
  · rename_i y x r
    cases h
    have k := k ls hl
    refine lv_icmp_ne hx hb hd ht (fun q => ?_) (fun q => ?_)
    · rw [show fc_ne x y = true from decide_eq_true q] at k
      exact k
    · rw [← hj]
      rw [show fc_ne x y = false from decide_eq_false (fun z => z q)] at k
      exact k
  · cases h
theorem ok_if_lt {off : Int} {t : Nat} (hd : decode cc (pc i) = .ok (.ifCond .lt off, 3)) (ht : (pc i : Int) + off = (pc t : Int)) (hj : pc j = pc i + 3) : lOkP own cc nL pc i (pIf fz_lt t j) := by
  intro p l e R s m args below meth c H locs cells slots Q ls lv st j' lv' st' hx hb hown hts h hl k
  unfold pIf at h
  split at h
  · rename_i x r
    cases h
    have k := k ls hl
    refine lv_if_lt hx hb hd ht (fun q => ?_) (fun q => ?_)
    · rw [show fz_lt x = true from decide_eq_true q] at k
      exact k
    · rw [← hj]
      rw [show fz_lt x = false from decide_eq_false q] at k
      exact k
  · cases h
theorem ok_icmp_lt {off : Int} {t : Nat} (hd : decode cc (pc i) = .ok (.if_icmp .lt off, 3)) (ht : (pc i : Int) + off = (pc t : Int)) (hj : pc j = pc i + 3) : lOkP own cc nL pc i (pCmp fc_lt t j) := by
  intro p l e R s m args below meth c H locs cells slots Q ls lv st j' lv' st' hx hb hown hts h hl k
  unfold pCmp at h
  split at h
  · rename_i y x r
    cases h
    have k := k ls hl
    refine lv_icmp_lt hx hb hd ht (fun q => ?_) (fun q => ?_)
    · rw [show fc_lt x y = true from decide_eq_true q] at k
      exact k
    · rw [← hj]
      rw [show fc_lt x y = false from decide_eq_false q] at k
      exact k
  · cases h
theorem ok_if_ge {off : Int} {t : Nat} (hd : decode cc (pc i) = .ok (.ifCond .ge off, 3)) (ht : (pc i : Int) + off = (pc t : Int)) (hj : pc j = pc i + 3) : lOkP own cc nL pc i (pIf fz_ge t j) := by
  intro p l e R s m args below meth c H locs cells slots Q ls lv st j' lv' st' hx hb hown hts h hl k
  unfold pIf at h
  split at h
  · rename_i x r
    cases h
    have k := k ls hl
    refine lv_if_ge hx hb hd ht (fun q => ?_) (fun q => ?_)
    · rw [show fz_ge x = true from decide_eq_true q] at k
      exact k
    · rw [← hj]
      rw [show fz_ge x = false from decide_eq_false q] at k
      exact k
  · cases h
theorem ok_icmp_ge {off : Int} {t : Nat} (hd : decode cc (pc i) = .ok (.if_icmp .ge off, 3)) (ht : (pc i : Int) + off = (pc t : Int)) (hj : pc j = pc i + 3) : lOkP own cc nL pc i (pCmp fc_ge t j) := by
  intro p l e R s m args below meth c H locs cells slots Q ls lv st j' lv' st' hx hb hown hts h hl k
  unfold pCmp at h
  split at h
  · rename_i y x r
    cases h
    have k := k ls hl
    refine lv_icmp_ge hx hb hd ht (fun q => ?_) (fun q => ?_)
    · rw [show fc_ge x y = true from decide_eq_true q] at k
      exact k
    · rw [← hj]
      rw [show fc_ge x y = false from decide_eq_false q] at k
      exact k
  · cases h
theorem ok_if_gt {off : Int} {t : Nat} (hd : decode cc (pc i) = .ok (.ifCond .gt off, 3)) (ht : (pc i : Int) + off = (pc t : Int)) (hj : pc j = pc i + 3) : lOkP own cc nL pc i (pIf fz_gt t j) := by
  intro p l e R s m args below meth c H locs cells slots Q ls lv st j' lv' st' hx hb hown hts h hl k
  unfold pIf at h
  split at h
  · rename_i x r
    cases h
    have k := k ls hl
    refine lv_if_gt hx hb hd ht (fun q => ?_) (fun q => ?_)
    · rw [show fz_gt x = true from decide_eq_true q] at k
      exact k
    · rw [← hj]
      rw [show fz_gt x = false from decide_eq_false q] at k
      exact k
  · cases h
theorem ok_icmp_gt {off : Int} {t : Nat} (hd : decode cc (pc i) = .ok (.if_icmp .gt off, 3)) (ht : (pc i : Int) + off = (pc t : Int)) (hj : pc j = pc i + 3) : lOkP own cc nL pc i (pCmp fc_gt t j) := by
  intro p l e R s m args below meth c H locs cells slots Q ls lv st j' lv' st' hx hb hown hts h hl k
  unfold pCmp at h
  split at h
  · rename_i y x r
    cases h
    have k := k ls hl
    refine lv_icmp_gt hx hb hd ht (fun q => ?_) (fun q => ?_)
    · rw [show fc_gt x y = true from decide_eq_true q] at k
      exact k
    · rw [← hj]
      rw [show fc_gt x y = false from decide_eq_false q] at k
      exact k
  · cases h
theorem ok_if_le {off : Int} {t : Nat} (hd : decode cc (pc i) = .ok (.ifCond .le off, 3)) (ht : (pc i : Int) + off = (pc t : Int)) (hj : pc j = pc i + 3) : lOkP own cc nL pc i (pIf fz_le t j) := by
  intro p l e R s m args below meth c H locs cells slots Q ls lv st j' lv' st' hx hb hown hts h hl k
  unfold pIf at h
  split at h
  · rename_i x r
    cases h
    have k := k ls hl
    refine lv_if_le hx hb hd ht (fun q => ?_) (fun q => ?_)
    · rw [show fz_le x = true from decide_eq_true q] at k
      exact k
    · rw [← hj]
      rw [show fz_le x = false from decide_eq_false q] at k
      exact k
  · cases h
theorem ok_icmp_le {off : Int} {t : Nat} (hd : decode cc (pc i) = .ok (.if_icmp .le off, 3)) (ht : (pc i : Int) + off = (pc t : Int)) (hj : pc j = pc i + 3) : lOkP own cc nL pc i (pCmp fc_le t j) := by
  intro p l e R s m args below meth c H locs cells slots Q ls lv st j' lv' st' hx hb hown hts h hl k
  unfold pCmp at h
  split at h
  · rename_i y x r
    cases h
    have k := k ls hl
    refine lv_icmp_le hx hb hd ht (fun q => ?_) (fun q => ?_)
    · rw [show fc_le x y = true from decide_eq_true q] at k
      exact k
    · rw [← hj]
      rw [show fc_le x y = false from decide_eq_false q] at k
      exact k
  · cases h
theorem ok_acmp_eq {off : Int} {t : Nat} (hd : decode cc (pc i) = .ok (.if_acmp .eq off, 3)) (ht : (pc i : Int) + off = (pc t : Int)) (hj : pc j = pc i + 3) : lOkP own cc nL pc i (pAeq t j) := by
  intro p l e R s m args below meth c H locs cells slots Q ls lv st j' lv' st' hx hb hown hts h hl k
  unfold pAeq at h
  split at h
  · rename_i y x r
    cases h
    have k := k ls hl
    refine lv_acmp_eq (rx := some x) (ry := some y) hx hb hd ht (fun q => ?_) (fun q => ?_)
    · rw [show decide (x = y) = true from decide_eq_true (Option.some.inj q)] at k
      exact k
    · rw [show decide (x = y) = false from decide_eq_false (fun e => q (congrArg some e))] at k
      rw [← hj]; exact k
  · cases h
    have k := k ls hl
    refine lv_acmp_eq (rx := none) (ry := some _) hx hb hd ht (fun q => ?_) (fun q => ?_)
    · exact absurd q (by simp)
    · rw [← hj]; exact k
  · cases h
    have k := k ls hl
    refine lv_acmp_eq (rx := some _) (ry := none) hx hb hd ht (fun q => ?_) (fun q => ?_)
    · exact absurd q (by simp)
    · rw [← hj]; exact k
  · cases h
    have k := k ls hl
    refine lv_acmp_eq (rx := none) (ry := none) hx hb hd ht (fun q => ?_) (fun q => ?_)
    · exact k
    · exact absurd rfl q
  · cases h
theorem ok_acmp_ne {off : Int} {t : Nat} (hd : decode cc (pc i) = .ok (.if_acmp .ne off, 3)) (ht : (pc i : Int) + off = (pc t : Int)) (hj : pc j = pc i + 3) : lOkP own cc nL pc i (pAeq j t) := by
  intro p l e R s m args below meth c H locs cells slots Q ls lv st j' lv' st' hx hb hown hts h hl k
  unfold pAeq at h
  split at h
  · rename_i y x r
    cases h
    have k := k ls hl
    refine lv_acmp_ne (rx := some x) (ry := some y) hx hb hd ht (fun q => ?_) (fun q => ?_)
    · rw [show decide (x = y) = false from decide_eq_false (fun e => q (congrArg some e))] at k
      exact k
    · rw [show decide (x = y) = true from decide_eq_true (Option.some.inj q)] at k
      rw [← hj]; exact k
  · cases h
    have k := k ls hl
    refine lv_acmp_ne (rx := none) (ry := some _) hx hb hd ht (fun q => ?_) (fun q => ?_)
    · exact k
    · exact absurd q (by simp)
  · cases h
    have k := k ls hl
    refine lv_acmp_ne (rx := some _) (ry := none) hx hb hd ht (fun q => ?_) (fun q => ?_)
    · exact k
    · exact absurd q (by simp)
  · cases h
    have k := k ls hl
    refine lv_acmp_ne (rx := none) (ry := none) hx hb hd ht (fun q => ?_) (fun q => ?_)
    · exact absurd rfl q
    · rw [← hj]; exact k
  · cases h
theorem ok_ifnull {off : Int} {t : Nat} (hd : decode cc (pc i) = .ok (.ifnull off, 3)) (ht : (pc i : Int) + off = (pc t : Int)) (hj : pc j = pc i + 3) : lOkP own cc nL pc i (pNul t j) := by
  intro p l e R s m args below meth c H locs cells slots Q ls lv st j' lv' st' hx hb hown hts h hl k
  unfold pNul at h
  split at h
  · cases h
    refine lv_ifnull hx hb hd ?_
    rw [← hj]
    exact k ls hl
  · cases h
    exact lv_ifnullN hx hb hd ht (k ls hl)
  · cases h
theorem ok_ifnonnull {off : Int} {t : Nat} (hd : decode cc (pc i) = .ok (.ifnonnull off, 3)) (ht : (pc i : Int) + off = (pc t : Int)) (hj : pc j = pc i + 3) : lOkP own cc nL pc i (pNul j t) := by
  intro p l e R s m args below meth c H locs cells slots Q ls lv st j' lv' st' hx hb hown hts h hl k
  unfold pNul at h
  split at h
  · cases h
    exact lv_ifnonnull hx hb hd ht (k ls hl)
  · cases h
    refine lv_ifnonnullN hx hb hd ?_
    rw [← hj]
    exact k ls hl
  · cases h
theorem ok_goto {off : Int} (hd : decode cc (pc i) = .ok (.goto off, 3)) (ht : (pc i : Int) + off = (pc j : Int)) : lOkP own cc nL pc i (pGoto j) := by
  intro p l e R s m args below meth c H locs cells slots Q ls lv st j' lv' st' hx hb hown hts h hl k
  cases h
  exact lv_goto hx hb hd ht (k ls hl)
theorem ok_dup (hd : decode cc (pc i) = .ok (.dup, 1)) (hj : pc j = pc i + 1) : lOkP own cc nL pc i (pDup j) := by
  intro p l e R s m args below meth c H locs cells slots Q ls lv st j' lv' st' hx hb hown hts h hl k
  unfold pDup at h
  split at h
  · split at h
    · rename_i q
      cases h
      refine lv_dup hx hb hd q ?_
      rw [← hj]
      exact k ls hl
    · cases h
  · cases h
theorem ok_pop (hd : decode cc (pc i) = .ok (.pop, 1)) (hj : pc j = pc i + 1) : lOkP own cc nL pc i (pPop j) := by
  intro p l e R s m args below meth c H locs cells slots Q ls lv st j' lv' st' hx hb hown hts h hl k
  unfold pPop at h
  split at h
  · split at h
    · rename_i q
      cases h
      refine lv_pop hx hb hd q ?_
      rw [← hj]
      exact k ls hl
    · cases h
  · cases h
theorem ok_dup_x1 (hd : decode cc (pc i) = .ok (.dup_x1, 1)) (hj : pc j = pc i + 1) : lOkP own cc nL pc i (pDupX1 j) := by
  intro p l e R s m args below meth c H locs cells slots Q ls lv st j' lv' st' hx hb hown hts h hl k
  unfold pDupX1 at h
  split at h
  · split at h
    · rename_i q
      cases h
      refine lv_dup_x1 hx hb hd q.1 q.2 ?_
      rw [← hj]
      exact k ls hl
    · cases h
  · cases h
theorem ok_dup2 (hd : decode cc (pc i) = .ok (.dup2, 1)) (hj : pc j = pc i + 1) : lOkP own cc nL pc i (pDup2 j) := by
  intro p l e R s m args below meth c H locs cells slots Q ls lv st j' lv' st' hx hb hown hts h hl k
  unfold pDup2 at h
  split at h
  · split at h
    · rename_i q
      cases h
      refine lv_dup2_11 hx hb hd q.1 q.2 ?_
      rw [← hj]
      exact k ls hl
    · cases h
  · cases h
theorem ok_dup2L (hd : decode cc (pc i) = .ok (.dup2, 1)) (hj : pc j = pc i + 1) : lOkP own cc nL pc i (pDup2L j) := by
  intro p l e R s m args below meth c H locs cells slots Q ls lv st j' lv' st' hx hb hown hts h hl k
  unfold pDup2L at h
  split at h
  · split at h
    · rename_i q
      cases h
      refine lv_dup2_2 hx hb hd q ?_
      rw [← hj]
      exact k ls hl
    · cases h
  · cases h
theorem ok_pop2L (hd : decode cc (pc i) = .ok (.pop2, 1)) (hj : pc j = pc i + 1) : lOkP own cc nL pc i (pPop2L j) := by
  intro p l e R s m args below meth c H locs cells slots Q ls lv st j' lv' st' hx hb hown hts h hl k
  unfold pPop2L at h
  split at h
  · split at h
    · rename_i q
      cases h
      refine lv_pop2_2 hx hb hd q ?_
      rw [← hj]
      exact k ls hl
    · cases h
  · cases h
theorem ok_dup2G (hd : decode cc (pc i) = .ok (.dup2, 1)) (hj : pc j = pc i + 1) : lOkP own cc nL pc i (pDup2G j) := by
  intro p l e R s m args below meth c H locs cells slots Q ls lv st j' lv' st' hx hb hown hts h hl k
  unfold pDup2G at h
  split at h
  · split at h
    · rename_i q
      cases h
      refine lv_dup2_2 hx hb hd q ?_
      rw [← hj]
      exact k ls hl
    · exact ok_dup2 hd hj p l e R s m args below meth c H locs cells slots Q ls lv _ j' lv' st' hx hb hown hts h hl k
  · cases h
def swT (lo : Int) (tab : List Nat) (d : Nat) : Int32 → Nat := fun x => if x.toInt < lo then d else (tab[(x.toInt - lo).toNat]?).getD d
def swL (ps : List (Int × Nat)) (d : Nat) : Int32 → Nat := fun x => match ps with
  | [] => d
  | q :: r => if q.1 = x.toInt then q.2 else swL r d x
theorem swL_of {f : Int → Int} {g : Nat → Int} {x : Int32} {dflt : Int} {d : Nat} (hd : f dflt = g d) : ∀ (ps : List (Int × Int)) (qs : List (Int × Nat)), ps.map (fun z => (z.1, f z.2)) = qs.map (fun z => (z.1, g z.2)) → f (Op.lookupswitch.offset ps dflt x.toInt) = g (swL qs d x) := by
  intro ps
  induction ps with
  | nil =>
    intro qs h
    cases qs with
    | nil => exact hd
    | cons z r => cases h
  | cons y r ih =>
    intro qs h
    cases qs with
    | nil => cases h
    | cons z r' =>
      simp only [List.map_cons, List.cons.injEq, Prod.mk.injEq] at h
      obtain ⟨⟨h1, h2⟩, h3⟩ := h
      unfold swL
      obtain ⟨y1, y2⟩ := y
      dsimp only at h1 h2
      by_cases e : x.toInt = y1
      · rw [if_pos (h1.symm.trans e.symm)]
        rw [← h2]
        congr 1
        unfold Op.lookupswitch.offset
        simp [e]
      · rw [if_neg (fun z => e (z.symm.trans h1.symm))]
        rw [← ih r' h3]
        congr 1
        rw [Op.lookupswitch.offset]
        simp [e]
        intro z
        exact absurd z.symm e
theorem ok_tableswitch {dflt lo hi : Int} {offs : Array Int} {len : Nat} {tab : List Nat} {dj : Nat} (hd : decode cc (pc i) = .ok (.tableswitch dflt lo hi offs, len)) (hsz : hi - lo + 1 = (tab.length : Int)) (ht : offs.toList.map (fun o => (pc i : Int) + o) = tab.map (fun t => (pc t : Int))) (hdf : (pc i : Int) + dflt = (pc dj : Int)) : lOkP own cc nL pc i (pSw (swT lo tab dj)) := by
  intro p l e R s m args below meth c H locs cells slots Q ls lv st j' lv' st' hx hb hown hts h hl k
  unfold pSw at h
  split at h
  · rename_i x r
    cases h
    have k := k ls hl
    have hlen : offs.size = tab.length := by
      have := congrArg List.length ht
      simpa using this
    unfold swT at k
    by_cases h1 : x.toInt < lo
    · rw [if_pos h1] at k
      exact lv_tableOut hx hb hd (Or.inl h1) hdf k
    · rw [if_neg h1] at k
      by_cases h2 : hi < x.toInt
      · rw [List.getElem?_eq_none (by omega)] at k
        exact lv_tableOut hx hb hd (Or.inr h2) hdf k
      · have h3 : (x.toInt - lo).toNat < offs.size := by omega
        have h4 : offs[(x.toInt - lo).toNat]? = some offs[(x.toInt - lo).toNat] := Array.getElem?_eq_getElem h3
        have h5 : (x.toInt - lo).toNat < tab.length := by omega
        rw [List.getElem?_eq_getElem h5] at k
        refine lv_tableIn hx hb hd h1 h2 h4 ?_ k
        have h6 := congrArg (fun z => z[(x.toInt - lo).toNat]?) ht
        simp only [List.getElem?_map] at h6
        rw [List.getElem?_eq_getElem h5, List.getElem?_eq_getElem (by simpa using h3)] at h6
        simpa using h6
  · cases h
theorem ok_lookupswitch {dflt : Int} {ps : Array (Int × Int)} {len : Nat} {qs : List (Int × Nat)} {dj : Nat} (hd : decode cc (pc i) = .ok (.lookupswitch dflt ps, len)) (hp : (ps.toList.zip (ps.toList.drop 1)).all (fun (a, next) => a.1 < next.1) = true) (ht : ps.toList.map (fun z => (z.1, (pc i : Int) + z.2)) = qs.map (fun z => (z.1, (pc z.2 : Int)))) (hdf : (pc i : Int) + dflt = (pc dj : Int)) : lOkP own cc nL pc i (pSw (swL qs dj)) := by
  intro p l e R s m args below meth c H locs cells slots Q ls lv st j' lv' st' hx hb hown hts h hl k
  unfold pSw at h
  split at h
  · rename_i x r
    cases h
    exact lv_lookup hx hb hd hp rfl (swL_of (f := fun o => (pc i : Int) + o) (g := fun t => (pc t : Int)) hdf ps.toList qs ht) (k ls hl)
  · cases h
end LPure
