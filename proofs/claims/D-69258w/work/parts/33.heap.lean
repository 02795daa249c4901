/-! the shadow heap against the machine's -/
def lUpd (h : lHeap) (a : Nat) (c : lCell) : lHeap := fun q => if q = a then some c else h q
theorem lUpd_eq (h : lHeap) (a : Nat) (c : lCell) : lUpd h a c a = some c := if_pos rfl
theorem lUpd_ne (h : lHeap) {a q : Nat} (c : lCell) (e : q ≠ a) : lUpd h a c q = h q := if_neg e
/-- the machine's cell x is as c says -/
def lCl (g : lG) (a : Nat) (c : lCell) (x : Cell) : Prop :=
  x.vm.isStatics = false ∧ x.vm ≠ .unknown ∧ (c.1 = true → lba g ≤ a ∧ x.vm = .none ∧ x.monitor = {}) ∧
  (c.2.1 = false → ∃ r : vw_C, (lcl g)[c.2.2.1]? = some r ∧ x.cls = (lD g).1 c.2.2.1 ∧ c.2.2.2.length = r.2.2 ∧ (c.2.2.1 ≠ 0 → x.vm = .none) ∧ ∀ (k : Nat) (v : Value), c.2.2.2[k]? = some v → x.slots[(lD g).2 c.2.2.1 k]? = some v) ∧
  (c.2.1 = true → lar g c.2.2.1 x.cls ∧ x.slots = c.2.2.2.toArray)
def lAt (g : lG) (H : Heap) (a : Nat) (c : lCell) : Prop := ∃ x : Cell, H[a]? = some x ∧ lCl g a c x
def lRel (g : lG) (M : lMem) (H : Heap) : Prop :=
  H.size = M.2.1 ∧ lba g ≤ M.2.1 ∧ (∀ q, q < lba g → H[q]? = (lh0 g)[q]?) ∧ ∀ a c, M.1 a = some c → lAt g H a c
theorem lAt.lt {g : lG} {H : Heap} {a : Nat} {c : lCell} (h : lAt g H a c) : a < H.size := by
  obtain ⟨x, h, -⟩ := h
  exact (Array.getElem?_eq_some_iff.mp h).1
theorem lAt.kept {g : lG} {H H' : Heap} {a : Nat} {c : lCell} (h : lAt g H a c) (e : H'[a]? = H[a]?) : lAt g H' a c := by
  obtain ⟨x, h, r⟩ := h
  exact ⟨x, by rw [e]; exact h, r⟩
theorem lRel.put {g : lG} {M : lMem} {H H' : Heap} {a : Nat} {c : lCell} {sl : Nat} (h : lRel g M H) (ha : lba g ≤ a) (hz : H'.size = H.size) (ho : ∀ q, q ≠ a → H'[q]? = H[q]?) (hc : lAt g H' a c) : lRel g (lUpd M.1 a c, M.2.1, sl) H' := by
  obtain ⟨h1, h2, h3, h4⟩ := h
  refine ⟨hz.trans h1, h2, fun q hq => (ho q (by omega)).trans (h3 q hq), fun q d hd => ?_⟩
  dsimp only at hd
  by_cases e : q = a
  · subst e
    rw [show lUpd M.1 q c q = some c from lUpd_eq _ _ _] at hd
    cases hd
    exact hc
  · rw [show lUpd M.1 a c q = M.1 q from lUpd_ne _ _ e] at hd
    exact (h4 q d hd).kept (ho q e)
theorem lRel.new {g : lG} {M : lMem} {H H' : Heap} {c : lCell} {sl : Nat} (h : lRel g M H) (hz : H'.size = H.size + 1) (ho : ∀ q, q < H.size → H'[q]? = H[q]?) (hc : lAt g H' H.size c) : lRel g (lUpd M.1 M.2.1 c, M.2.1 + 1, sl) H' := by
  obtain ⟨h1, h2, h3, h4⟩ := h
  refine ⟨by rw [hz, h1], by show lba g ≤ M.2.1 + 1; omega, fun q hq => (ho q (by omega)).trans (h3 q hq), fun q d hd => ?_⟩
  dsimp only at hd
  by_cases e : q = M.2.1
  · subst e
    rw [show lUpd M.1 M.2.1 c M.2.1 = some c from lUpd_eq _ _ _] at hd
    cases hd
    rw [← h1]
    exact hc
  · rw [show lUpd M.1 M.2.1 c q = M.1 q from lUpd_ne _ _ e] at hd
    have h5 := h4 q d hd
    exact h5.kept (ho q h5.lt)
theorem lRel.sl {g : lG} {M : lMem} {H : Heap} (sl : Nat) (h : lRel g M H) : lRel g (M.1, M.2.1, sl) H := h
/-! what the tables say, apart from the words that ride in lw_all -/
def lXw : Cond → Bool
  | .fieldLinkNest .. => true
  | .methodLinkNest .. => true
  | .castable .. => true
  | .declares .. => true
  | .privateMethod .. => true
  | _ => false
/-- what is owed of a kind whose objects are made or written here -/
def lGw (q : vw_C) : Prop := (∀ w ∈ u_ws q.1 q.2.1 q.2.2, w ∈ lw_all) ∧ (∀ a, a < q.2.2 → ∀ b, b < q.2.2 → a ≠ b → (q.2.1 a).2.1 ≠ (q.2.1 b).2.1) ∧ ∀ k, k < q.2.2 → ∃ ty, parseFieldDescriptor (q.2.1 k).2.2.1 = some ty
/-- a field, and its slot -/
def lFs (U : State) (t : String × String × String × Bool) (i : Nat) : Prop := ∃ cf kf fi fd, U.fieldFound? t.1 t.2.1 t.2.2.1 = some (cf, kf, fi, fd) ∧ fd.slot = i ∧ fd.isStatic = false
def lK1 (g : lG) (U : State) : Prop := ∀ (i : Nat) (q : vw_C), (lcl g)[i]? = some q → ClassAt U q.1 ((lD g).1 i) ∧ ∀ k, k < q.2.2 → lFs U (q.2.1 k) ((lD g).2 i k)
theorem lFs.moved {u U : State} {t : String × String × String × Bool} {i : Nat} (hvm : u.vm.Alike U.vm) (h : lFs u t i) : lFs U t i := by
  obtain ⟨cf, kf, fi, fd, hi, h2, h3⟩ := h
  obtain ⟨kf', hi', -⟩ := State.fieldFound?_setVm (s := u) hvm hi
  exact ⟨cf, kf', fi, fd, by simpa only [State.fieldFound?, State.vm_setVm] using hi', h2, h3⟩
theorem lK1.u {g : lG} {U : State} (h : lK1 g U) {i : Nat} {q : vw_C} (hq : (lcl g)[i]? = some q) : u_Kn U q.1 q.2.1 q.2.2 ((lD g).1 i) ((lD g).2 i) := by
  obtain ⟨h1, h2⟩ := h i q hq
  refine ⟨fun k hk => ?_, h1⟩
  obtain ⟨cf, kf, fi, fd, hi, h3, h4⟩ := h2 k hk
  exact ⟨cf, kf, fi, fd, hi, h3⟩
theorem lKa {g : lG} {U : State} (hvm : (lU g).vm.Alike U.vm) {t : Nat} {ty : FieldType} {c : ClassId} (ht : (lty g)[t]? = some ty) (hc : lar g t c) : ∃ (k : Class) (comp : ClassId), U.vm.classes[c]? = some k ∧ k.kind = .array comp ty ∧ ∀ E, ty = .object E → U.vm.findClass E = some comp := by
  obtain ⟨ty', k, comp, h1, h2, h3, h4, -⟩ := hc
  cases ht.symm.trans h1
  obtain ⟨k', hk', he⟩ := hvm.2.2 _ _ h2
  exact ⟨k', comp, hk', by rw [he]; exact h3, fun E hE => by rw [hvm.findClass]; exact h4 E hE⟩
theorem lKa.mk {g : lG} {U : State} (hvm : (lU g).vm.Alike U.vm) {t : Nat} {ty : FieldType} {c : ClassId} {k : Class} {comp : ClassId} (ht : (lty g)[t]? = some ty) (h2 : U.vm.classes[c]? = some k) (h3 : k.kind = .array comp ty) (h4 : ∀ E, ty = .object E → U.vm.findClass E = some comp) (h5 : U.vm.findClass ("[" ++ ty.toString) = some c) : lar g t c := by
  obtain ⟨k', hk', he⟩ := hvm.symm.2.2 _ _ h2
  exact ⟨ty, k', comp, ht, hk', by rw [he]; exact h3, fun E hE => by rw [hvm.symm.findClass]; exact h4 E hE, fun _ => by rw [hvm.symm.findClass]; exact h5⟩
theorem lKa.nm {g : lG} {U : State} (hvm : (lU g).vm.Alike U.vm) {t : Nat} {ty : FieldType} {c : ClassId} (ht : (lty g)[t]? = some ty) (hc : lar g t c) (h : t < 10) : U.vm.findClass ("[" ++ ty.toString) = some c := by
  obtain ⟨ty', k, comp, h1, h2, h3, h4, h5⟩ := hc
  cases ht.symm.trans h1
  rw [hvm.findClass]
  exact h5 h
/-- what a call by an interface asks of the tables, beside the words of lw_all -/
def lIf (C : String) (x y : MethodName) : Prop := (x.cls ≠ "java/lang/invoke/MethodHandle" ∧ x.cls ≠ "java/lang/invoke/VarHandle") ∧ Cond.declares x ∈ lw_tbl ∧ Cond.interfaceMethod x.cls x.cls x.name x.desc ∈ lw_tbl ∧ Cond.publicMethod y ∈ lw_tbl ∧ Cond.unhidden C x.name x.desc ∈ lw_tbl ∧ Cond.castable C x.cls ∈ lw_tbl
/-- kinds whose mirrors are asked for -/
def lMir : List String := ["[Ljava/lang/Object;"]
/-- statics of Throwable that its constructor reads -/
def lSt0 : List (String × String) := [("UNASSIGNED_STACK", Bundle.steD), ("SUPPRESSED_SENTINEL", Bundle.listD)]
def lKx (g : lG) (U : State) : Prop :=
  (∀ (C : String) (x y : MethodName), lIf C x y → va_Fw C x y U) ∧ (∀ C, Cond.arrayOver (.object C) ∈ lw_tbl → va_AO C U) ∧ (∀ own k tx, Cond.stringRef own k tx ∈ lw_tbl → vk_R own k tx (lsa g own k) U) ∧
  (∀ C n d v, lst g C n d v → va_Z C n d v (fun q => lba g ≤ q) U (lh0 g)) ∧ (∀ C T, lnc g C T → va_Nc C T U) ∧ (∀ C, C ∈ lMir → va_Mi C (lmi g C) U) ∧ ∀ x, x ∈ lSt0 → vx_L Bundle.tN x.1 x.2 (fun q => lba g ≤ q) U (lh0 g)
def lKn (g : lG) (U : State) : Prop :=
  lK1 g U ∧ (lU g).vm.Alike U.vm ∧ (∀ w ∈ lw_tbl, lXw w = true → va_Nw w U) ∧ lKx g U
theorem lKn.to {g : lG} {u U : State} (h : lKn g u) (hvm : u.vm.Alike U.vm) (hw : ∀ w, lXw w = true → va_Nw w u → va_Nw w U) (hs : ∀ own k tx a, vk_R own k tx a u → vk_R own k tx a U) : lKn g U := by
  obtain ⟨h1, h2, h3, k1, k2, k3, k4, k5, k6, k7⟩ := h
  exact ⟨fun i q hq => ⟨classAt_moved hvm (h1 i q hq).1, fun k hk => ((h1 i q hq).2 k hk).moved hvm⟩, h2.trans hvm, fun w hm hx => hw w hx (h3 w hm hx), fun C x y hi => va_Fw.moved hi.1 hvm (k1 C x y hi), fun C hC => va_AO.moved hvm (k2 C hC), fun own k tx hm => hs _ _ _ _ (k3 own k tx hm), fun C n d v hv => va_Z.moved hvm (k4 C n d v hv), fun C T hC => va_Nc.moved hvm (k5 C T hC), fun C hC => va_Mi.moved hvm (k6 C hC), fun x hx => vx_L.moved hvm (k7 x hx)⟩
theorem lKn.warm {g : lG} {s U : State} (hW : s.WarmedH U.vm) (h : lKn g s) : lKn g U := by
  refine h.to hW.alike (fun w hw hz => ?_) (fun own k tx a hz => hz.warm hW)
  unfold lXw at hw
  split at hw
  · exact va_Nw.warmF hW hz
  · exact va_Nw.warmM hW hz
  · exact va_Nw.warmC hW hz
  · exact va_Nw.warmD hW hz
  · exact va_tabs rfl (rfl : (s.setVm U.vm).vm = U.vm) (by rw [Cond.privateMethod_setVm hW.alike]; exact hz)
  · cases hw
theorem lKn.same {g : lG} {s U : State} (hv : U.vm = s.vm) (h : lKn g s) : lKn g U := by
  refine h.to (by rw [hv]; exact Vm.Alike.refl _) (fun w hw hz => ?_) (fun own k tx a hz => hz.same hv)
  unfold lXw at hw
  split at hw
  · exact va_Nw.same rfl hv.symm hz
  · exact va_Nw.same rfl hv.symm hz
  · exact va_Nw.same rfl hv.symm hz
  · exact va_Nw.same rfl hv.symm hz
  · exact va_Nw.same rfl hv.symm hz
  · cases hw
/-! memory instructions: no calls -/
abbrev lM : Type := lE → lS → Option (Nat × lS)
def lMemI (h : lM) : lI := fun E _ st => match h E st with
  | some r => some (.inl r)
  | none => none
def lOkM (g : lG) (own nm : String) (cc : ByteArray) (nL : Nat) (pc : Nat → Nat) (i : Nat) (h : lM) : Prop :=
  ∀ (p : Program) (l : Launch) (e : Env) (R : Room) (s : State) (m : MethodId) (args : Array Value) (below : List Frame) (meth : Method) (c : Code) (H : Heap) (locs : List Loc) (n0 s0 : Nat) (Q : State → Prop) (ls : Array Slot) (lv : lL) (st : List Value) (M : lMem) (j : Nat) (lv' : lL) (st' : List Value) (M' : lMem),
    p.tables.exec = Jvm.exec → c.code = cc → s.vm.findClass own = some m.cls → (∀ w ∈ lw_all, w.before args s = true) → meth.name = nm → lKn g s → h (lev g) (lv, st, M) = some (j, lv', st', M') →
    n0 ≤ M.2.1 → s0 ≤ M.2.2 → M'.2.1 ≤ n0 + R.cells → M'.2.2 ≤ s0 + R.slots → lRel g M H → (∀ z ∈ locs, lba g ≤ z.base) → lv_has ls nL lv →
    (∀ (H' : Heap) (locs' : List Loc) (ls' : Array Slot), lRel g M' H' → (∀ z ∈ locs', lba g ≤ z.base) → lv_has ls' nL lv' → W p l e R s m args below meth c H' locs' (M'.2.1 - n0) (M'.2.2 - s0) Q (F0 m (pc j) ls' st')) →
    W p l e R s m args below meth c H locs (M.2.1 - n0) (M.2.2 - s0) Q (F0 m (pc i) ls st)
def lMo (h : lM) : Prop := ∀ E st j st', h E st = some (j, st') → st.2.2.2.1 ≤ st'.2.2.2.1 ∧ st.2.2.2.2 ≤ st'.2.2.2.2
def lPm (h : lP) : lM := fun _ st => match h st.1 st.2.1 with
  | some (j, l, k) => some (j, l, k, st.2.2)
  | none => none
theorem lOkM_P {g : lG} {own nm : String} {cc : ByteArray} {nL : Nat} {pc : Nat → Nat} {i : Nat} {h : lP} (ok : lOkP own cc nL pc i h) : lOkM g own nm cc nL pc i (lPm h) := by
  intro p l e R s m args below meth c H locs n0 s0 Q ls lv st M j lv' st' M' hx hb hown hts hnm hK e1 b1 b2 b3 b4 hR hz hl k
  unfold lPm at e1
  split at e1
  · rename_i e2
    cases e1
    exact ok p l e R s m args below meth c H locs _ _ Q ls lv st j lv' st' hx hb hown hts e2 hl (fun ls' hl' => k H locs ls' hR hz hl')
  · cases e1
theorem lMo_P (h : lP) : lMo (lPm h) := by
  intro E st j st' e
  unfold lPm at e
  split at e
  · cases e
    exact ⟨Nat.le_refl _, Nat.le_refl _⟩
  · cases e
def lLook : List (Nat × Nat) → Nat → Option Nat
  | [], _ => none
  | q :: r, i => if q.1 = i then some q.2 else lLook r i
theorem lLook_mem {l : List (Nat × Nat)} {i k : Nat} (h : lLook l i = some k) : (i, k) ∈ l := by
  induction l with
  | nil => cases h
  | cons q r ih =>
    unfold lLook at h
    split at h
    · rename_i e
      cases h
      subst e
      exact List.mem_cons_self
    · exact List.mem_cons_of_mem _ (ih h)
/-- the field that an instruction names, as the k-th of the ci-th kind -/
def lFld (g : lG) (own : String) (idx ci k : Nat) : Prop := ∃ (r : vw_C) (ref : String), (lcl g)[ci]? = some r ∧ k < r.2.2 ∧ ((Cond.fieldLink own idx ref (r.2.1 k).2.1 (r.2.1 k).2.2.1 ∈ lw_all) ∨ ∃ host, Cond.fieldLinkNest own idx ref (r.2.1 k).2.1 (r.2.1 k).2.2.1 host ∈ lw_tbl) ∧ (ref = (r.2.1 k).1 ∨ Cond.sameField ref (r.2.1 k).1 (r.2.1 k).2.1 (r.2.1 k).2.2.1 ∈ lw_all)
def fGet (tab : List (Nat × Nat)) (j : Nat) : lM := fun _ st => match st.2.1 with
  | .ref a :: r => match st.2.2.1 a with
    | some (_, false, ci, fs) => match lLook tab ci with
      | some k => match fs[k]? with
        | some v => some (j, st.1, v :: r, st.2.2)
        | none => none
      | none => none
    | _ => none
  | _ => none
def fPut (tab : List (Nat × Nat)) (ty : FieldType) (j : Nat) : lM := fun _ st => match st.2.1 with
  | v :: .ref a :: r => match st.2.2.1 a with
    | some (true, false, ci, fs) => match lLook tab ci with
      | some k => if k < fs.length ∧ fits ty v = true then some (j, st.1, r, lUpd st.2.2.1 a (true, false, ci, fs.set k v), st.2.2.2.1, st.2.2.2.2) else none
      | none => none
    | _ => none
  | _ => none
def fNew (ci : Nat) (fs : List Value) (j : Nat) : lM := fun _ st => some (j, st.1, .ref st.2.2.2.1 :: st.2.1, lUpd st.2.2.1 st.2.2.2.1 (true, false, ci, fs), st.2.2.2.1 + 1, st.2.2.2.2 + fs.length)
/-- new arrays of at most a million elements -/
def fNewa (t : Nat) (dv : Value) (j : Nat) : lM := fun _ st => match st.2.1 with
  | .int n :: r => if n < 0 ∨ 1000000 < n.toNatClampNeg then none else some (j, st.1, .ref st.2.2.2.1 :: r, lUpd st.2.2.1 st.2.2.2.1 (true, true, t, List.replicate n.toNatClampNeg dv), st.2.2.2.1 + 1, st.2.2.2.2 + n.toNatClampNeg)
  | _ => none
def fLen (j : Nat) : lM := fun _ st => match st.2.1 with
  | .ref a :: r => match st.2.2.1 a with
    | some (_, true, _, xs) => some (j, st.1, .int xs.length.toInt32 :: r, st.2.2)
    | _ => none
  | _ => none
def fAld (ts : List Nat) (j : Nat) : lM := fun _ st => match st.2.1 with
  | .int i :: .ref a :: r => match st.2.2.1 a with
    | some (_, true, t', xs) => if ts.contains t' = true ∧ ¬ i < 0 then match xs[i.toNatClampNeg]? with
        | some v => some (j, st.1, v :: r, st.2.2)
        | none => none
      else none
    | _ => none
  | _ => none
/-- a store of ints: f narrows -/
def fAst (t : Nat) (f : Int32 → Int32) (j : Nat) : lM := fun _ st => match st.2.1 with
  | .int x :: .int i :: .ref a :: r => match st.2.2.1 a with
    | some (true, true, t', xs) => if t' = t ∧ ¬ i < 0 ∧ i.toNatClampNeg < xs.length then some (j, st.1, r, lUpd st.2.2.1 a (true, true, t, xs.set i.toNatClampNeg (.int (f x))), st.2.2.2.1, st.2.2.2.2) else none
    | _ => none
  | _ => none
def fLst (t : Nat) (j : Nat) : lM := fun _ st => match st.2.1 with
  | .long x :: .int i :: .ref a :: r => match st.2.2.1 a with
    | some (true, true, t', xs) => if t' = t ∧ ¬ i < 0 ∧ i.toNatClampNeg < xs.length then some (j, st.1, r, lUpd st.2.2.1 a (true, true, t, xs.set i.toNatClampNeg (.long x)), st.2.2.2.1, st.2.2.2.2) else none
    | _ => none
  | _ => none
/-- a store of a reference: pairs of element type and kind that fit -/
def fRst (tab : List (Nat × Nat)) (j : Nat) : lM := fun _ st => match st.2.1 with
  | .ref v :: .int i :: .ref a :: r => match st.2.2.1 a with
    | some (true, true, t, xs) => match st.2.2.1 v with
      | some (_, false, ci, _) => if tab.contains (t, ci) = true ∧ ¬ i < 0 ∧ i.toNatClampNeg < xs.length then some (j, st.1, r, lUpd st.2.2.1 a (true, true, t, xs.set i.toNatClampNeg (.ref v)), st.2.2.2.1, st.2.2.2.2) else none
      | _ => none
    | _ => none
  | .null :: .int i :: .ref a :: r => match st.2.2.1 a with
    | some (true, true, t, xs) => if tab.any (fun q => q.1 == t) = true ∧ ¬ i < 0 ∧ i.toNatClampNeg < xs.length then some (j, st.1, r, lUpd st.2.2.1 a (true, true, t, xs.set i.toNatClampNeg .null), st.2.2.2.1, st.2.2.2.2) else none
    | _ => none
  | _ => none
/-- a static or constant by its number -/
def fEnv (q : Nat) (j : Nat) : lM := fun E st => some (j, st.1, E q :: st.2.1, st.2.2)
/-- a cast that holds: kinds that it takes -/
def fCast (tab : List Nat) (j : Nat) : lM := fun _ st => match st.2.1 with
  | .ref a :: r => match st.2.2.1 a with
    | some (_, false, ci, _) => if tab.contains ci = true then some (j, st.1, .ref a :: r, st.2.2) else none
    | _ => none
  | .null :: r => some (j, st.1, .null :: r, st.2.2)
  | _ => none
theorem mo_fGet (tab : List (Nat × Nat)) (j : Nat) : lMo (fGet tab j) := by
  intro E st i st' e
  unfold fGet at e
  repeat' split at e
  all_goals cases e
  all_goals exact ⟨by simp, by simp⟩
theorem mo_fPut (tab : List (Nat × Nat)) (ty : FieldType) (j : Nat) : lMo (fPut tab ty j) := by
  intro E st i st' e
  unfold fPut at e
  repeat' split at e
  all_goals cases e
  all_goals exact ⟨by simp, by simp⟩
theorem mo_fNewa (t : Nat) (dv : Value) (j : Nat) : lMo (fNewa t dv j) := by
  intro E st i st' e
  unfold fNewa at e
  repeat' split at e
  all_goals cases e
  all_goals exact ⟨by simp, by simp⟩
theorem mo_fLen (j : Nat) : lMo (fLen j) := by
  intro E st i st' e
  unfold fLen at e
  repeat' split at e
  all_goals cases e
  all_goals exact ⟨by simp, by simp⟩
theorem mo_fAld (ts : List Nat) (j : Nat) : lMo (fAld ts j) := by
  intro E st i st' e
  unfold fAld at e
  repeat' split at e
  all_goals cases e
  all_goals exact ⟨by simp, by simp⟩
theorem mo_fAst (t : Nat) (f : Int32 → Int32) (j : Nat) : lMo (fAst t f j) := by
  intro E st i st' e
  unfold fAst at e
  repeat' split at e
  all_goals cases e
  all_goals exact ⟨by simp, by simp⟩
theorem mo_fLst (t j : Nat) : lMo (fLst t j) := by
  intro E st i st' e
  unfold fLst at e
  repeat' split at e
  all_goals cases e
  all_goals exact ⟨by simp, by simp⟩
theorem mo_fRst (tab : List (Nat × Nat)) (j : Nat) : lMo (fRst tab j) := by
  intro E st i st' e
  unfold fRst at e
  repeat' split at e
  all_goals cases e
  all_goals exact ⟨by simp, by simp⟩
theorem mo_fCast (tab : List Nat) (j : Nat) : lMo (fCast tab j) := by
  intro E st i st' e
  unfold fCast at e
  repeat' split at e
  all_goals cases e
  all_goals exact ⟨by simp, by simp⟩
theorem mo_fNew (ci : Nat) (fs : List Value) (j : Nat) : lMo (fNew ci fs j) := by
  intro E st i st' e
  unfold fNew at e
  simp only [Option.some.injEq, Prod.mk.injEq] at e
  obtain ⟨-, rfl⟩ := e
  exact ⟨by simp, by simp⟩
theorem mo_fEnv (q j : Nat) : lMo (fEnv q j) := by
  intro E st i st' e
  unfold fEnv at e
  simp only [Option.some.injEq, Prod.mk.injEq] at e
  obtain ⟨-, rfl⟩ := e
  exact ⟨by simp, by simp⟩
section LMem
variable {g : lG} {own nm : String} {cc : ByteArray} {nL : Nat} {pc : Nat → Nat} {i j : Nat}
theorem lFld.found {k : Nat} {s : State} {args : Array Value} (hts : ∀ w ∈ lw_all, w.before args s = true) {r : vw_C} {ref : String} (h : ref = (r.2.1 k).1 ∨ Cond.sameField ref (r.2.1 k).1 (r.2.1 k).2.1 (r.2.1 k).2.2.1 ∈ lw_all) {x : ClassId × Class × Nat × Field} (hi : s.fieldFound? (r.2.1 k).1 (r.2.1 k).2.1 (r.2.1 k).2.2.1 = some x) : s.fieldFound? ref (r.2.1 k).2.1 (r.2.1 k).2.2.1 = some x := by
  rcases h with h | h
  · rw [h]; exact hi
  · exact u_same (hts _ h) x hi
theorem ok_getfield {index : Nat} {tab : List (Nat × Nat)} (hd : decode cc (pc i) = .ok (.getfield index, 3)) (ht : ∀ q ∈ tab, lFld g own index q.1 q.2) (hj : pc j = pc i + 3) : lOkM g own nm cc nL pc i (fGet tab j) := by
  intro p l e R s m args below meth c H locs n0 s0 Q ls lv st M j' lv' st' M' hx hb hown hts hnm hK h b1 b2 b3 b4 hR hz hl k
  unfold fGet at h
  dsimp only at h
  split at h
  · rename_i a r
    split at h
    · rename_i w ci fs hc
      split at h
      · rename_i kf hk
        split at h
        · rename_i v hv
          cases h
          obtain ⟨rr, ref, h1, h2, h3, h4⟩ := ht _ (lLook_mem hk)
          obtain ⟨x, q1, q2, q3, q4, q5, -⟩ := hR.2.2.2 a _ hc
          obtain ⟨r', q6, q7, q8, qv, q9⟩ := q5 rfl
          dsimp only at q6 q7 q8 qv q9
          cases h1.symm.trans q6
          obtain ⟨cf, kf', fi, f, hi, hsl, hst⟩ := (hK.1 ci _ h1).2 kf h2
          have kk := k H locs ls hR hz hl
          rw [hj] at kk
          rcases h3 with h3 | ⟨host, h3⟩
          · exact W.getf hx hb hown (hts _ h3) (lFld.found hts h4 hi) hst q1 q3 (by rw [hsl]; exact q9 _ _ hv) rfl rfl hd kk
          · exact va_Wgetf hx hb hown (va_Nw.use rfl (hK.2.2.1 _ h3 rfl)) (lFld.found hts h4 hi) hst q1 q3 (by rw [hsl]; exact q9 _ _ hv) rfl rfl hd kk
        · cases h
      · cases h
    · cases h
  · cases h
theorem lApart {s : State} {args : Array Value} (hts : ∀ w ∈ lw_all, w.before args s = true) (hK : lKn g s) {ci : Nat} {r : vw_C} (h : (lcl g)[ci]? = some r) (hT : lGw r) {a b : Nat} (ha : a < r.2.2) (hb : b < r.2.2) (hne : a ≠ b) : (lD g).2 ci a ≠ (lD g).2 ci b := by
  obtain ⟨hT1, hT2, hT3⟩ := hT
  have hex : ∃ ty : Nat → FieldType, ∀ k, k < r.2.2 → parseFieldDescriptor (r.2.1 k).2.2.1 = some (ty k) := by
    refine ⟨fun k => if hk : k < r.2.2 then Classical.choose (hT3 k hk) else .int, fun k hk => ?_⟩
    dsimp only
    rw [dif_pos hk]
    exact Classical.choose_spec (hT3 k hk)
  obtain ⟨ty, hty⟩ := hex
  exact va_apart (own := "") (D := lD g) (cl := lcl g) (tys := []) hts hT1 ty hty hT2 ⟨fun c q hq => hK.1.u hq, fun k q hq => by cases hq⟩ h a b ha hb hne
theorem lCl.set {ci k : Nat} {fs : List Value} {x : Cell} {a : Nat} {v : Value} (hap : ∀ b, b < fs.length → b ≠ k → (lD g).2 ci b ≠ (lD g).2 ci k) (h : lCl g a (true, false, ci, fs) x) (hk : k < fs.length) : lCl g a (true, false, ci, fs.set k v) (x.setSlot ((lD g).2 ci k) v) := by
  obtain ⟨q2, q3, q4, q5, -⟩ := h
  obtain ⟨r, q6, q7, q8, qv, q9⟩ := q5 rfl
  dsimp only at q6 q7 q8 qv q9
  refine ⟨q2, q3, q4, fun _ => ⟨r, q6, q7, by rw [List.length_set]; exact q8, qv, fun b w hw => ?_⟩, fun z => by cases z⟩
  have hbl : b < fs.length := by
    have := (List.getElem?_eq_some_iff.mp hw).1
    rwa [List.length_set] at this
  by_cases e : b = k
  · subst e
    rw [List.getElem?_set_self hbl] at hw
    cases hw
    exact Cell.slots_setSlot_self _ (k2_hasslot (q9 b _ (List.getElem?_eq_getElem hbl)))
  · rw [List.getElem?_set_ne (fun z => e z.symm)] at hw
    rw [slot_ne _ _ (fun z => hap b hbl e z.symm)]
    exact q9 b w hw
theorem lNar {ty : FieldType} {v : Value} (h : fits ty v = true) : narrow ty v = v := by
  unfold fits at h
  split at h
  all_goals first | rfl | skip
  · rename_i x
    simp only [Bool.or_eq_true, beq_iff_eq] at h
    rcases h with rfl | rfl <;> rfl
  · rename_i x
    simp only [Bool.and_eq_true, decide_eq_true_eq] at h
    have h1 : (-128 : Int) ≤ x.toInt := by have := Int32.le_iff_toInt_le.mp h.1; simpa using this
    have h2 : x.toInt ≤ 127 := by have := Int32.le_iff_toInt_le.mp h.2; simpa using this
    show Value.int x.toInt8.toInt32 = Value.int x
    congr 1
    apply Int32.toInt_inj.mp
    rw [Int8.toInt_toInt32, Int32.toInt_toInt8]
    exact Int.bmod_eq_of_le (by omega) (by omega)
  · rename_i x
    simp only [Bool.and_eq_true, decide_eq_true_eq] at h
    obtain ⟨jj, hj, rfl⟩ := nI_of (x := x) (fun z => by
      have a := Int32.le_iff_toInt_le.mp h.1
      have b := Int32.lt_iff_toInt_lt.mp z
      simp at a b
      omega)
    have h2 : jj ≤ 65535 := by
      have := Int32.le_iff_toInt_le.mp h.2
      rw [nI_toInt hj] at this
      simp at this
      omega
    exact (pk_charN (by omega)).1
  · rename_i x
    simp only [Bool.and_eq_true, decide_eq_true_eq] at h
    have h1 : (-32768 : Int) ≤ x.toInt := by have := Int32.le_iff_toInt_le.mp h.1; simpa using this
    have h2 : x.toInt ≤ 32767 := by have := Int32.le_iff_toInt_le.mp h.2; simpa using this
    show Value.int x.toInt16.toInt32 = Value.int x
    congr 1
    apply Int32.toInt_inj.mp
    rw [Int16.toInt_toInt32, Int32.toInt_toInt16]
    exact Int.bmod_eq_of_le (by omega) (by omega)
  · cases h
theorem lLocs {locs : List Loc} {a q : Nat} (hz : ∀ z ∈ locs, lba g ≤ z.base) (ha : lba g ≤ a) : ∀ z ∈ locs ++ [(⟨a, q⟩ : Loc)], lba g ≤ z.base := by
  intro z hm
  rcases List.mem_append.mp hm with h | h
  · exact hz z h
  · rw [List.mem_singleton] at h
    rw [h]; exact ha
theorem ok_putfield {index : Nat} {tab : List (Nat × Nat)} {ty : FieldType} (hd : decode cc (pc i) = .ok (.putfield index, 3)) (ht : ∀ q ∈ tab, ∃ (r : vw_C) (ref : String), (lcl g)[q.1]? = some r ∧ q.2 < r.2.2 ∧ lGw r ∧ ((Cond.fieldLink own index ref (r.2.1 q.2).2.1 (r.2.1 q.2).2.2.1 ∈ lw_all) ∨ ∃ host, Cond.fieldLinkNest own index ref (r.2.1 q.2).2.1 (r.2.1 q.2).2.2.1 host ∈ lw_tbl) ∧ (ref = (r.2.1 q.2).1 ∨ Cond.sameField ref (r.2.1 q.2).1 (r.2.1 q.2).2.1 (r.2.1 q.2).2.2.1 ∈ lw_all) ∧ parseFieldDescriptor (r.2.1 q.2).2.2.1 = some ty ∧ (r.2.1 q.2).2.2.2 = false) (hj : pc j = pc i + 3) : lOkM g own nm cc nL pc i (fPut tab ty j) := by
  intro p l e R s m args below meth c H locs n0 s0 Q ls lv st M j' lv' st' M' hx hb hown hts hnm hK h b1 b2 b3 b4 hR hz hl k
  unfold fPut at h
  dsimp only at h
  split at h
  · rename_i v a r
    split at h
    · rename_i ci fs hc
      split at h
      · rename_i kf hk
        split at h
        · rename_i hh
          cases h
          obtain ⟨rr, ref, h1, h2, hT, h3, h4, h5, h6⟩ := ht _ (lLook_mem hk)
          have hcl := hR.2.2.2 a _ hc
          obtain ⟨x, q1, q2, q3, q4, q5, q0⟩ := hcl
          have hlc : lCl g a (true, false, ci, fs) x := ⟨q2, q3, q4, q5, q0⟩
          obtain ⟨r', q6, q7, q8, qv, q9⟩ := q5 rfl
          dsimp only at q6 q7 q8 qv q9
          obtain ⟨ha, hv0, -⟩ := q4 rfl
          cases h1.symm.trans q6
          obtain ⟨⟨hfc, kC, hkC, hkind⟩, hS⟩ := hK.1 ci _ h1
          obtain ⟨cf, kf', fi, f, hi, hsl, hst⟩ := hS kf h2
          have hlay := hts _ (hT.1 _ (u_in_lay h2))
          have hslot := q9 kf _ (List.getElem?_eq_getElem hh.1)
          have hlt : f.slot < x.slots.size := by rw [hsl]; exact k2_hasslot hslot
          have hap : ∀ b, b < fs.length → b ≠ kf → (lD g).2 ci b ≠ (lD g).2 ci kf := fun b hb2 hne => lApart hts hK h1 hT (by omega) h2 hne
          have kk : ∀ H' : Heap, H'[a]? = some (x.setSlot f.slot v) → H'.size = H.size → (∀ q, q ≠ a → H'[q]? = H[q]?) → W p l e R s m args below meth c H' (locs ++ [⟨a, f.slot⟩]) (M.2.1 - n0) (M.2.2 - s0) Q (F0 m (pc i + 3) ls st') := by
            intro H' e1 e2 e3
            rw [← hj]
            refine k H' _ ls (hR.put ha e2 e3 ⟨_, e1, ?_⟩) (lLocs hz ha) hl
            rw [hsl]
            exact hlc.set hap hh.1
          unfold u_lay at hlay
          rw [if_neg (by rw [h6]; decide)] at hlay
          have hS6 := u_store hfc hkC hkind hlay hi h5 (lNar hh.2) hh.2
          rcases h3 with h3 | ⟨host, h3⟩
          · exact W.putK hx hb (f := f) ⟨hown, hts _ h3, ⟨_, _, _, lFld.found hts h4 hi⟩, hst⟩ (by rw [q7]; exact hS6) q1 hv0 hlt rfl rfl hd kk
          · exact va_WputK hx hb (f := f) hown (va_Nw.use rfl (hK.2.2.1 _ h3 rfl)) (lFld.found hts h4 hi) hst (by rw [q7]; exact hS6) q1 hv0 hlt rfl rfl hd kk
        · cases h
      · cases h
    · cases h
  · cases h
theorem ok_putfinal {index : Nat} {tab : List (Nat × Nat)} {ty : FieldType} (hd : decode cc (pc i) = .ok (.putfield index, 3)) (hinit : nm = "<init>") (ht : ∀ q ∈ tab, ∃ (r : vw_C) (ref : String), (lcl g)[q.1]? = some r ∧ q.2 < r.2.2 ∧ lGw r ∧ (Cond.fieldLink own index ref (r.2.1 q.2).2.1 (r.2.1 q.2).2.2.1 ∈ lw_all) ∧ (ref = (r.2.1 q.2).1 ∨ Cond.sameField ref (r.2.1 q.2).1 (r.2.1 q.2).2.1 (r.2.1 q.2).2.2.1 ∈ lw_all) ∧ parseFieldDescriptor (r.2.1 q.2).2.2.1 = some ty ∧ (r.2.1 q.2).2.2.2 = true ∧ (r.2.1 q.2).1 = own) (hj : pc j = pc i + 3) : lOkM g own nm cc nL pc i (fPut tab ty j) := by
  intro p l e R s m args below meth c H locs n0 s0 Q ls lv st M j' lv' st' M' hx hb hown hts hnm hK h b1 b2 b3 b4 hR hz hl k
  unfold fPut at h
  dsimp only at h
  split at h
  · rename_i v a r
    split at h
    · rename_i ci fs hc
      split at h
      · rename_i kf hk
        split at h
        · rename_i hh
          cases h
          obtain ⟨rr, ref, h1, h2, hT, h3, h4, h5, h6, h7⟩ := ht _ (lLook_mem hk)
          have hcl := hR.2.2.2 a _ hc
          obtain ⟨x, q1, q2, q3, q4, q5, q0⟩ := hcl
          have hlc : lCl g a (true, false, ci, fs) x := ⟨q2, q3, q4, q5, q0⟩
          obtain ⟨r', q6, q7, q8, qv, q9⟩ := q5 rfl
          dsimp only at q6 q7 q8 qv q9
          obtain ⟨ha, hv0, -⟩ := q4 rfl
          cases h1.symm.trans q6
          obtain ⟨⟨hfc, kC, hkC, hkind⟩, hS⟩ := hK.1 ci _ h1
          obtain ⟨cf, kf', fi, f, hi, hsl, hst⟩ := hS kf h2
          have hlay := hts _ (hT.1 _ (u_in_lay h2))
          have hslot := q9 kf _ (List.getElem?_eq_getElem hh.1)
          have hlt : f.slot < x.slots.size := by rw [hsl]; exact k2_hasslot hslot
          have hap : ∀ b, b < fs.length → b ≠ kf → (lD g).2 ci b ≠ (lD g).2 ci kf := fun b hb2 hne => lApart hts hK h1 hT (by omega) h2 hne
          have kk : ∀ H' : Heap, H'[a]? = some (x.setSlot f.slot v) → H'.size = H.size → (∀ q, q ≠ a → H'[q]? = H[q]?) → W p l e R s m args below meth c H' (locs ++ [⟨a, f.slot⟩]) (M.2.1 - n0) (M.2.2 - s0) Q (F0 m (pc i + 3) ls st') := by
            intro H' e1 e2 e3
            rw [← hj]
            refine k H' _ ls (hR.put ha e2 e3 ⟨_, e1, ?_⟩) (lLocs hz ha) hl
            rw [hsl]
            exact hlc.set hap hh.1
          unfold u_lay at hlay
          rw [if_pos h6] at hlay
          have hcf : m.cls = cf := by
            obtain ⟨_, _, c', _, _, _, -, -, hf', -, -, -, hown2, -⟩ := Cond.laysFinal_spec hlay
            have e1 : c' = cf := by have := hi.symm.trans hf'; simp at this; exact this.1.symm
            rw [h7] at hown2
            rw [← e1]; exact Option.some.inj (hown.symm.trans hown2)
          have hS6 := u_fits hfc hkC hkind (Or.inr hlay) hi h5 (lNar hh.2) hh.2
          exact W.putFinK hx hb hown (hts _ h3) (lFld.found hts h4 hi) hst hcf (hnm.trans hinit) (by rw [q7]; exact hS6) q1 hv0 hlt rfl rfl hd kk
        · cases h
      · cases h
    · cases h
  · cases h
theorem ok_new {index ci : Nat} {C : String} {T : u_T} {N : Nat} {fs : List Value} (ty : Nat → FieldType) (hd : decode cc (pc i) = .ok (.new index, 3)) (hc : (lcl g)[ci]? = some (C, T, N)) (hT : lGw (C, T, N)) (h1 : Cond.classLink own index C ∈ lw_all) (h2 : Cond.instantiable C N ∈ lw_all) (h3 : Cond.initialized C ∈ lw_all) (hty : ∀ k, k < N → parseFieldDescriptor (T k).2.2.1 = some (ty k)) (hfs : fs = (List.range N).map (fun k => defaultValue (ty k))) (hj : pc j = pc i + 3) : lOkM g own nm cc nL pc i (fNew ci fs j) := by
  intro p l e R s m args below meth c H locs n0 s0 Q ls lv st M j' lv' st' M' hx hb hown hts hnm hK h b1 b2 b3 b4 hR hz hl k
  unfold fNew at h
  cases h
  have hlen : fs.length = N := by rw [hfs]; simp
  have hKn := hK.1.u hc
  dsimp only at b3 b4 k b1 b2
  refine W.newcK hx hb hown (hts _ h1) (hts _ h2) (hts _ h3) rfl hd (by omega) (by omega) hKn.2.1 rfl fun H1 kC hkC e1 z1 o1 => ?_
  have kk := k H1 locs ls (hR.new z1 (fun q hq => o1 q hq) ?_) hz hl
  · rw [hj] at kk
    rw [show M.2.1 - n0 + 1 = M.2.1 + 1 - n0 by omega, show M.2.2 - s0 + N = M.2.2 + fs.length - s0 by omega, hR.1]
    exact kk
  · obtain ⟨x, g1, g2, g3, g4⟩ := u_born ty hts hT.1 hKn hkC e1 hty
    refine ⟨x, g1, (by rw [g3]; rfl), (by rw [g3]; exact fun z => by cases z), fun _ => ⟨by rw [hR.1]; exact hR.2.1, g3, by cases g1.symm.trans e1; rfl⟩, fun _ => ⟨_, hc, g2, hlen, fun _ => g3, fun kx v hv => ?_⟩, fun z => by cases z⟩
    have hkx : kx < N := by rw [← hlen]; exact (List.getElem?_eq_some_iff.mp hv).1
    rw [g4 kx hkx]
    rw [hfs] at hv
    simp [hkx] at hv
    exact congrArg some hv
theorem ok_newarray {atype : ArrayType} {t : Nat} {ty : FieldType} {dv : Value} (hd : decode cc (pc i) = .ok (.newarray atype, 2)) (hty : newarray.typeOf atype = ty) (h1 : Cond.arrayClass ty ∈ lw_all) (hlt : (lty g)[t]? = some ty) (hno : ∀ E, ty ≠ .object E) (hdv : defaultValue ty = dv) (hby : componentBytes ty ≤ 8) (hj : pc j = pc i + 2) : lOkM g own nm cc nL pc i (fNewa t dv j) := by
  intro p l e R s m args below meth c H locs n0 s0 Q ls lv st M j' lv' st' M' hx hb hown hts hnm hK h b1 b2 b3 b4 hR hz hl k
  unfold fNewa at h
  dsimp only at h
  split at h
  · rename_i n r
    split at h
    · cases h
    · rename_i hn
      cases h
      dsimp only at b3 b4 k
      subst hty
      have hn0 : ¬ n < 0 := fun z => hn (Or.inl z)
      have hn1 : n.toNatClampNeg ≤ 1000000 := Nat.not_lt.mp fun z => hn (Or.inr z)
      have hbt : n.toNatClampNeg * componentBytes (newarray.typeOf atype) ≤ 536870912 := Nat.le_trans (Nat.mul_le_mul hn1 hby) (by decide)
      refine W.newa hx hb (hts _ h1) rfl hd rfl hn0 hbt (by omega) (by omega) fun cA kA comp f1 f2 f3 => ?_
      generalize hH1 : H.push ({ cls := cA, slots := Array.replicate n.toNatClampNeg (defaultValue (newarray.typeOf atype)), vm := .none } : Cell) = H1
      have z1 : H1.size = H.size + 1 := by rw [← hH1, Array.size_push]
      have o1 : ∀ q : Nat, q < H.size → H1[q]? = H[q]? := fun q hq => by rw [← hH1, Array.getElem?_push, if_neg (Nat.ne_of_lt hq)]
      have e1 : H1[H.size]? = some { cls := cA, slots := Array.replicate n.toNatClampNeg (defaultValue (newarray.typeOf atype)), vm := .none } := by rw [← hH1, Array.getElem?_push_size]
      have kk := k H1 locs ls (hR.new z1 o1 ⟨_, e1, rfl, (fun z => by cases z), fun _ => ⟨by rw [hR.1]; exact hR.2.1, rfl, rfl⟩, (fun z => by cases z), fun _ => ⟨lKa.mk hK.2.1 hlt f2 f3 (fun E hE => absurd hE (hno E)) f1, by rw [hdv]; simp⟩⟩) hz hl
      rw [hj] at kk
      rw [show M.2.1 - n0 + 1 = M.2.1 + 1 - n0 by omega, show M.2.2 - s0 + n.toNatClampNeg = M.2.2 + n.toNatClampNeg - s0 by omega, hR.1]
      exact kk
  · cases h
theorem ok_anewarray {index t : Nat} {C : String} (hd : decode cc (pc i) = .ok (.anewarray index, 3)) (h1 : Cond.classLink own index C ∈ lw_all) (h2 : Cond.arrayOver (.object C) ∈ lw_tbl) (hlt : (lty g)[t]? = some (.object C)) (hj : pc j = pc i + 3) : lOkM g own nm cc nL pc i (fNewa t .null j) := by
  intro p l e R s m args below meth c H locs n0 s0 Q ls lv st M j' lv' st' M' hx hb hown hts hnm hK h b1 b2 b3 b4 hR hz hl k
  unfold fNewa at h
  dsimp only at h
  split at h
  · rename_i n r
    split at h
    · cases h
    · rename_i hn
      cases h
      dsimp only at b3 b4 k
      have hn0 : ¬ n < 0 := fun z => hn (Or.inl z)
      have hn1 : n.toNatClampNeg ≤ 1000000 := Nat.not_lt.mp fun z => hn (Or.inr z)
      have hbt : n.toNatClampNeg * 4 ≤ 536870912 := by omega
      refine W.anew hx hb hown (hts _ h1) (va_AO.use (hK.2.2.2.2.1 _ h2)) rfl hd rfl hn0 hbt (by omega) (by omega) fun cA kA comp f1 f2 f3 f4 => ?_
      generalize hH1 : H.push ({ cls := cA, slots := Array.replicate n.toNatClampNeg .null, vm := .none } : Cell) = H1
      have z1 : H1.size = H.size + 1 := by rw [← hH1, Array.size_push]
      have o1 : ∀ q : Nat, q < H.size → H1[q]? = H[q]? := fun q hq => by rw [← hH1, Array.getElem?_push, if_neg (Nat.ne_of_lt hq)]
      have e1 : H1[H.size]? = some { cls := cA, slots := Array.replicate n.toNatClampNeg .null, vm := .none } := by rw [← hH1, Array.getElem?_push_size]
      have kk := k H1 locs ls (hR.new z1 o1 ⟨_, e1, rfl, (fun z => by cases z), fun _ => ⟨by rw [hR.1]; exact hR.2.1, rfl, rfl⟩, (fun z => by cases z), fun _ => ⟨lKa.mk hK.2.1 hlt f2 f3 (fun E hE => by cases hE; exact f4) f1, by simp⟩⟩) hz hl
      rw [hj] at kk
      rw [show M.2.1 - n0 + 1 = M.2.1 + 1 - n0 by omega, show M.2.2 - s0 + n.toNatClampNeg = M.2.2 + n.toNatClampNeg - s0 by omega, hR.1]
      exact kk
  · cases h
theorem lArr {s : State} (hK : lKn g s) {t : Nat} {ty : FieldType} {x : Cell} (ht : (lty g)[t]? = some ty) (h1 : x.vm.isStatics = false) (h : lar g t x.cls) : s.isArrayOf x ty := by
  obtain ⟨k, comp, h2, h3, -⟩ := lKa hK.2.1 ht h
  exact ⟨(fun q z => by rw [z] at h1; cases h1), k, h2, comp, h3⟩
theorem ok_arraylength (hd : decode cc (pc i) = .ok (.arraylength, 1)) (hj : pc j = pc i + 1) : lOkM g own nm cc nL pc i (fLen j) := by
  intro p l e R s m args below meth c H locs n0 s0 Q ls lv st M j' lv' st' M' hx hb hown hts hnm hK h b1 b2 b3 b4 hR hz hl k
  unfold fLen at h
  dsimp only at h
  split at h
  · rename_i a r
    split at h
    · rename_i w t xs hc
      cases h
      obtain ⟨x, q1, q2, q3, q4, -, q5⟩ := hR.2.2.2 a _ hc
      obtain ⟨q6, q7⟩ := q5 rfl
      have q6' := q6
      obtain ⟨ty, -, -, hty, -⟩ := q6
      have kk := k H locs ls hR hz hl
      rw [hj] at kk
      exact W.alen hx hb q1 (lArr hK hty q2 q6') (by rw [q7]; simp) rfl rfl hd kk
    · cases h
  · cases h
theorem ok_iaload {ts : List Nat} (hd : decode cc (pc i) = .ok (.iaload, 1)) (hty : ∀ t ∈ ts, (lty g)[t]? = some .int) (hj : pc j = pc i + 1) : lOkM g own nm cc nL pc i (fAld ts j) := by
  intro p l e R s m args below meth c H locs n0 s0 Q ls lv st M j' lv' st' M' hx hb hown hts hnm hK h b1 b2 b3 b4 hR hz hl k
  unfold fAld at h
  dsimp only at h
  split at h
  · rename_i ii a r
    split at h
    · rename_i w t' xs hc
      split at h
      · rename_i hh
        split at h
        · rename_i v hv
          cases h
          obtain ⟨hm, h0⟩ := hh
          obtain ⟨x, q1, q2, q3, q4, -, q5⟩ := hR.2.2.2 a _ hc
          obtain ⟨q6, q7⟩ := q5 rfl
          have kk := k H locs ls hR hz hl
          rw [hj] at kk
          dsimp only at q6 q7
          have hlt : ii.toNatClampNeg < xs.length := (List.getElem?_eq_some_iff.mp hv).1
          have hA : ¬ (ii < 0 ∨ x.slots.size ≤ ii.toNatClampNeg) := fun z => z.elim h0 (fun z => by rw [q7] at z; simp at z; omega)
          have hB : x.slots[ii.toNatClampNeg]? = some v := by rw [q7]; simpa using hv
          exact W.iald hx hb q1 (lArr hK (hty _ (List.contains_iff_mem.mp hm)) q2 q6) q3 hA hB rfl rfl hd kk
        · cases h
      · cases h
    · cases h
  · cases h
theorem ok_laload {ts : List Nat} (hd : decode cc (pc i) = .ok (.laload, 1)) (hty : ∀ t ∈ ts, (lty g)[t]? = some .long) (hj : pc j = pc i + 1) : lOkM g own nm cc nL pc i (fAld ts j) := by
  intro p l e R s m args below meth c H locs n0 s0 Q ls lv st M j' lv' st' M' hx hb hown hts hnm hK h b1 b2 b3 b4 hR hz hl k
  unfold fAld at h
  dsimp only at h
  split at h
  · rename_i ii a r
    split at h
    · rename_i w t' xs hc
      split at h
      · rename_i hh
        split at h
        · rename_i v hv
          cases h
          obtain ⟨hm, h0⟩ := hh
          obtain ⟨x, q1, q2, q3, q4, -, q5⟩ := hR.2.2.2 a _ hc
          obtain ⟨q6, q7⟩ := q5 rfl
          have kk := k H locs ls hR hz hl
          rw [hj] at kk
          dsimp only at q6 q7
          have hlt : ii.toNatClampNeg < xs.length := (List.getElem?_eq_some_iff.mp hv).1
          have hA : ¬ (ii < 0 ∨ x.slots.size ≤ ii.toNatClampNeg) := fun z => z.elim h0 (fun z => by rw [q7] at z; simp at z; omega)
          have hB : x.slots[ii.toNatClampNeg]? = some v := by rw [q7]; simpa using hv
          exact W.lald hx hb q1 (lArr hK (hty _ (List.contains_iff_mem.mp hm)) q2 q6) q3 hA hB rfl rfl hd kk
        · cases h
      · cases h
    · cases h
  · cases h
theorem ok_caload {ts : List Nat} (hd : decode cc (pc i) = .ok (.caload, 1)) (hty : ∀ t ∈ ts, (lty g)[t]? = some .char) (hj : pc j = pc i + 1) : lOkM g own nm cc nL pc i (fAld ts j) := by
  intro p l e R s m args below meth c H locs n0 s0 Q ls lv st M j' lv' st' M' hx hb hown hts hnm hK h b1 b2 b3 b4 hR hz hl k
  unfold fAld at h
  dsimp only at h
  split at h
  · rename_i ii a r
    split at h
    · rename_i w t' xs hc
      split at h
      · rename_i hh
        split at h
        · rename_i v hv
          cases h
          obtain ⟨hm, h0⟩ := hh
          obtain ⟨x, q1, q2, q3, q4, -, q5⟩ := hR.2.2.2 a _ hc
          obtain ⟨q6, q7⟩ := q5 rfl
          have kk := k H locs ls hR hz hl
          rw [hj] at kk
          dsimp only at q6 q7
          have hlt : ii.toNatClampNeg < xs.length := (List.getElem?_eq_some_iff.mp hv).1
          have hA : ¬ (ii < 0 ∨ x.slots.size ≤ ii.toNatClampNeg) := fun z => z.elim h0 (fun z => by rw [q7] at z; simp at z; omega)
          have hB : x.slots[ii.toNatClampNeg]? = some v := by rw [q7]; simpa using hv
          exact W.cald hx hb q1 (lArr hK (hty _ (List.contains_iff_mem.mp hm)) q2 q6) q3 hA hB rfl rfl hd kk
        · cases h
      · cases h
    · cases h
  · cases h
theorem ok_saload {ts : List Nat} (hd : decode cc (pc i) = .ok (.saload, 1)) (hty : ∀ t ∈ ts, (lty g)[t]? = some .short) (hj : pc j = pc i + 1) : lOkM g own nm cc nL pc i (fAld ts j) := by
  intro p l e R s m args below meth c H locs n0 s0 Q ls lv st M j' lv' st' M' hx hb hown hts hnm hK h b1 b2 b3 b4 hR hz hl k
  unfold fAld at h
  dsimp only at h
  split at h
  · rename_i ii a r
    split at h
    · rename_i w t' xs hc
      split at h
      · rename_i hh
        split at h
        · rename_i v hv
          cases h
          obtain ⟨hm, h0⟩ := hh
          obtain ⟨x, q1, q2, q3, q4, -, q5⟩ := hR.2.2.2 a _ hc
          obtain ⟨q6, q7⟩ := q5 rfl
          have kk := k H locs ls hR hz hl
          rw [hj] at kk
          dsimp only at q6 q7
          have hlt : ii.toNatClampNeg < xs.length := (List.getElem?_eq_some_iff.mp hv).1
          have hA : ¬ (ii < 0 ∨ x.slots.size ≤ ii.toNatClampNeg) := fun z => z.elim h0 (fun z => by rw [q7] at z; simp at z; omega)
          have hB : x.slots[ii.toNatClampNeg]? = some v := by rw [q7]; simpa using hv
          exact W.sald hx hb q1 (lArr hK (hty _ (List.contains_iff_mem.mp hm)) q2 q6) q3 hA hB rfl rfl hd kk
        · cases h
      · cases h
    · cases h
  · cases h
theorem ok_baload {tb tz : Nat} (hd : decode cc (pc i) = .ok (.baload, 1)) (hb1 : (lty g)[tb]? = some .byte) (hz1 : (lty g)[tz]? = some .boolean) (hj : pc j = pc i + 1) : lOkM g own nm cc nL pc i (fAld [tb, tz] j) := by
  intro p l e R s m args below meth c H locs n0 s0 Q ls lv st M j' lv' st' M' hx hb hown hts hnm hK h b1 b2 b3 b4 hR hz hl k
  unfold fAld at h
  dsimp only at h
  split at h
  · rename_i ii a r
    split at h
    · rename_i w t' xs hc
      split at h
      · rename_i hh
        split at h
        · rename_i v hv
          cases h
          obtain ⟨hm, h0⟩ := hh
          obtain ⟨x, q1, q2, q3, q4, -, q5⟩ := hR.2.2.2 a _ hc
          obtain ⟨q6, q7⟩ := q5 rfl
          have kk := k H locs ls hR hz hl
          rw [hj] at kk
          dsimp only at q6 q7
          have hlt : ii.toNatClampNeg < xs.length := (List.getElem?_eq_some_iff.mp hv).1
          have hA : ¬ (ii < 0 ∨ x.slots.size ≤ ii.toNatClampNeg) := fun z => z.elim h0 (fun z => by rw [q7] at z; simp at z; omega)
          have hB : x.slots[ii.toNatClampNeg]? = some v := by rw [q7]; simpa using hv
          have et : t' = tb ∨ t' = tz := by simpa using hm
          rcases et with rfl | rfl
          · exact W.bald hx hb q1 (lArr hK hb1 q2 q6) q3 hA hB rfl rfl hd kk
          · exact W.zald hx hb q1 (lArr hK hz1 q2 q6) q3 hA hB rfl rfl hd kk
        · cases h
      · cases h
    · cases h
  · cases h
theorem ok_aaload {ts : List Nat} (hd : decode cc (pc i) = .ok (.aaload, 1)) (hts2 : ∀ t ∈ ts, ∃ E, (lty g)[t]? = some (.object E)) (hj : pc j = pc i + 1) : lOkM g own nm cc nL pc i (fAld ts j) := by
  intro p l e R s m args below meth c H locs n0 s0 Q ls lv st M j' lv' st' M' hx hb hown hts hnm hK h b1 b2 b3 b4 hR hz hl k
  unfold fAld at h
  dsimp only at h
  split at h
  · rename_i ii a r
    split at h
    · rename_i w t' xs hc
      split at h
      · rename_i hh
        split at h
        · rename_i v hv
          cases h
          obtain ⟨hm, h0⟩ := hh
          obtain ⟨x, q1, q2, q3, q4, -, q5⟩ := hR.2.2.2 a _ hc
          obtain ⟨q6, q7⟩ := q5 rfl
          have kk := k H locs ls hR hz hl
          rw [hj] at kk
          dsimp only at q6 q7
          have hlt : ii.toNatClampNeg < xs.length := (List.getElem?_eq_some_iff.mp hv).1
          have hA : ¬ (ii < 0 ∨ x.slots.size ≤ ii.toNatClampNeg) := fun z => z.elim h0 (fun z => by rw [q7] at z; simp at z; omega)
          have hB : x.slots[ii.toNatClampNeg]? = some v := by rw [q7]; simpa using hv
          obtain ⟨E, hE⟩ := hts2 _ (List.contains_iff_mem.mp hm)
          exact W.aald hx hb q1 (lArr hK hE q2 q6) rfl q3 hA hB rfl rfl hd kk
        · cases h
      · cases h
    · cases h
  · cases h
theorem lSlots (x : Cell) (q : Nat) (v : Value) : (x.setSlot q v).slots = x.slots.setIfInBounds q v := rfl
theorem ok_iastore {t : Nat} (hd : decode cc (pc i) = .ok (.iastore, 1)) (hty : (lty g)[t]? = some .int) (hj : pc j = pc i + 1) : lOkM g own nm cc nL pc i (fAst t id j) := by
  intro p l e R s m args below meth c H locs n0 s0 Q ls lv st M j' lv' st' M' hx hb hown hts hnm hK h b1 b2 b3 b4 hR hz hl k
  unfold fAst at h
  dsimp only at h
  split at h
  · rename_i xv ii a r
    split at h
    · rename_i t' xs hc
      split at h
      · rename_i hh
        cases h
        obtain ⟨rfl, h0, hlt⟩ := hh
        obtain ⟨x, q1, q2, q3, q4, -, q5⟩ := hR.2.2.2 a _ hc
        obtain ⟨q6, q7⟩ := q5 rfl
        obtain ⟨ha, hv0, -⟩ := q4 rfl
        dsimp only at q6 q7
        refine W.iast hx hb q1 (lArr hK hty q2 q6) q3 (fun z => z.elim h0 (fun z => by rw [q7] at z; simp at z; omega)) rfl rfl hd fun H' e1 e2 e3 => ?_
        have kk := k H' (locs ++ [⟨a, ii.toNatClampNeg⟩]) ls (hR.put ha e2 e3 ⟨_, e1, q2, q3, q4, (fun z => by cases z), fun _ => ⟨q6, by show (x.setSlot _ _).slots = _; rw [lSlots, q7]; simp⟩⟩) (lLocs hz ha) hl
        rw [hj] at kk
        exact kk
      · cases h
    · cases h
  · cases h
def fBst (tb tz : Nat) (j : Nat) : lM := fun E st => match st.2.1 with
  | .int _ :: .int _ :: .ref a :: _ => match st.2.2.1 a with
    | some (_, true, t, _) => if t = tb then fAst tb (fun x => x.toInt8.toInt32) j E st else fAst tz (fun x => x &&& 1) j E st
    | _ => none
  | _ => none
theorem mo_fBst (tb tz j : Nat) : lMo (fBst tb tz j) := by
  intro E st i st' e
  unfold fBst at e
  split at e
  · split at e
    · split at e
      · exact mo_fAst _ _ _ E st i st' e
      · exact mo_fAst _ _ _ E st i st' e
    · cases e
  · cases e
theorem ok_bastore0 {t : Nat} (hd : decode cc (pc i) = .ok (.bastore, 1)) (hty : (lty g)[t]? = some .byte) (hj : pc j = pc i + 1) : lOkM g own nm cc nL pc i (fAst t (fun x => x.toInt8.toInt32) j) := by
  intro p l e R s m args below meth c H locs n0 s0 Q ls lv st M j' lv' st' M' hx hb hown hts hnm hK h b1 b2 b3 b4 hR hz hl k
  unfold fAst at h
  dsimp only at h
  split at h
  · rename_i xv ii a r
    split at h
    · rename_i t' xs hc
      split at h
      · rename_i hh
        cases h
        obtain ⟨rfl, h0, hlt⟩ := hh
        obtain ⟨x, q1, q2, q3, q4, -, q5⟩ := hR.2.2.2 a _ hc
        obtain ⟨q6, q7⟩ := q5 rfl
        obtain ⟨ha, hv0, -⟩ := q4 rfl
        dsimp only at q6 q7
        refine W.bast hx hb q1 (lArr hK hty q2 q6) q3 (fun z => z.elim h0 (fun z => by rw [q7] at z; simp at z; omega)) rfl rfl hd fun H' e1 e2 e3 => ?_
        have kk := k H' (locs ++ [⟨a, ii.toNatClampNeg⟩]) ls (hR.put ha e2 e3 ⟨_, e1, q2, q3, q4, (fun z => by cases z), fun _ => ⟨q6, by show (x.setSlot _ _).slots = _; rw [lSlots, q7]; simp [narrow]⟩⟩) (lLocs hz ha) hl
        rw [hj] at kk
        exact kk
      · cases h
    · cases h
  · cases h
theorem ok_zastore0 {t : Nat} (hd : decode cc (pc i) = .ok (.bastore, 1)) (hty : (lty g)[t]? = some .boolean) (hj : pc j = pc i + 1) : lOkM g own nm cc nL pc i (fAst t (fun x => x &&& 1) j) := by
  intro p l e R s m args below meth c H locs n0 s0 Q ls lv st M j' lv' st' M' hx hb hown hts hnm hK h b1 b2 b3 b4 hR hz hl k
  unfold fAst at h
  dsimp only at h
  split at h
  · rename_i xv ii a r
    split at h
    · rename_i t' xs hc
      split at h
      · rename_i hh
        cases h
        obtain ⟨rfl, h0, hlt⟩ := hh
        obtain ⟨x, q1, q2, q3, q4, -, q5⟩ := hR.2.2.2 a _ hc
        obtain ⟨q6, q7⟩ := q5 rfl
        obtain ⟨ha, hv0, -⟩ := q4 rfl
        dsimp only at q6 q7
        refine W.zast hx hb q1 (lArr hK hty q2 q6) q3 (fun z => z.elim h0 (fun z => by rw [q7] at z; simp at z; omega)) rfl rfl hd fun H' e1 e2 e3 => ?_
        have kk := k H' (locs ++ [⟨a, ii.toNatClampNeg⟩]) ls (hR.put ha e2 e3 ⟨_, e1, q2, q3, q4, (fun z => by cases z), fun _ => ⟨q6, by show (x.setSlot _ _).slots = _; rw [lSlots, q7]; simp [narrow]⟩⟩) (lLocs hz ha) hl
        rw [hj] at kk
        exact kk
      · cases h
    · cases h
  · cases h
theorem ok_bastore {tb tz : Nat} (hd : decode cc (pc i) = .ok (.bastore, 1)) (hb1 : (lty g)[tb]? = some .byte) (hz1 : (lty g)[tz]? = some .boolean) (hj : pc j = pc i + 1) : lOkM g own nm cc nL pc i (fBst tb tz j) := by
  intro p l e R s m args below meth c H locs n0 s0 Q ls lv st M j' lv' st' M' hx hb hown hts hnm hK h b1 b2 b3 b4 hR hz hl k
  unfold fBst at h
  split at h
  · split at h
    · split at h
      · exact ok_bastore0 hd hb1 hj p l e R s m args below meth c H locs n0 s0 Q ls lv st M j' lv' st' M' hx hb hown hts hnm hK h b1 b2 b3 b4 hR hz hl k
      · exact ok_zastore0 hd hz1 hj p l e R s m args below meth c H locs n0 s0 Q ls lv st M j' lv' st' M' hx hb hown hts hnm hK h b1 b2 b3 b4 hR hz hl k
    · cases h
  · cases h
theorem ok_lastore {t : Nat} (hd : decode cc (pc i) = .ok (.lastore, 1)) (hty : (lty g)[t]? = some .long) (hj : pc j = pc i + 1) : lOkM g own nm cc nL pc i (fLst t j) := by
  intro p l e R s m args below meth c H locs n0 s0 Q ls lv st M j' lv' st' M' hx hb hown hts hnm hK h b1 b2 b3 b4 hR hz hl k
  unfold fLst at h
  dsimp only at h
  split at h
  · rename_i xv ii a r
    split at h
    · rename_i t' xs hc
      split at h
      · rename_i hh
        cases h
        obtain ⟨rfl, h0, hlt⟩ := hh
        obtain ⟨x, q1, q2, q3, q4, -, q5⟩ := hR.2.2.2 a _ hc
        obtain ⟨q6, q7⟩ := q5 rfl
        obtain ⟨ha, hv0, -⟩ := q4 rfl
        dsimp only at q6 q7
        refine W.last hx hb q1 (lArr hK hty q2 q6) q3 (fun z => z.elim h0 (fun z => by rw [q7] at z; simp at z; omega)) rfl rfl hd fun H' e1 e2 e3 => ?_
        have kk := k H' (locs ++ [⟨a, ii.toNatClampNeg⟩]) ls (hR.put ha e2 e3 ⟨_, e1, q2, q3, q4, (fun z => by cases z), fun _ => ⟨q6, by show (x.setSlot _ _).slots = _; rw [lSlots, q7]; simp⟩⟩) (lLocs hz ha) hl
        rw [hj] at kk
        exact kk
      · cases h
    · cases h
  · cases h
theorem ok_getstatic {index q : Nat} {C n d ref : String} (hd : decode cc (pc i) = .ok (.getstatic index, 3)) (h1 : Cond.fieldLink own index ref n d ∈ lw_all) (hr : ref = C) (hq : lst g C n d (lev g q)) (hj : pc j = pc i + 3) : lOkM g own nm cc nL pc i (fEnv q j) := by
  intro p l e R s m args below meth c H locs n0 s0 Q ls lv st M j' lv' st' M' hx hb hown hts hnm hK h b1 b2 b3 b4 hR hz hl k
  unfold fEnv at h
  cases h
  subst hr
  obtain ⟨cf, kf, fi, f, a, cell, z1, z2, z3, z4, z5, z6, z7, z8⟩ := hK.2.2.2.2.2.2.1 _ _ _ _ hq
  have kk := k H locs ls hR hz hl
  rw [hj] at kk
  exact W.gets hx hb hown (hts _ h1) z1 z2 z3 z4 (by rw [hR.2.2.1 a (Nat.not_le.mp z8)]; exact z5) (by intro z; rw [z] at z6; cases z6) z7 rfl hd kk
theorem ok_getstaticN {index q : Nat} {C n d host : String} (hd : decode cc (pc i) = .ok (.getstatic index, 3)) (h1 : Cond.fieldLinkNest own index C n d host ∈ lw_tbl) (hq : lst g C n d (lev g q)) (hj : pc j = pc i + 3) : lOkM g own nm cc nL pc i (fEnv q j) := by
  intro p l e R s m args below meth c H locs n0 s0 Q ls lv st M j' lv' st' M' hx hb hown hts hnm hK h b1 b2 b3 b4 hR hz hl k
  unfold fEnv at h
  cases h
  obtain ⟨cf, kf, fi, f, a, cell, z1, z2, z3, z4, z5, z6, z7, z8⟩ := hK.2.2.2.2.2.2.1 _ _ _ _ hq
  have kk := k H locs ls hR hz hl
  rw [hj] at kk
  exact va_WgetsN hx hb hown (va_Nw.use rfl (hK.2.2.1 _ h1 rfl)) z1 z2 z3 z4 (by rw [hR.2.2.1 a (Nat.not_le.mp z8)]; exact z5) (by intro z; rw [z] at z6; cases z6) z7 rfl hd kk
theorem ok_ldcS {index q : Nat} {tx : String} (hd : decode cc (pc i) = .ok (.ldc index, 2)) (h1 : Cond.stringRef own index tx ∈ lw_tbl) (hq : lev g q = .ref (lsa g own index)) (hj : pc j = pc i + 2) : lOkM g own nm cc nL pc i (fEnv q j) := by
  intro p l e R s m args below meth c H locs n0 s0 Q ls lv st M j' lv' st' M' hx hb hown hts hnm hK h b1 b2 b3 b4 hR hz hl k
  unfold fEnv at h
  cases h
  have kk := k H locs ls hR hz hl
  rw [hj, hq] at kk
  exact va_ldcS hx hb hown (hK.2.2.2.2.2.1 _ _ _ h1) hd kk
theorem ok_ldcM {index q : Nat} {C : String} (hd : decode cc (pc i) = .ok (.ldc index, 2)) (h1 : Cond.classLink own index C ∈ lw_all) (h2 : C ∈ lMir) (hq : lev g q = .ref (lmi g C)) (hj : pc j = pc i + 2) : lOkM g own nm cc nL pc i (fEnv q j) := by
  intro p l e R s m args below meth c H locs n0 s0 Q ls lv st M j' lv' st' M' hx hb hown hts hnm hK h b1 b2 b3 b4 hR hz hl k
  unfold fEnv at h
  cases h
  have kk := k H locs ls hR hz hl
  rw [hj, hq] at kk
  exact va_ldcM hx hb hown (hts _ h1) (hK.2.2.2.2.2.2.2.2.1 _ h2) hd kk
theorem lRecv {s : State} (hK : lKn g s) {M : lMem} {H : Heap} (hR : lRel g M H) {a ci : Nat} {w : Bool} {fs : List Value} {r : vw_C} (hc : M.1 a = some (w, false, ci, fs)) (h1 : (lcl g)[ci]? = some r) : ∃ cell : Cell, H[a]? = some cell ∧ cell.vm.isStatics = false ∧ s.vm.findClass r.1 = some cell.cls := by
  obtain ⟨x, q1, q2, q3, q4, q5, -⟩ := hR.2.2.2 a _ hc
  obtain ⟨r', q6, q7, q8, qv, q9⟩ := q5 rfl
  dsimp only at q6 q7 q8 qv q9
  cases h1.symm.trans q6
  exact ⟨x, q1, q2, by rw [q7]; exact (hK.1 ci _ h1).1.1⟩
theorem ok_checkcast {index : Nat} {tab : List Nat} {T : String} (hd : decode cc (pc i) = .ok (.checkcast index, 3)) (h1 : Cond.classLink own index T ∈ lw_all) (ht : ∀ ci ∈ tab, ∃ r : vw_C, (lcl g)[ci]? = some r ∧ (r.1 = T ∨ Cond.castable r.1 T ∈ lw_tbl)) (hj : pc j = pc i + 3) : lOkM g own nm cc nL pc i (fCast tab j) := by
  intro p l e R s m args below meth c H locs n0 s0 Q ls lv st M j' lv' st' M' hx hb hown hts hnm hK h b1 b2 b3 b4 hR hz hl k
  unfold fCast at h
  dsimp only at h
  split at h
  · rename_i a r
    split at h
    · rename_i w ci fs hc
      split at h
      · rename_i hh
        cases h
        have kk := k H locs ls hR hz hl
        rw [hj] at kk
        obtain ⟨r', q1, q2⟩ := ht ci (List.contains_iff_mem.mp hh)
        rcases q2 with rfl | q2
        · exact va_castS hx hb hown (hts _ h1) (hK.1 ci _ q1).1 (lRecv hK hR hc q1) hd kk
        · exact va_castY hx hb hown (hts _ h1) (hK.2.2.1 _ q2 rfl) (lRecv hK hR hc q1) hd kk
      · cases h
    · cases h
  · cases h
    have kk := k H locs ls hR hz hl
    rw [hj] at kk
    exact lv_castN hx hb hd kk
  · cases h
theorem ok_aastore {tab : List (Nat × Nat)} (hd : decode cc (pc i) = .ok (.aastore, 1)) (ht : ∀ q ∈ tab, ∃ (r : vw_C) (E : String), (lcl g)[q.2]? = some r ∧ (lty g)[q.1]? = some (.object E) ∧ (r.1 = E ∨ Cond.castable r.1 E ∈ lw_tbl)) (hj : pc j = pc i + 1) : lOkM g own nm cc nL pc i (fRst tab j) := by
  intro p l e R s m args below meth c H locs n0 s0 Q ls lv st M j' lv' st' M' hx hb hown hts hnm hK h b1 b2 b3 b4 hR hz hl k
  unfold fRst at h
  dsimp only at h
  split at h
  · rename_i v ii a r
    split at h
    · rename_i t xs hc
      split at h
      · rename_i w ci fs hv
        split at h
        · rename_i hh
          cases h
          obtain ⟨hm, h0, hlt⟩ := hh
          obtain ⟨rr, E, g1, g2, g3⟩ := ht _ (List.contains_iff_mem.mp hm)
          obtain ⟨x, q1, q2, q3, q4, -, q5⟩ := hR.2.2.2 a _ hc
          obtain ⟨q6, q7⟩ := q5 rfl
          obtain ⟨ha, hv0, -⟩ := q4 rfl
          dsimp only at q6 q7
          obtain ⟨kA, comp, f1, f2, f3⟩ := lKa hK.2.1 g2 q6
          obtain ⟨xv, p1, p2, p3⟩ := lRecv hK hR hv g1
          have hfc := f3 E rfl
          obtain ⟨kE, hkE, -⟩ := Vm.findClass_spec hfc
          obtain ⟨kV, hkV, -⟩ := Vm.findClass_spec p3
          have has : s.vm.assignable xv.cls comp = true := by
            rcases g3 with rfl | g3
            · have e2 : xv.cls = comp := Option.some.inj (p3.symm.trans hfc)
              obtain ⟨c1, c2⟩ := (hK.1 _ _ g1).1
              have e3 := Option.some.inj (p3.symm.trans c1)
              rw [← e2, e3]
              exact va_assign ⟨c1, c2⟩
            · obtain ⟨c0, t0, d1, d2, d3⟩ := Cond.castable_spec (va_Nw.use (A := args) rfl (hK.2.2.1 _ g3 rfl))
              cases p3.symm.trans d1
              cases hfc.symm.trans d2
              exact d3
          refine W.aast hx hb q1 (fun q z => by rw [z] at q2; cases q2) q3 f1 f2 rfl hkE ⟨h0, by rw [q7]; simpa using hlt⟩ p1 (fun q z => by rw [z] at p2; cases p2) hkV has rfl rfl hd fun H' e1 e2 e3 => ?_
          have kk := k H' (locs ++ [⟨a, ii.toNatClampNeg⟩]) ls (hR.put ha e2 e3 ⟨_, e1, q2, q3, q4, (fun z => by cases z), fun _ => ⟨q6, by show (x.setSlot _ _).slots = _; rw [lSlots, q7]; simp⟩⟩) (lLocs hz ha) hl
          rw [hj] at kk
          exact kk
        · cases h
      · cases h
    · cases h
  · rename_i ii a r
    split at h
    · rename_i t xs hc
      split at h
      · rename_i hh
        cases h
        obtain ⟨hm, h0, hlt⟩ := hh
        obtain ⟨⟨t2, c2⟩, hm1, hm2⟩ := List.any_eq_true.mp hm
        obtain ⟨rr, E, g1, g2, g3⟩ := ht _ hm1
        have et : t2 = t := by simpa using hm2
        subst et
        obtain ⟨x, q1, q2, q3, q4, -, q5⟩ := hR.2.2.2 a _ hc
        obtain ⟨q6, q7⟩ := q5 rfl
        obtain ⟨ha, hv0, -⟩ := q4 rfl
        dsimp only at q6 q7
        refine va_WaastN hx hb q1 (lArr hK g2 q2 q6) q3 (fun z => z.elim h0 (fun z => by rw [q7] at z; simp at z; omega)) rfl rfl hd fun H' e1 e2 e3 => ?_
        have kk := k H' (locs ++ [⟨a, ii.toNatClampNeg⟩]) ls (hR.put ha e2 e3 ⟨_, e1, q2, q3, q4, (fun z => by cases z), fun _ => ⟨q6, by show (x.setSlot _ _).slots = _; rw [lSlots, q7]; simp⟩⟩) (lLocs hz ha) hl
        rw [hj] at kk
        exact kk
      · cases h
    · cases h
  · cases h
end LMem
