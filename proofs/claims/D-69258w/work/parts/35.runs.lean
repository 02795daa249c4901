/-! runs of methods, calls, what is thrown -/
def lRun (E : lE) (rec : lRec) (cd : Nat → Option lI) : Nat → Nat → lS → Option lF
  | 0, _, _ => none
  | f + 1, i, st => match cd i with
    | none => none
    | some ins => match ins E rec st with
      | none => none
      | some (.inl (j, st')) => lRun E rec cd f j st'
      | some (.inr fin) => some fin
/-- a method: name, code, locals, answer, handlers (none: without a table) -/
abbrev lInf : Type := MethodName × ByteArray × Nat × Option FieldType × Option (List (Nat × Nat × Nat × Nat))
def lWs (q : lInf) : List Cond := match q.2.2.2.2 with
  | none => ws_ q.1 q.2.1 q.2.2.1 q.2.2.2.1
  | some hh => wsW_ q.1 q.2.1 q.2.2.1 q.2.2.2.1 hh
def lQc (g : lG) (fin : lF) : Array Value → State → Outcome → State → Prop := fun _ _ o t => ∃ v, fin.1 = .inl v ∧ o = .returned v ∧ lRel g fin.2 t.heap
def lKd (g : lG) (M : lMem) (q : Nat) (E : String) : Prop := ∃ (w : Bool) (ci : Nat) (fs : List Value) (r : vw_C), M.1 q = some (w, false, ci, fs) ∧ ci ≠ 0 ∧ (lcl g)[ci]? = some r ∧ r.1 = E
def lXC (g : lG) (fin : lF) : String → Addr → State → State → Prop := fun E q _ t => fin.1 = .inr q ∧ lRel g fin.2 t.heap ∧ lKd g fin.2 q E
def lRm (d : Nat) (M : lMem) (fin : lF) : Room := { frames := 2 * d, cells := fin.2.2.1 - M.2.1, slots := fin.2.2.2 - M.2.2, locals := 64 * d }
def lPc (g : lG) (args : List Value) (M : lMem) : Array Value → State → Prop := va_Pc args (fun U => lRel g M U.heap ∧ lKn g U)
/-- what a method's frame knows all through -/
def lCx (g : lG) (q : lInf) (l : Launch) (d : Nat) (p : Program) (e : Env) (R : Room) (s : State) (m : MethodId) (args : Array Value) (below : List Frame) (meth : Method) (c : Code) : Prop :=
  p.tables.exec = Jvm.exec ∧ c.code = q.2.1 ∧ c.maxLocals = q.2.2.1 ∧ s.vm.findClass q.1.cls = some m.cls ∧ (∀ w ∈ lw_all, w.before args s = true) ∧ meth.sig.returnType = q.2.2.2.1 ∧ meth.locks = false ∧ meth.name = q.1.name ∧ c.exceptionTable.toList = tableOf (q.2.2.2.2.getD []) ∧ lKn g s ∧ R.frames = 2 * d ∧ R.locals = 64 * d ∧ ∀ z, z < lba g → s.heap[z]? = (lh0 g)[z]?
/-- a method's run, over any frames -/
def lBod (g : lG) (l : Launch) (q : lInf) (d : Nat) (args : List Value) (M : lMem) (fin : lF) : Prop :=
  ∀ (p : Program) (e : Env) (R : Room) (s : State) (m : MethodId) (below : List Frame) (meth : Method) (c : Code), lCx g q l d p e R s m args.toArray below meth c → fin.2.2.1 ≤ M.2.1 + R.cells → fin.2.2.2 ≤ M.2.2 + R.slots → lRel g M s.heap →
    W p l e R s m args.toArray below meth c s.heap [] 0 0 (vx_MQ below (lQc g fin) (lXC g fin) args.toArray s (fin.2.2.1 - M.2.1) (fin.2.2.2 - M.2.2) (fun a => lba g ≤ a)) (entryFrame m args.toArray q.2.2.1)
def lMet (g : lG) (l : Launch) (q : lInf) (d : Nat) (args : List Value) (M : lMem) (fin : lF) : Prop :=
  (plainName q.1.cls = true → vx_Met l q.1 (lWs q) (lRm d M fin) (lPc g args M) (lQc g fin) (lXC g fin) (fin.2.2.1 - M.2.1) (fin.2.2.2 - M.2.2) (fun a => lba g ≤ a)) ∧ lBod g l q d args M fin
def lLe (M M' : lMem) : Prop := M.2.1 ≤ M'.2.1 ∧ M.2.2 ≤ M'.2.2
theorem lLe.rf (M : lMem) : lLe M M := ⟨Nat.le_refl _, Nat.le_refl _⟩
theorem lLe.tr {A B C : lMem} (h : lLe A B) (k : lLe B C) : lLe A C := ⟨Nat.le_trans h.1 k.1, Nat.le_trans h.2 k.2⟩
def lRecOk (g : lG) (inf : Nat → Option lInf) (l : Launch) (d : Nat) (rec : lRec) : Prop := l.stackTraces = false ∧ ∀ i args M fin, rec i args M = some fin → lLe M fin.2 ∧ ∃ q, inf i = some q ∧ lMet g l q d args M fin
theorem lPc.blind (g : lG) (args : List Value) (M : lMem) : FrameBlind (lPc g args M) := fun a U gg mk h => ⟨h.1, h.2.1, lKn.same (s := U) (U := U.calling gg mk a) rfl h.2.2⟩
def lW (g : lG) (q : lInf) (pc : Nat → Nat) (n0 s0 : Nat) (fin : lF) (p : Program) (l : Launch) (e : Env) (R : Room) (s : State) (m : MethodId) (args : Array Value) (below : List Frame) (meth : Method) (c : Code) (i : Nat) (st : lS) : Prop :=
  ∀ (H : Heap) (locs : List Loc) (ls : Array Slot), lRel g st.2.2 H → (∀ z ∈ locs, lba g ≤ z.base) → lv_has ls q.2.2.1 st.1 →
    W p l e R s m args below meth c H locs (st.2.2.2.1 - n0) (st.2.2.2.2 - s0) (vx_MQ below (lQc g fin) (lXC g fin) args s (fin.2.2.1 - n0) (fin.2.2.2 - s0) (fun a => lba g ≤ a)) (F0 m (pc i) ls st.2.1)
abbrev lNx (g : lG) (q : lInf) (pc : Nat → Nat) (n0 s0 : Nat) (fin : lF) (p : Program) (l : Launch) (e : Env) (R : Room) (s : State) (m : MethodId) (args : Array Value) (below : List Frame) (meth : Method) (c : Code) : lR → Prop
  | .inl x => lW g q pc n0 s0 fin p l e R s m args below meth c x.1 x.2
  | .inr f' => f' = fin
def lrm : lR → lMem
  | .inl r => r.2.2.2
  | .inr f => f.2
def lOk (g : lG) (inf : Nat → Option lInf) (q : lInf) (pc : Nat → Nat) (i : Nat) (f : lI) : Prop :=
  ∀ (l : Launch) (d : Nat) (rec : lRec), lRecOk g inf l d rec → (∀ st r, f (lev g) rec st = some r → lLe st.2.2 (lrm r)) ∧
    ∀ (p : Program) (e : Env) (R : Room) (s : State) (m : MethodId) (args : Array Value) (below : List Frame) (meth : Method) (c : Code), lCx g q l (d + 1) p e R s m args below meth c →
      ∀ (n0 s0 : Nat) (fin : lF) (st : lS) (r : lR), f (lev g) rec st = some r → n0 ≤ st.2.2.2.1 → s0 ≤ st.2.2.2.2 → fin.2.2.1 ≤ n0 + R.cells → fin.2.2.2 ≤ s0 + R.slots → lLe (lrm r) fin.2 →
        lNx g q pc n0 s0 fin p l e R s m args below meth c r → lW g q pc n0 s0 fin p l e R s m args below meth c i st
theorem lOk_M {g : lG} {inf : Nat → Option lInf} {q : lInf} {pc : Nat → Nat} {i : Nat} {h : lM} (ok : lOkM g q.1.cls q.1.name q.2.1 q.2.2.1 pc i h) (mo : lMo h) : lOk g inf q pc i (lMemI h) := by
  intro l d rec hrec
  refine ⟨fun st r e => ?_, ?_⟩
  · unfold lMemI at e
    split at e
    · rename_i x hx
      cases e
      exact mo _ st x.1 x.2 hx
    · cases e
  · intro p e R s m args below meth c hC n0 s0 fin st r hf b1 b2 b3 b4 hle k
    unfold lMemI at hf
    split at hf
    · rename_i x hx
      cases hf
      obtain ⟨j, lv', st', M'⟩ := x
      obtain ⟨lv, stk, M⟩ := st
      obtain ⟨c1, c2, c3, c4, c5, c6, c7, c8, c9, c10, -⟩ := hC
      intro H locs ls hR hz hl
      exact ok p l e R s m args below meth c H locs n0 s0 _ ls lv stk M j lv' st' M' c1 c2 c4 c5 c8 c10 hx b1 b2 (Nat.le_trans hle.1 b3) (Nat.le_trans hle.2 b4) hR hz hl (fun H' locs' ls' hR' hz' hl' => k H' locs' ls' hR' hz' hl')
    · cases hf
theorem lRun_ok {g : lG} {inf : Nat → Option lInf} {q : lInf} {pc : Nat → Nat} {cd : Nat → Option lI} (hcd : ∀ i f, cd i = some f → lOk g inf q pc i f) {l : Launch} {d : Nat} {rec : lRec} (hrec : lRecOk g inf l d rec) :
    ∀ (fuel i : Nat) (st : lS) (fin : lF), lRun (lev g) rec cd fuel i st = some fin → lLe st.2.2 fin.2 ∧
      ∀ (p : Program) (e : Env) (R : Room) (s : State) (m : MethodId) (args : Array Value) (below : List Frame) (meth : Method) (c : Code), lCx g q l (d + 1) p e R s m args below meth c → ∀ (n0 s0 : Nat), n0 ≤ st.2.2.2.1 → s0 ≤ st.2.2.2.2 → fin.2.2.1 ≤ n0 + R.cells → fin.2.2.2 ≤ s0 + R.slots →
        lW g q pc n0 s0 fin p l e R s m args below meth c i st := by
  intro fuel
  induction fuel with
  | zero => intro i st fin h; cases h
  | succ fuel ih =>
    intro i st fin h
    unfold lRun at h
    split at h
    · cases h
    · rename_i ins hi
      obtain ⟨hm, ho⟩ := hcd i ins hi l d rec hrec
      split at h
      · cases h
      · rename_i j st' he
        obtain ⟨h1, h2⟩ := ih j st' fin h
        have h3 := hm st _ he
        refine ⟨h3.tr h1, fun p e R s m args below meth c hC n0 s0 b1 b2 b3 b4 => ?_⟩
        exact ho p e R s m args below meth c hC n0 s0 fin st _ he b1 b2 b3 b4 h1 (h2 p e R s m args below meth c hC n0 s0 (Nat.le_trans b1 h3.1) (Nat.le_trans b2 h3.2) b3 b4)
      · rename_i fin' he
        cases h
        refine ⟨hm st _ he, fun p e R s m args below meth c hC n0 s0 b1 b2 b3 b4 => ?_⟩
        exact ho p e R s m args below meth c hC n0 s0 _ st _ he b1 b2 b3 b4 (lLe.rf _) rfl
/-- a method's run is its contract -/
theorem lMet_run {g : lG} {inf : Nat → Option lInf} {q : lInf} {pc : Nat → Nat} {cd : Nat → Option lI} (hcd : ∀ i f, cd i = some f → lOk g inf q pc i f) (hpc : pc 0 = 0) {l : Launch} {d : Nat} {rec : lRec} (hrec : lRecOk g inf l d rec) {fuel : Nat} {args : List Value} {M : lMem} {fin : lF}
    (hlen : (lg_sl args).length ≤ q.2.2.1) (h : lRun (lev g) rec cd fuel 0 (lv_args 0 args, [], M) = some fin) : lLe M fin.2 ∧ lMet g l q (d + 1) args M fin := by
  obtain ⟨h1, h2⟩ := lRun_ok hcd hrec fuel 0 _ fin h
  have bod : lBod g l q (d + 1) args M fin := by
    intro p e R s m below meth c hC b3 b4 hR
    have w := h2 p e R s m args.toArray below meth c hC M.2.1 M.2.2 (Nat.le_refl _) (Nat.le_refl _) b3 b4
    rw [lg_entry_eq]
    have w2 := w s.heap [] _ hR (fun z hz => by cases hz) (lv_entry args hlen)
    dsimp only at w2
    rw [Nat.sub_self, Nat.sub_self, hpc] at w2
    exact w2
  refine ⟨h1, fun hy => ?_, bod⟩
  clear bod
  obtain ⟨y, cc, nL, ret, hh⟩ := q
  have body : ∀ (p : Program) (e : Env) (s : State) (m : MethodId) (as : Array Value) (below : List Frame) (meth : Method) (c : Code) (ws : List Cond), ws = lWs (y, cc, nL, ret, hh) → p.tables.exec = Jvm.exec → c.code = cc → c.maxLocals = nL → s.vm.findClass y.cls = some m.cls → (∀ w ∈ lw_all, w.before as s = true) → meth.sig.returnType = ret → meth.locks = false → meth.name = y.name → c.exceptionTable.toList = tableOf (hh.getD []) → lPc g args M as s →
      W p l e (headSpec ws (lRm (d + 1) M fin)).room s m as below meth c s.heap [] 0 0 (vx_MQ below (lQc g fin) (lXC g fin) as s (fin.2.2.1 - M.2.1) (fin.2.2.2 - M.2.2) (fun a => lba g ≤ a)) (entryFrame m as nL) := by
    intro p e s m as below meth c ws hws a1 a2 a3 a4 a5 a6 a7 a8 a9 hp
    obtain ⟨rfl, hR, hK⟩ := hp
    have w := h2 p e (headSpec ws (lRm (d + 1) M fin)).room s m args.toArray below meth c ⟨a1, a2, a3, a4, a5, a6, a7, a8, a9, hK, rfl, rfl, hR.2.2.1⟩ M.2.1 M.2.2 (Nat.le_refl _) (Nat.le_refl _) (by show fin.2.2.1 ≤ M.2.1 + (fin.2.2.1 - M.2.1); omega) (by show fin.2.2.2 ≤ M.2.2 + (fin.2.2.2 - M.2.2); omega)
    rw [lg_entry_eq]
    have w2 := w s.heap [] _ hR (fun z hz => by cases hz) (lv_entry args hlen)
    dsimp only at w2
    rw [Nat.sub_self, Nat.sub_self, hpc] at w2
    exact w2
  cases hh with
  | none =>
    refine vx_ofW (cc := cc) (maxL := nL) (ret := ret) hy rfl ?_
    intro p e s m as below meth c s₁ B hml hex hv
    have hts := atoms_spec (ws := ws_ y cc nL ret) B.pre
    exact body p e s m as below meth c _ rfl B.exec B.bytes hml (findClass_of_methodNamed B.named) (fun w h => hts w (List.mem_cons_of_mem _ h)) B.returns B.notSynchronized (name_of_methodNamed B.named B.method).1 (List.eq_nil_iff_forall_not_mem.mpr (fun x hx => hex x hx)) hv
  | some hh =>
    refine vx_ofWH (cc := cc) (maxL := nL) (ret := ret) (hh := hh) hy rfl ?_
    intro p e s m as below meth c s₁ B hml hv
    have hts := atoms_spec (ws := wsW_ y cc nL ret hh) B.pre
    exact body p e s m as below meth c _ rfl B.exec B.bytes hml (findClass_of_methodNamed B.named) (fun w h => hts w (List.mem_cons_of_mem _ h)) B.returns B.notSynchronized (name_of_methodNamed B.named B.method).1 (vx_table (x := y) B (hts _ List.mem_cons_self)) hv
/-! handlers: by the kind of what is thrown: none: not said; some none: it goes on to the caller; some (some t): caught at t -/
abbrev lHd : Type := Nat → Option (Option Nat)
def lThrow (hd : lHd) (l : lL) (q : Nat) (M : lMem) : Option lR := match M.1 q with
  | some (_, false, ci, _) => if ci = 0 then none else match hd ci with
    | none => none
    | some none => some (.inr (.inr q, M))
    | some (some t) => some (.inl (t, l, [.ref q], M))
  | _ => none
def lPass (g : lG) (own : String) (pc0 : Nat) (E : String) (z : ExceptionTableEntry) : Prop := covers z pc0 = false ∨ (z.catchType ≠ 0 ∧ ∃ nm : String, Cond.classLink own z.catchType nm ∈ lw_all ∧ lnc g E nm)
def lHdOk (g : lG) (q : lInf) (pc : Nat → Nat) (i : Nat) (hd : lHd) : Prop := ∀ (ci : Nat) (r : vw_C), (lcl g)[ci]? = some r →
  (hd ci = some none → ∀ z ∈ tableOf (q.2.2.2.2.getD []), lPass g q.1.cls (pc i) r.1 z) ∧
  ∀ t, hd ci = some (some t) → ∃ (pre : List ExceptionTableEntry) (x : ExceptionTableEntry) (suf : List ExceptionTableEntry) (nm : String), tableOf (q.2.2.2.2.getD []) = pre ++ x :: suf ∧ (∀ z ∈ pre, lPass g q.1.cls (pc i) r.1 z) ∧ covers x (pc i) = true ∧ x.catchType ≠ 0 ∧ Cond.classLink q.1.cls x.catchType nm ∈ lw_all ∧ Cond.castable r.1 nm ∈ lw_tbl ∧ x.handlerPc = pc t
theorem lThrow_mem {hd : lHd} {l : lL} {q : Nat} {M : lMem} {r : lR} (h : lThrow hd l q M = some r) : lrm r = M := by
  unfold lThrow at h
  split at h
  · split at h
    · cases h
    · split at h
      · cases h
      · cases h; rfl
      · cases h; rfl
  · cases h
theorem lThrow_ok {g : lG} {q : lInf} {pc : Nat → Nat} {i : Nat} {hd : lHd} (ok : lHdOk g q pc i hd) {l : Launch} {d : Nat} {p : Program} {e : Env} {R : Room} {s : State} {m : MethodId} {args : Array Value} {below : List Frame} {meth : Method} {c : Code} (hC : lCx g q l d p e R s m args below meth c)
    {n0 s0 : Nat} {fin : lF} {lv : lL} {a : Nat} {M : lMem} {r : lR} (h : lThrow hd lv a M = some r) {H : Heap} {locs : List Loc} {ls : Array Slot} {rest : List Value} (hR : lRel g M H) (hz : ∀ z ∈ locs, lba g ≤ z.base) (hl : lv_has ls q.2.2.1 lv)
    (k : lNx g q pc n0 s0 fin p l e R s m args below meth c r) :
    vx_W p l e R s m args below meth c H locs (M.2.1 - n0) (M.2.2 - s0) (vx_MQ below (lQc g fin) (lXC g fin) args s (fin.2.2.1 - n0) (fin.2.2.2 - s0) (fun a => lba g ≤ a)) (F0 m (pc i) ls rest) a := by
  obtain ⟨c1, c2, c3, c4, c5, c6, c7, c8, c9, c10, -⟩ := hC
  unfold lThrow at h
  split at h
  · rename_i w ci fs hc
    split at h
    · cases h
    · rename_i h0
      obtain ⟨x, q1, q2, q3, q4, q5, -⟩ := hR.2.2.2 a _ hc
      obtain ⟨r', q6, q7, q8, qv, q9⟩ := q5 rfl
      have hcl : s.vm.findClass r'.1 = some x.cls := by rw [q7]; exact (c10.1 ci _ q6).1.1
      have hkd : lKd g M a r'.1 := ⟨w, ci, fs, r', hc, h0, q6, rfl⟩
      have hps : ∀ z, lPass g q.1.cls (pc i) r'.1 z → covers z (pc i) = false ∨ (z.catchType ≠ 0 ∧ ∃ nm : String, (Cond.classLink q.1.cls z.catchType nm).before args s = true ∧ va_Nc r'.1 nm s) := by
        intro z hz
        rcases hz with hz | ⟨z1, nm, z2, z3⟩
        · exact Or.inl hz
        · exact Or.inr ⟨z1, nm, c5 _ z2, c10.2.2.2.2.2.2.2.1 _ _ z3⟩
      split at h
      · cases h
      · rename_i hhd
        cases h
        obtain rfl : _ = fin := k
        refine vx_outP c4 c7 (fun z hz => hps z ((ok ci r' q6).1 hhd z (by rw [← c9]; exact hz))) q1 (qv h0) hcl (fun t ht _ => ⟨rfl, by rw [ht]; exact hR, hkd⟩) hz (Nat.le_refl _) (Nat.le_refl _)
      · rename_i t hhd
        cases h
        obtain ⟨pre, x2, suf, nm, e1, e2, e3, e4, e5, e6, e7⟩ := (ok ci r' q6).2 t hhd
        refine vx_catch c4 pre x2 suf (c9.trans e1) (fun z hz => hps z (e2 z hz)) e3 e4 (c5 _ e5) (va_Nw.use rfl (c10.2.2.1 _ e6 rfl)) q1 (qv h0) hcl ?_
        rw [e7]
        exact k H locs ls hR hz hl
  · cases h
def fThrow (hd : lHd) : lI := fun _ _ st => match st.2.1 with
  | .ref q :: _ => lThrow hd st.1 q st.2.2
  | _ => none
theorem ok_athrow {g : lG} {inf : Nat → Option lInf} {q : lInf} {pc : Nat → Nat} {i : Nat} {hd : lHd} (hdg : decode q.2.1 (pc i) = .ok (.athrow, 1)) (ok : lHdOk g q pc i hd) : lOk g inf q pc i (fThrow hd) := by
  intro l d rec hrec
  refine ⟨fun st r e => ?_, ?_⟩
  · unfold fThrow at e
    split at e
    · rw [lThrow_mem e]; exact lLe.rf _
    · cases e
  · intro p e R s m args below meth c hC n0 s0 fin st r hf b1 b2 b3 b4 hle k
    obtain ⟨lv, stk, M⟩ := st
    unfold fThrow at hf
    dsimp only at hf
    split at hf
    · rename_i a rest
      intro H locs ls hR hz hl
      exact vx_athrow hC.1 hC.2.1 hdg (lThrow_ok ok hC hf hR hz hl k)
    · cases hf
/-! returns -/
def fRetI (ty : FieldType) : lI := fun _ _ st => match st.2.1 with
  | [.int v] => if fits ty (.int v) = true then some (.inr (.inl (some (.int v)), st.2.2)) else none
  | _ => none
def fRetL : lI := fun _ _ st => match st.2.1 with
  | [.long v] => some (.inr (.inl (some (.long v)), st.2.2))
  | _ => none
def fRetA : lI := fun _ _ st => match st.2.1 with
  | [.ref v] => some (.inr (.inl (some (.ref v)), st.2.2))
  | [.null] => some (.inr (.inl (some .null), st.2.2))
  | _ => none
def fRetV : lI := fun _ _ st => match st.2.1 with
  | [] => some (.inr (.inl none, st.2.2))
  | _ => none
section LRet
variable {g : lG} {inf : Nat → Option lInf} {q : lInf} {pc : Nat → Nat} {i : Nat}
theorem ok_ireturn {ty : FieldType} (hdg : decode q.2.1 (pc i) = .ok (.ireturn, 1)) (hr : q.2.2.2.1 = some ty) : lOk g inf q pc i (fRetI ty) := by
  intro l d rec hrec
  refine ⟨fun st r e => ?_, ?_⟩
  · unfold fRetI at e
    split at e
    · split at e
      · cases e; exact lLe.rf _
      · cases e
    · cases e
  · intro p e R s m args below meth c hC n0 s0 fin st r hf b1 b2 b3 b4 hle k
    obtain ⟨lv, stk, M⟩ := st
    unfold fRetI at hf
    dsimp only at hf
    split at hf
    · rename_i v
      split at hf
      · rename_i hfit
        cases hf
        obtain rfl : _ = fin := k
        intro H locs ls hR hz hl
        exact vx_ret (W.zret hC.1 hC.2.1 (hC.2.2.2.2.2.1.trans hr) (lNar hfit) (fun t ht _ => ⟨_, rfl, rfl, by rw [ht]; exact hR⟩) hz hdg hC.2.2.2.2.2.2.1)
      · cases hf
    · cases hf
theorem ok_lreturn (hdg : decode q.2.1 (pc i) = .ok (.lreturn, 1)) (hr : q.2.2.2.1 = some .long) : lOk g inf q pc i fRetL := by
  intro l d rec hrec
  refine ⟨fun st r e => ?_, ?_⟩
  · unfold fRetL at e
    split at e
    · cases e; exact lLe.rf _
    · cases e
  · intro p e R s m args below meth c hC n0 s0 fin st r hf b1 b2 b3 b4 hle k
    obtain ⟨lv, stk, M⟩ := st
    unfold fRetL at hf
    dsimp only at hf
    split at hf
    · cases hf
      obtain rfl : _ = fin := k
      intro H locs ls hR hz hl
      exact vx_ret (W.lret hC.1 hC.2.1 (hC.2.2.2.2.2.1.trans hr) (fun t ht _ => ⟨_, rfl, rfl, by rw [ht]; exact hR⟩) hz hdg hC.2.2.2.2.2.2.1)
    · cases hf
theorem ok_areturn {rt : FieldType} (hdg : decode q.2.1 (pc i) = .ok (.areturn, 1)) (hr : q.2.2.2.1 = some rt) (hrt : (∃ n, rt = .object n) ∨ ∃ t, rt = .array t) : lOk g inf q pc i fRetA := by
  intro l d rec hrec
  refine ⟨fun st r e => ?_, ?_⟩
  · unfold fRetA at e
    split at e
    · cases e; exact lLe.rf _
    · cases e; exact lLe.rf _
    · cases e
  · intro p e R s m args below meth c hC n0 s0 fin st r hf b1 b2 b3 b4 hle k
    obtain ⟨lv, stk, M⟩ := st
    unfold fRetA at hf
    dsimp only at hf
    split at hf
    · cases hf
      obtain rfl : _ = fin := k
      intro H locs ls hR hz hl
      exact vx_ret (W.aret hC.1 hC.2.1 (hC.2.2.2.2.2.1.trans hr) hrt (Or.inr ⟨_, rfl⟩) (fun t ht _ => ⟨_, rfl, rfl, by rw [ht]; exact hR⟩) hz hdg hC.2.2.2.2.2.2.1)
    · cases hf
      obtain rfl : _ = fin := k
      intro H locs ls hR hz hl
      exact vx_ret (W.aret hC.1 hC.2.1 (hC.2.2.2.2.2.1.trans hr) hrt (Or.inl rfl) (fun t ht _ => ⟨_, rfl, rfl, by rw [ht]; exact hR⟩) hz hdg hC.2.2.2.2.2.2.1)
    · cases hf
theorem ok_return (hdg : decode q.2.1 (pc i) = .ok (.return_, 1)) (hr : q.2.2.2.1 = none) : lOk g inf q pc i fRetV := by
  intro l d rec hrec
  refine ⟨fun st r e => ?_, ?_⟩
  · unfold fRetV at e
    split at e
    · cases e; exact lLe.rf _
    · cases e
  · intro p e R s m args below meth c hC n0 s0 fin st r hf b1 b2 b3 b4 hle k
    obtain ⟨lv, stk, M⟩ := st
    unfold fRetV at hf
    dsimp only at hf
    split at hf
    · cases hf
      obtain rfl : _ = fin := k
      intro H locs ls hR hz hl
      exact vx_ret (W.vret hC.1 hC.2.1 (hC.2.2.2.2.2.1.trans hr) (fun t ht _ => ⟨_, rfl, rfl, by rw [ht]; exact hR⟩) hz hdg hC.2.2.2.2.2.2.1)
    · cases hf
end LRet
/-! Object's constructor; what isn't covered -/
def fObj (j : Nat) : lI := fun _ _ st => match st.2.1 with
  | .ref _ :: r => if (r.map (fun v => v.category)).sum ≤ 8 then some (.inl (j, st.1, r, st.2.2)) else none
  | _ => none
theorem ok_objInit {g : lG} {inf : Nat → Option lInf} {q : lInf} {pc : Nat → Nat} {i j index : Nat} (hd : decode q.2.1 (pc i) = .ok (.invokespecial index, 3)) (w1 : Cond.methodLink q.1.cls index Lib.objectInit ∈ lw_all) (w2 : Cond.instanceMethod Lib.objectInit ∈ lw_all) (w3 : Cond.code Lib.objectInit ⟨#[0xb1]⟩ 1 none ∈ lw_all) (hj : pc j = pc i + 3) : lOk g inf q pc i (fObj j) := by
  intro l d rec hrec
  refine ⟨fun st r e => ?_, ?_⟩
  · unfold fObj at e
    split at e
    · split at e
      · cases e; exact lLe.rf _
      · cases e
    · cases e
  · intro p e R s m args below meth c hC n0 s0 fin st r hf b1 b2 b3 b4 hle k
    obtain ⟨lv, stk, M⟩ := st
    unfold fObj at hf
    dsimp only at hf
    split at hf
    · rename_i a rest
      split at hf
      · rename_i hs
        cases hf
        obtain ⟨c1, c2, c3, c4, c5, c6, c7, c8, c9, c10, c11, c12, c13⟩ := hC
        intro H locs ls hR hz hl
        have kk := k H locs ls hR hz hl
        rw [hj] at kk
        refine W.objInit c1 c2 c4 (c5 _ w1) (c5 _ w2) (c5 _ w3) rfl (by rw [c3]; exact hl.1) rfl hd (by rw [c11]; exact Nat.succ_le_succ (Nat.zero_le _)) ?_ kk
        rw [c12]
        show 2 * 0 + _ + 12 ≤ _
        omega
      · cases hf
    · cases hf
def fStuck : lI := fun _ _ _ => none
theorem ok_stuck {g : lG} {inf : Nat → Option lInf} {q : lInf} {pc : Nat → Nat} {i : Nat} : lOk g inf q pc i fStuck := by
  intro l d rec hrec
  refine ⟨(fun st r e => by cases e), ?_⟩
  intro p e R s m args below meth c hC n0 s0 fin st r hf
  cases hf
abbrev aP (h : lP) : lI := lMemI (lPm h)
abbrev aM (h : lM) : lI := lMemI h
theorem oP {g : lG} {inf : Nat → Option lInf} {q : lInf} {pc : Nat → Nat} {i : Nat} {h : lP} (ok : lOkP q.1.cls q.2.1 q.2.2.1 pc i h) : lOk g inf q pc i (aP h) := lOk_M (lOkM_P ok) (lMo_P h)
theorem oM {g : lG} {inf : Nat → Option lInf} {q : lInf} {pc : Nat → Nat} {i : Nat} {h : lM} (ok : lOkM g q.1.cls q.1.name q.2.1 q.2.2.1 pc i h) (mo : lMo h) : lOk g inf q pc i (aM h) := lOk_M ok mo
/-- a list of instructions from the i-th place on -/
def lOks (g : lG) (inf : Nat → Option lInf) (q : lInf) (pc : Nat → Nat) : Nat → List lI → Prop
  | _, [] => True
  | i, f :: r => lOk g inf q pc i f ∧ lOks g inf q pc (i + 1) r
theorem lOks.app {g : lG} {inf : Nat → Option lInf} {q : lInf} {pc : Nat → Nat} {a b : List lI} {i : Nat} (n : Nat) (hn : i + a.length = n) (ha : lOks g inf q pc i a) (hb : lOks g inf q pc n b) : lOks g inf q pc i (a ++ b) := by
  induction a generalizing i with
  | nil => subst hn; exact hb
  | cons x r ih => exact ⟨ha.1, ih (by rw [← hn, List.length_cons]; omega) ha.2⟩
theorem lOks.get {g : lG} {inf : Nat → Option lInf} {q : lInf} {pc : Nat → Nat} {a : List lI} {i : Nat} (h : lOks g inf q pc i a) : ∀ (k : Nat) (f : lI), a[k]? = some f → lOk g inf q pc (i + k) f := by
  induction a generalizing i with
  | nil => intro k f e; cases e
  | cons x r ih =>
    intro k f e
    cases k with
    | zero => cases e; exact h.1
    | succ k =>
      have := ih h.2 k f e
      rwa [show i + 1 + k = i + (k + 1) by omega] at this
theorem lOks.all {g : lG} {inf : Nat → Option lInf} {q : lInf} {pc : Nat → Nat} {a : List lI} (h : lOks g inf q pc 0 a) : ∀ (k : Nat) (f : lI), (fun i : Nat => a[i]?) k = some f → lOk g inf q pc k f := by
  intro k f e
  have := h.get k f e
  rwa [Nat.zero_add] at this
theorem lAll0 {α : Type} {P : α → Prop} : ∀ x ∈ ([] : List α), P x := fun _ h => by cases h
theorem lAllc {α : Type} {P : α → Prop} {a : α} {l : List α} (h : P a) (t : ∀ x ∈ l, P x) : ∀ x ∈ a :: l, P x := List.forall_mem_cons.mpr ⟨h, t⟩
abbrev hdOut : lHd := fun _ => some none
theorem hd_out {g : lG} {q : lInf} {pc : Nat → Nat} {i : Nat} (h : q.2.2.2.2 = none) : lHdOk g q pc i hdOut := by
  intro ci r hr
  refine ⟨fun _ z hz => ?_, (fun t ht => by cases ht)⟩
  rw [h] at hz
  cases hz
abbrev hdNil : lHd := fun _ => none
def hdIf (a : Nat) (v : Option (Option Nat)) (k : lHd) : lHd := fun ci => if ci = a then v else k ci
theorem hdOk_nil {g : lG} {q : lInf} {pc : Nat → Nat} {i : Nat} : lHdOk g q pc i hdNil := fun ci r hr => ⟨(fun h => by cases h), (fun t h => by cases h)⟩
theorem hdOk_out {g : lG} {q : lInf} {pc : Nat → Nat} {i a : Nat} {r0 : vw_C} {k : lHd} (h1 : (lcl g)[a]? = some r0) (h2 : ∀ z ∈ tableOf (q.2.2.2.2.getD []), lPass g q.1.cls (pc i) r0.1 z) (h3 : lHdOk g q pc i k) : lHdOk g q pc i (hdIf a (some none) k) := by
  intro ci r hr
  unfold hdIf
  by_cases e : ci = a
  · subst e
    cases h1.symm.trans hr
    rw [if_pos rfl]
    exact ⟨fun _ => h2, (fun t h => by cases h)⟩
  · rw [if_neg e]
    exact h3 ci r hr
theorem hdOk_in {g : lG} {q : lInf} {pc : Nat → Nat} {i a t0 : Nat} {r0 : vw_C} {k : lHd} (h1 : (lcl g)[a]? = some r0) (h2 : ∃ (pre : List ExceptionTableEntry) (x : ExceptionTableEntry) (suf : List ExceptionTableEntry) (nm : String), tableOf (q.2.2.2.2.getD []) = pre ++ x :: suf ∧ (∀ z ∈ pre, lPass g q.1.cls (pc i) r0.1 z) ∧ covers x (pc i) = true ∧ x.catchType ≠ 0 ∧ Cond.classLink q.1.cls x.catchType nm ∈ lw_all ∧ Cond.castable r0.1 nm ∈ lw_tbl ∧ x.handlerPc = pc t0) (h3 : lHdOk g q pc i k) : lHdOk g q pc i (hdIf a (some (some t0)) k) := by
  intro ci r hr
  unfold hdIf
  by_cases e : ci = a
  · subst e
    cases h1.symm.trans hr
    rw [if_pos rfl]
    exact ⟨(fun h => by cases h), (fun t h => by cases h; exact h2)⟩
  · rw [if_neg e]
    exact h3 ci r hr
theorem hdOk_outL {g : lG} {q : lInf} {pc : Nat → Nat} {i a : Nat} {r0 : vw_C} {k : lHd} {L : List ExceptionTableEntry} (hT : tableOf (q.2.2.2.2.getD []) = L) (h1 : (lcl g)[a]? = some r0) (h2 : ∀ z ∈ L, lPass g q.1.cls (pc i) r0.1 z) (h3 : lHdOk g q pc i k) : lHdOk g q pc i (hdIf a (some none) k) := hdOk_out h1 (by rw [hT]; exact h2) h3
theorem hdOk_inL {g : lG} {q : lInf} {pc : Nat → Nat} {i a t0 : Nat} {r0 : vw_C} {k : lHd} {pre suf : List ExceptionTableEntry} {x : ExceptionTableEntry} {nm : String} (hT : tableOf (q.2.2.2.2.getD []) = pre ++ x :: suf) (h1 : (lcl g)[a]? = some r0) (h2 : ∀ z ∈ pre, lPass g q.1.cls (pc i) r0.1 z) (h3 : covers x (pc i) = true) (h4 : x.catchType ≠ 0) (h5 : Cond.classLink q.1.cls x.catchType nm ∈ lw_all) (h6 : Cond.castable r0.1 nm ∈ lw_tbl) (h7 : x.handlerPc = pc t0) (h8 : lHdOk g q pc i k) : lHdOk g q pc i (hdIf a (some (some t0)) k) :=
  hdOk_in h1 ⟨pre, x, suf, nm, hT, h2, h3, h4, h5, h6, h7⟩ h8
theorem lPassN {g : lG} {own : String} {pc0 : Nat} {E nm : String} {z : ExceptionTableEntry} (h1 : z.catchType ≠ 0) (h2 : Cond.classLink own z.catchType nm ∈ lw_all) (h3 : lnc g E nm) : lPass g own pc0 E z := Or.inr ⟨h1, nm, h2, h3⟩
theorem lPassC {g : lG} {own : String} {pc0 : Nat} {E : String} {z : ExceptionTableEntry} (h1 : covers z pc0 = false) : lPass g own pc0 E z := Or.inl h1
