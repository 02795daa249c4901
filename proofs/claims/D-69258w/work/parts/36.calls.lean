/-! calls -/
def fCall (hd : lHd) (n mi j : Nat) : lI := fun _ rec st =>
  if n ≤ st.2.1.length ∧ ((st.2.1.drop n).map (fun v => v.category)).sum ≤ 8 then
    match rec mi (st.2.1.take n).reverse st.2.2 with
    | none => none
    | some (.inl v, M') => some (.inl (j, st.1, v.toList ++ st.2.1.drop n, M'))
    | some (.inr q, M') => lThrow hd st.1 q M'
  else none
/-- by the receiver's kind: n arguments beside it -/
def fCallV (hd : lHd) (n : Nat) (tab : List (Nat × Nat)) (j : Nat) : lI := fun E rec st => match st.2.1[n]? with
  | some (.ref b) => match st.2.2.1 b with
    | some (_, false, ci, _) => match lLook tab ci with
      | some mi => fCall hd (n + 1) mi j E rec st
      | none => none
    | _ => none
  | _ => none
/-- a constructor, or another method of a known kind: the receiver isn't null -/
def fCallI (hd : lHd) (n mi j : Nat) : lI := fun E rec st => match st.2.1[n]? with
  | some (.ref _) => fCall hd (n + 1) mi j E rec st
  | _ => none
def lRunP (len : Nat) (p : Program) (l : Launch) (e : Env) (R : Room) (s : State) (m : MethodId) (args : Array Value) (below : List Frame) (meth : Method) (c : Code) (H : Heap) (locs : List Loc) (cells slots mc ms : Nat) (g : JFrame) (rest : List Value) (Qa : State → Outcome → State → Prop) (XC : String → Addr → State → State → Prop) (free : Addr → Prop) : Prop :=
  ∀ T : State, T.heap = H → Stand p l e R s m args below meth c T locs cells slots →
    (∃ (v : Option Value) (st₀ t T' : State) (L : List Loc), st₀.heap = H ∧ Stand p l e R s m args below meth c T' (locs ++ L) (cells + mc) (slots + ms) ∧ (∀ q ∈ L, free q.base) ∧ T'.heap = t.heap ∧ T'.vm = t.vm ∧ Qa st₀ (.returned v) t ∧ Goes p e below T g T' { g with pc := g.pc + len, stack := v.toList ++ rest }) ∨
    (∃ (q : Addr) (st₀ t T' : State) (L : List Loc) (E : String) (ce : Cell), st₀.heap = H ∧ Stand p l e R s m args below meth c T' (locs ++ L) (cells + mc) (slots + ms) ∧ (∀ z ∈ L, free z.base) ∧ T'.heap = t.heap ∧ T'.vm = t.vm ∧ XC E q st₀ t ∧ t.heap[q]? = some ce ∧ ce.vm = .none ∧ s.vm.findClass E = some ce.cls ∧ Steps p.tables e below (T.setTop g) ((T'.setTop { g with stack := rest }).pushFrame (.throwing q)))
/-- how a call comes to its target: n words of arguments (the receiver first, of the ci-th kind) -/
def lTgt (len : Nat) (g : lG) (inf : Nat → Option lInf) (q : lInf) (pc : Nat → Nat) (i n mi : Nat) (ci : Option Nat) : Prop :=
  ∀ (l : Launch) (d : Nat) (p : Program) (e : Env) (R : Room) (s : State) (m : MethodId) (args : Array Value) (below : List Frame) (meth : Method) (c : Code), lCx g q l (d + 1) p e R s m args below meth c →
    ∀ (As : List Value) (M : lMem) (f1 : lF) (qi : lInf), inf mi = some qi → lMet g l qi d As M f1 → As.length = n → (∀ k, ci = some k → ∃ (b : Nat) (As' : List Value), As = .ref b :: As' ∧ ∃ (w : Bool) (fs : List Value), M.1 b = some (w, false, k, fs)) →
    ∀ (H : Heap) (locs : List Loc) (ls : Array Slot) (stk rest : List Value) (cells slots : Nat), stk = As.reverse ++ rest → lRel g M H → ls.size = q.2.2.1 → (rest.map (fun v => v.category)).sum ≤ 8 → cells + (f1.2.2.1 - M.2.1) ≤ R.cells → slots + (f1.2.2.2 - M.2.2) ≤ R.slots →
      lRunP len p l e R s m args below meth c H locs cells slots (f1.2.2.1 - M.2.1) (f1.2.2.2 - M.2.2) (F0 m (pc i) ls stk) rest (lQc g f1 As.toArray) (lXC g f1) (fun a => lba g ≤ a)
theorem fCall_mono {hd : lHd} {n mi j : Nat} {E : lE} {rec : lRec} (hrec : ∀ i args M fin, rec i args M = some fin → lLe M fin.2) {st : lS} {r : lR} (h : fCall hd n mi j E rec st = some r) : lLe st.2.2 (lrm r) := by
  unfold fCall at h
  split at h
  · split at h
    · cases h
    · rename_i e1
      cases h
      exact hrec _ _ _ _ e1
    · rename_i e1
      rw [lThrow_mem h]
      exact hrec _ _ _ _ e1
  · cases h
theorem fCall_ok {len : Nat} {g : lG} {inf : Nat → Option lInf} {q : lInf} {pc : Nat → Nat} {i j n mi : Nat} {ci : Option Nat} {hd : lHd} (ok : lHdOk g q pc i hd) (tg : lTgt len g inf q pc i n mi ci) (hj : pc j = pc i + len) {l : Launch} {d : Nat} {rec : lRec} (hrec : lRecOk g inf l d rec)
    {p : Program} {e : Env} {R : Room} {s : State} {m : MethodId} {args : Array Value} {below : List Frame} {meth : Method} {c : Code} (hC : lCx g q l (d + 1) p e R s m args below meth c) {n0 s0 : Nat} {fin : lF} {st : lS} {r : lR}
    (hci : ∀ k, ci = some k → ∃ (b : Nat) (As' : List Value), (st.2.1.take n).reverse = .ref b :: As' ∧ ∃ (w : Bool) (fs : List Value), st.2.2.1 b = some (w, false, k, fs))
    (hf : fCall hd n mi j (lev g) rec st = some r) (b1 : n0 ≤ st.2.2.2.1) (b2 : s0 ≤ st.2.2.2.2) (b3 : fin.2.2.1 ≤ n0 + R.cells) (b4 : fin.2.2.2 ≤ s0 + R.slots) (hle : lLe (lrm r) fin.2)
    (k : lNx g q pc n0 s0 fin p l e R s m args below meth c r) : lW g q pc n0 s0 fin p l e R s m args below meth c i st := by
  obtain ⟨lv, stk, M⟩ := st
  have hmm := hf
  unfold fCall at hf
  dsimp only at hf
  split at hf
  · rename_i hh
    intro H locs ls hR hz hl
    have hstk : stk = ((stk.take n).reverse).reverse ++ stk.drop n := by rw [List.reverse_reverse, List.take_append_drop]
    have hlen : ((stk.take n).reverse).length = n := by rw [List.length_reverse, List.length_take]; omega
    have key : ∀ f1 : lF, rec mi (stk.take n).reverse M = some f1 → lLe f1.2 fin.2 → lRunP len p l e R s m args below meth c H locs (M.2.1 - n0) (M.2.2 - s0) (f1.2.2.1 - M.2.1) (f1.2.2.2 - M.2.2) (F0 m (pc i) ls stk) (stk.drop n) (lQc g f1 ((stk.take n).reverse).toArray) (lXC g f1) (fun a => lba g ≤ a) ∧ (M.2.1 - n0 + (f1.2.2.1 - M.2.1) = f1.2.2.1 - n0) ∧ (M.2.2 - s0 + (f1.2.2.2 - M.2.2) = f1.2.2.2 - s0) := by
      intro f1 e1 hl1
      obtain ⟨h1, qi, h2, h3⟩ := hrec.2 _ _ _ _ e1
      obtain ⟨hl1a, hl1b⟩ := hl1
      obtain ⟨h1a, h1b⟩ := h1
      dsimp only at b1 b2
      refine ⟨tg l d p e R s m args below meth c hC _ M f1 qi h2 h3 hlen hci H locs ls stk _ _ _ hstk hR hl.1 hh.2 (by omega) (by omega), by omega, by omega⟩
    split at hf
    · cases hf
    · rename_i v M' e1
      cases hf
      obtain ⟨hr, k1, k2⟩ := key _ e1 hle
      intro T hT X
      rcases hr T hT X with ⟨v', st₀, t, T', L, h0, X', hL, e2, e3, ⟨v2, hv2, hv3, hq⟩, stp⟩ | ⟨a, st₀, t, T', L, E, ce, h0, X', hL, e2, e3, ⟨hx1, -, -⟩, -⟩
      · cases hv2
        cases hv3
        rw [k1, k2] at X'
        have kk := k T'.heap (locs ++ L) ls (by rw [e2]; exact hq) (fun z hz' => (List.mem_append.mp hz').elim (hz z) (hL z)) hl
        rw [hj] at kk
        obtain ⟨t2, a1, b1⟩ := kk T' rfl X'
        exact ⟨t2, stp t2 a1, b1⟩
      · cases hx1
    · rename_i a M' e1
      obtain ⟨hr, k1, k2⟩ := key _ e1 (by rw [← lThrow_mem hf]; exact hle)
      intro T hT X
      rcases hr T hT X with ⟨v', st₀, t, T', L, h0, X', hL, e2, e3, ⟨v2, hv2, -, -⟩, stp⟩ | ⟨a', st₀, t, T', L, E, ce, h0, X', hL, e2, e3, ⟨hx1, hx2, hx3⟩, hce, hcv, hcl, stp⟩
      · cases hv2
      · cases hx1
        rw [k1, k2] at X'
        have w := lThrow_ok (rest := stk.drop n) ok hC hf (H := T'.heap) (locs := locs ++ L) (by rw [e2]; exact hx2) (fun z hz' => (List.mem_append.mp hz').elim (hz z) (hL z)) hl k
        obtain ⟨t2, a1, b1⟩ := w T' rfl X'
        exact ⟨t2, stp.trans a1, b1⟩
  · cases hf
theorem ok_fCall {len : Nat} {g : lG} {inf : Nat → Option lInf} {q : lInf} {pc : Nat → Nat} {i j n mi : Nat} {hd : lHd} (ok : lHdOk g q pc i hd) (tg : lTgt len g inf q pc i n mi none) (hj : pc j = pc i + len) : lOk g inf q pc i (fCall hd n mi j) := by
  intro l d rec hrec
  refine ⟨fun st r e => fCall_mono (fun i args M fin h => (hrec.2 i args M fin h).1) e, ?_⟩
  intro p e R s m args below meth c hC n0 s0 fin st r hf b1 b2 b3 b4 hle k
  exact fCall_ok ok tg hj hrec hC (fun k hk => by cases hk) hf b1 b2 b3 b4 hle k
theorem lTake {stk : List Value} {n b : Nat} (h : stk[n]? = some (.ref b)) : (stk.take (n + 1)).reverse = .ref b :: (stk.take n).reverse := by
  have hlt : n < stk.length := (List.getElem?_eq_some_iff.mp h).1
  have e : stk[n] = .ref b := (List.getElem?_eq_some_iff.mp h).2
  rw [List.take_succ_eq_append_getElem hlt, List.reverse_append, e]
  rfl
theorem ok_fCallV {len : Nat} {g : lG} {inf : Nat → Option lInf} {q : lInf} {pc : Nat → Nat} {i j n : Nat} {tab : List (Nat × Nat)} {hd : lHd} (ok : lHdOk g q pc i hd) (tg : ∀ x ∈ tab, lTgt len g inf q pc i (n + 1) x.2 (some x.1)) (hj : pc j = pc i + len) : lOk g inf q pc i (fCallV hd n tab j) := by
  intro l d rec hrec
  refine ⟨fun st r e => ?_, ?_⟩
  · unfold fCallV at e
    split at e
    · split at e
      · split at e
        · exact fCall_mono (fun i args M fin h => (hrec.2 i args M fin h).1) e
        · cases e
      · cases e
    · cases e
  · intro p e R s m args below meth c hC n0 s0 fin st r hf b1 b2 b3 b4 hle k
    unfold fCallV at hf
    split at hf
    · rename_i b hb
      split at hf
      · rename_i w ci fs hc
        split at hf
        · rename_i mi hm
          refine fCall_ok ok (tg _ (lLook_mem hm)) hj hrec hC (fun k hk => ?_) hf b1 b2 b3 b4 hle k
          cases hk
          exact ⟨b, _, lTake hb, w, fs, hc⟩
        · cases hf
      · cases hf
    · cases hf
theorem ok_fCallI {len : Nat} {g : lG} {inf : Nat → Option lInf} {q : lInf} {pc : Nat → Nat} {i j n mi : Nat} {hd : lHd} (ok : lHdOk g q pc i hd) (tg : lTgt len g inf q pc i (n + 1) mi none) (hj : pc j = pc i + len) : lOk g inf q pc i (fCallI hd n mi j) := by
  intro l d rec hrec
  refine ⟨fun st r e => ?_, ?_⟩
  · unfold fCallI at e
    split at e
    · exact fCall_mono (fun i args M fin h => (hrec.2 i args M fin h).1) e
    · cases e
  · intro p e R s m args below meth c hC n0 s0 fin st r hf b1 b2 b3 b4 hle k
    unfold fCallI at hf
    split at hf
    · exact fCall_ok ok tg hj hrec hC (fun k hk => by cases hk) hf b1 b2 b3 b4 hle k
    · cases hf
section LTgt
variable {g : lG} {inf : Nat → Option lInf} {q : lInf} {pc : Nat → Nat} {i n mi index : Nat} {y x : MethodName} {bytes : ByteArray} {maxL : Nat} {ret : Option FieldType} {hh : List (Nat × Nat × Nat × Nat)}
theorem tg_S (hd : decode q.2.1 (pc i) = .ok (.invokestatic index, 3)) (hi : inf mi = some (y, bytes, maxL, ret, none)) (w1 : Cond.methodLink q.1.cls index y ∈ lw_all) (w2 : Cond.static y ∈ lw_all) (w3 : Cond.initialized y.cls ∈ lw_all) (w4 : Cond.code y bytes maxL ret ∈ lw_all) (hn : y.cls ≠ "java/lang/invoke/MethodHandle" ∧ y.cls ≠ "java/lang/invoke/VarHandle" ∧ (parseMethodDescriptor y.desc).map (fun d => d.parameters.length) = some n) (hL : maxL ≤ 45 ∧ plainName y.cls = true) : lTgt 3 g inf q pc i n mi none := by
  intro l d p e R s m args below meth c hC As M f1 qi hq hM hAs hci H locs ls stk rest cells slots hstk hR hsz hW h1 h2
  obtain ⟨c1, c2, c3, c4, c5, c6, c7, c8, c9, c10, c11, c12, c13⟩ := hC
  cases hi.symm.trans hq
  exact vx_runS (As := As) (rest := rest) ⟨c1, c2, c3, c4, c5⟩ (hM.1 hL.2) (va_cwS n c5 (lw_S w1 w2 w3 w4) rfl rfl rfl hn ⟨by rw [c11]; show 2 * d + 1 ≤ 2 * (d + 1); omega, by rw [c12]; show 8 + (maxL + 11) + 64 * d ≤ 64 * (d + 1); omega⟩) ⟨lPc.blind _ _ _, fun U hU hW' => ⟨rfl, by rw [hU]; exact hR, c10.warm hW'⟩⟩ rfl hAs hsz hstk (by simpa using hW) hd ⟨h1, h2⟩
theorem tg_SX (hd : decode q.2.1 (pc i) = .ok (.invokestatic index, 3)) (hi : inf mi = some (y, bytes, maxL, ret, some hh)) (w1 : Cond.methodLink q.1.cls index y ∈ lw_all) (w2 : Cond.static y ∈ lw_all) (w3 : Cond.initialized y.cls ∈ lw_all) (w4 : Cond.codeWith y bytes maxL ret hh ∈ lw_all) (hn : y.cls ≠ "java/lang/invoke/MethodHandle" ∧ y.cls ≠ "java/lang/invoke/VarHandle" ∧ (parseMethodDescriptor y.desc).map (fun d => d.parameters.length) = some n) (hL : maxL ≤ 45 ∧ plainName y.cls = true) : lTgt 3 g inf q pc i n mi none := by
  intro l d p e R s m args below meth c hC As M f1 qi hq hM hAs hci H locs ls stk rest cells slots hstk hR hsz hW h1 h2
  obtain ⟨c1, c2, c3, c4, c5, c6, c7, c8, c9, c10, c11, c12, c13⟩ := hC
  cases hi.symm.trans hq
  exact vx_runSX (As := As) (rest := rest) ⟨c1, c2, c3, c4, c5⟩ (hM.1 hL.2) (vx_cwSW n c5 (lw_SW w1 w2 w3 w4) rfl rfl rfl hn ⟨by rw [c11]; show 2 * d + 1 ≤ 2 * (d + 1); omega, by rw [c12]; show 8 + (maxL + 11) + 64 * d ≤ 64 * (d + 1); omega⟩) ⟨lPc.blind _ _ _, fun U hU hW' => ⟨rfl, by rw [hU]; exact hR, c10.warm hW'⟩⟩ rfl hAs hsz hstk (by simpa using hW) hd ⟨h1, h2⟩
theorem tg_V {ci : Nat} {r : vw_C} (hd : decode q.2.1 (pc i) = .ok (.invokevirtual index, 3)) (hi : inf mi = some (y, bytes, maxL, ret, none)) (hk : (lcl g)[ci]? = some r) (w1 : Cond.methodLink q.1.cls index y ∈ lw_all) (w2 : Cond.instanceMethod y ∈ lw_all) (w3 : Cond.selects r.1 y y ∈ lw_all) (w4 : Cond.initialized r.1 ∈ lw_all) (w5 : Cond.code y bytes maxL ret ∈ lw_all) (hn : y.cls = r.1 ∧ y.cls ≠ "java/lang/invoke/MethodHandle" ∧ y.cls ≠ "java/lang/invoke/VarHandle" ∧ (parseMethodDescriptor y.desc).map (fun d => d.parameters.length) = some n) (hL : maxL ≤ 45 ∧ plainName y.cls = true) : lTgt 3 g inf q pc i (n + 1) mi (some ci) := by
  intro l d p e R s m args below meth c hC As M f1 qi hq hM hAs hci H locs ls stk rest cells slots hstk hR hsz hW h1 h2
  obtain ⟨c1, c2, c3, c4, c5, c6, c7, c8, c9, c10, c11, c12, c13⟩ := hC
  cases hi.symm.trans hq
  obtain ⟨b, As', rfl, w, fs, hb⟩ := hci _ rfl
  have hrecv := lRecv c10 hR hb hk
  exact vx_runV (As := As') (rest := rest) ⟨c1, c2, c3, c4, c5⟩ (hM.1 hL.2) (cwV n c5 (lw_V w1 w2 w3 w4 w5) rfl rfl rfl hn ⟨by rw [c11]; show 2 * d + 1 ≤ 2 * (d + 1); omega, by rw [c12]; show 8 + (maxL + 11) + 64 * d ≤ 64 * (d + 1); omega⟩) ⟨lPc.blind _ _ _, hrecv, fun U hU hW' => ⟨rfl, by rw [hU]; exact hR, c10.warm hW'⟩⟩ rfl (by simpa using hAs) hsz (by rw [hstk]; simp) (by simpa using hW) hd ⟨h1, h2⟩
theorem tg_VX {ci : Nat} {r : vw_C} (hd : decode q.2.1 (pc i) = .ok (.invokevirtual index, 3)) (hi : inf mi = some (y, bytes, maxL, ret, some hh)) (hk : (lcl g)[ci]? = some r) (w1 : Cond.methodLink q.1.cls index y ∈ lw_all) (w2 : Cond.instanceMethod y ∈ lw_all) (w3 : Cond.selects r.1 y y ∈ lw_all) (w4 : Cond.initialized r.1 ∈ lw_all) (w5 : Cond.codeWith y bytes maxL ret hh ∈ lw_all) (hn : y.cls = r.1 ∧ y.cls ≠ "java/lang/invoke/MethodHandle" ∧ y.cls ≠ "java/lang/invoke/VarHandle" ∧ (parseMethodDescriptor y.desc).map (fun d => d.parameters.length) = some n) (hL : maxL ≤ 45 ∧ plainName y.cls = true) : lTgt 3 g inf q pc i (n + 1) mi (some ci) := by
  intro l d p e R s m args below meth c hC As M f1 qi hq hM hAs hci H locs ls stk rest cells slots hstk hR hsz hW h1 h2
  obtain ⟨c1, c2, c3, c4, c5, c6, c7, c8, c9, c10, c11, c12, c13⟩ := hC
  cases hi.symm.trans hq
  obtain ⟨b, As', rfl, w, fs, hb⟩ := hci _ rfl
  have hrecv := lRecv c10 hR hb hk
  exact vx_runVX (As := As') (rest := rest) ⟨c1, c2, c3, c4, c5⟩ (hM.1 hL.2) (vx_cwVW n c5 (lw_VW w1 w2 w3 w4 w5) rfl rfl rfl hn ⟨by rw [c11]; show 2 * d + 1 ≤ 2 * (d + 1); omega, by rw [c12]; show 8 + (maxL + 11) + 64 * d ≤ 64 * (d + 1); omega⟩) ⟨lPc.blind _ _ _, hrecv, fun U hU hW' => ⟨rfl, by rw [hU]; exact hR, c10.warm hW'⟩⟩ rfl (by simpa using hAs) hsz (by rw [hstk]; simp) (by simpa using hW) hd ⟨h1, h2⟩
theorem tg_U {ci : Nat} {r : vw_C} {owner : String} (hd : decode q.2.1 (pc i) = .ok (.invokevirtual index, 3)) (hi : inf mi = some (y, bytes, maxL, ret, none)) (hk : (lcl g)[ci]? = some r) (hT : ∀ w ∈ va_wsU q.1.cls index r.1 owner x y [], w ∈ lw_all) (w5 : Cond.code y bytes maxL ret ∈ lw_all) (hyx : y = ⟨owner, x.name, x.desc⟩) (hn : owner ≠ "java/lang/invoke/MethodHandle" ∧ owner ≠ "java/lang/invoke/VarHandle" ∧ (parseMethodDescriptor x.desc).map (fun d => d.parameters.length) = some n) (hL : maxL ≤ 45 ∧ plainName y.cls = true) : lTgt 3 g inf q pc i (n + 1) mi (some ci) := by
  intro l d p e R s m args below meth c hC As M f1 qi hq hM hAs hci H locs ls stk rest cells slots hstk hR hsz hW h1 h2
  obtain ⟨c1, c2, c3, c4, c5, c6, c7, c8, c9, c10, c11, c12, c13⟩ := hC
  cases hi.symm.trans hq
  obtain ⟨b, As', rfl, w, fs, hb⟩ := hci _ rfl
  have hrecv := lRecv c10 hR hb hk
  exact vx_runU (As := As') (rest := rest) ⟨c1, c2, c3, c4, c5⟩ (hM.1 hL.2) (va_cwU n c5 (lw_app (fun w hw => hT w (List.mem_append_left _ hw)) (lw_meth w5)) rfl rfl rfl hyx hn ⟨by rw [c11]; show 2 * d + 1 ≤ 2 * (d + 1); omega, by rw [c12]; show 8 + (maxL + 11) + 64 * d ≤ 64 * (d + 1); omega⟩) ⟨lPc.blind _ _ _, hrecv, fun U hU hW' => ⟨rfl, by rw [hU]; exact hR, c10.warm hW'⟩⟩ rfl (by simpa using hAs) hsz (by rw [hstk]; simp) (by simpa using hW) hd ⟨h1, h2⟩
theorem tg_O {ci : Nat} {r : vw_C} {owner : String} {b0 : ByteArray} {m0 : Nat} {r0 : Option FieldType} (hd : decode q.2.1 (pc i) = .ok (.invokevirtual index, 3)) (hi : inf mi = some (y, bytes, maxL, ret, none)) (hk : (lcl g)[ci]? = some r) (hT : ∀ w ∈ va_wsO q.1.cls index r.1 owner x y [], w ∈ lw_all) (w5 : Cond.code y bytes maxL ret ∈ lw_all) (h0 : Cond.code ⟨owner, x.name, x.desc⟩ b0 m0 r0 ∈ lw_all) (hn : owner ≠ "java/lang/invoke/MethodHandle" ∧ owner ≠ "java/lang/invoke/VarHandle" ∧ (parseMethodDescriptor x.desc).map (fun d => d.parameters.length) = some n) (hL : maxL ≤ 45 ∧ plainName y.cls = true) : lTgt 3 g inf q pc i (n + 1) mi (some ci) := by
  intro l d p e R s m args below meth c hC As M f1 qi hq hM hAs hci H locs ls stk rest cells slots hstk hR hsz hW h1 h2
  obtain ⟨c1, c2, c3, c4, c5, c6, c7, c8, c9, c10, c11, c12, c13⟩ := hC
  cases hi.symm.trans hq
  obtain ⟨b, As', rfl, w, fs, hb⟩ := hci _ rfl
  have hrecv := lRecv c10 hR hb hk
  exact vx_runU (As := As') (rest := rest) ⟨c1, c2, c3, c4, c5⟩ (hM.1 hL.2) (va_cwO n c5 (lw_app (fun w hw => hT w (List.mem_append_left _ hw)) (lw_meth w5)) rfl rfl rfl h0 hn ⟨by rw [c11]; show 2 * d + 1 ≤ 2 * (d + 1); omega, by rw [c12]; show 8 + (maxL + 11) + 64 * d ≤ 64 * (d + 1); omega⟩) ⟨lPc.blind _ _ _, hrecv, fun U hU hW' => ⟨rfl, by rw [hU]; exact hR, c10.warm hW'⟩⟩ rfl (by simpa using hAs) hsz (by rw [hstk]; simp) (by simpa using hW) hd ⟨h1, h2⟩
theorem tg_I {ci : Nat} (hd : decode q.2.1 (pc i) = .ok (.invokespecial index, 3)) (hi : inf mi = some (y, bytes, maxL, none, none)) (w1 : Cond.methodLink q.1.cls index y ∈ lw_all) (w2 : Cond.instanceMethod y ∈ lw_all) (w3 : Cond.initialized y.cls ∈ lw_all) (w4 : Cond.code y bytes maxL none ∈ lw_all) (hy : y.name = "<init>") (hn : y.cls ≠ "java/lang/invoke/MethodHandle" ∧ y.cls ≠ "java/lang/invoke/VarHandle" ∧ (parseMethodDescriptor y.desc).map (fun d => d.parameters.length) = some n) (hL : maxL ≤ 45 ∧ plainName y.cls = true) : lTgt 3 g inf q pc i (n + 1) mi (some ci) := by
  intro l d p e R s m args below meth c hC As M f1 qi hq hM hAs hci H locs ls stk rest cells slots hstk hR hsz hW h1 h2
  obtain ⟨c1, c2, c3, c4, c5, c6, c7, c8, c9, c10, c11, c12, c13⟩ := hC
  cases hi.symm.trans hq
  obtain ⟨b, As', rfl, w, fs, hb⟩ := hci _ rfl
  exact vx_runI (As := As') (rest := rest) ⟨c1, c2, c3, c4, c5⟩ (hM.1 hL.2) (cwI n c5 (lw_meth w4) rfl rfl rfl (c5 _ w3) (c5 _ w1) (c5 _ w2) hy hn ⟨by rw [c11]; show 2 * d + 1 ≤ 2 * (d + 1); omega, by rw [c12]; show 8 + (maxL + 11) + 64 * d ≤ 64 * (d + 1); omega⟩) ⟨lPc.blind _ _ _, fun U hU hW' => ⟨rfl, by rw [hU]; exact hR, c10.warm hW'⟩⟩ rfl (by simpa using hAs) hsz (by rw [hstk]; simp) (by simpa using hW) hd ⟨h1, h2⟩
theorem tg_IN {ci : Nat} {host : String} (hd : decode q.2.1 (pc i) = .ok (.invokespecial index, 3)) (hi : inf mi = some (y, bytes, maxL, none, none)) (w1 : Cond.methodLinkNest q.1.cls index y host ∈ lw_tbl) (w2 : Cond.instanceMethod y ∈ lw_all) (w3 : Cond.initialized y.cls ∈ lw_all) (w4 : Cond.code y bytes maxL none ∈ lw_all) (hy : y.name = "<init>") (hn : y.cls ≠ "java/lang/invoke/MethodHandle" ∧ y.cls ≠ "java/lang/invoke/VarHandle" ∧ (parseMethodDescriptor y.desc).map (fun d => d.parameters.length) = some n) (hL : maxL ≤ 45 ∧ plainName y.cls = true) : lTgt 3 g inf q pc i (n + 1) mi (some ci) := by
  intro l d p e R s m args below meth c hC As M f1 qi hq hM hAs hci H locs ls stk rest cells slots hstk hR hsz hW h1 h2
  obtain ⟨c1, c2, c3, c4, c5, c6, c7, c8, c9, c10, c11, c12, c13⟩ := hC
  cases hi.symm.trans hq
  obtain ⟨b, As', rfl, w, fs, hb⟩ := hci _ rfl
  exact vx_runIN (As := As') (rest := rest) ⟨c1, c2, c3, c4, c5⟩ (hM.1 hL.2) ⟨va_cnB n c5 (lw_meth w4) rfl rfl rfl (c10.2.2.1 _ w1 rfl) (c5 _ w3) hn ⟨by rw [c11]; show 2 * d + 1 ≤ 2 * (d + 1); omega, by rw [c12]; show 8 + (maxL + 11) + 64 * d ≤ 64 * (d + 1); omega⟩, hy, c5 _ w2⟩ ⟨lPc.blind _ _ _, fun U hU hW' => ⟨rfl, by rw [hU]; exact hR, c10.warm hW'⟩⟩ rfl (by simpa using hAs) hsz (by rw [hstk]; simp) (by simpa using hW) hd ⟨h1, h2⟩
theorem tg_VN {ci : Nat} {r : vw_C} {host : String} (hd : decode q.2.1 (pc i) = .ok (.invokevirtual index, 3)) (hi : inf mi = some (y, bytes, maxL, ret, none)) (hk : (lcl g)[ci]? = some r) (w1 : Cond.methodLinkNest q.1.cls index y host ∈ lw_tbl) (w2 : Cond.instanceMethod y ∈ lw_all) (w3 : Cond.initialized y.cls ∈ lw_all) (w4 : Cond.code y bytes maxL ret ∈ lw_all) (w5 : Cond.selects r.1 y y ∈ lw_all) (hn : y.cls ≠ "java/lang/invoke/MethodHandle" ∧ y.cls ≠ "java/lang/invoke/VarHandle" ∧ (parseMethodDescriptor y.desc).map (fun d => d.parameters.length) = some n) (hL : maxL ≤ 45 ∧ plainName y.cls = true) : lTgt 3 g inf q pc i (n + 1) mi (some ci) := by
  intro l d p e R s m args below meth c hC As M f1 qi hq hM hAs hci H locs ls stk rest cells slots hstk hR hsz hW h1 h2
  obtain ⟨c1, c2, c3, c4, c5, c6, c7, c8, c9, c10, c11, c12, c13⟩ := hC
  cases hi.symm.trans hq
  obtain ⟨b, As', rfl, w, fs, hb⟩ := hci _ rfl
  have hrecv := lRecv c10 hR hb hk
  exact vx_runVN (As := As') (rest := rest) ⟨c1, c2, c3, c4, c5⟩ (hM.1 hL.2) ⟨va_cnB n c5 (lw_meth w4) rfl rfl rfl (c10.2.2.1 _ w1 rfl) (c5 _ w3) hn ⟨by rw [c11]; show 2 * d + 1 ≤ 2 * (d + 1); omega, by rw [c12]; show 8 + (maxL + 11) + 64 * d ≤ 64 * (d + 1); omega⟩, c5 _ w2, c5 _ w5⟩ ⟨lPc.blind _ _ _, hrecv, fun U hU hW' => ⟨rfl, by rw [hU]; exact hR, c10.warm hW'⟩⟩ rfl (by simpa using hAs) hsz (by rw [hstk]; simp) (by simpa using hW) hd ⟨h1, h2⟩
theorem tg_SN {host : String} (hd : decode q.2.1 (pc i) = .ok (.invokestatic index, 3)) (hi : inf mi = some (y, bytes, maxL, ret, none)) (w1 : Cond.methodLinkNest q.1.cls index y host ∈ lw_tbl) (w2 : Cond.static y ∈ lw_all) (w3 : Cond.initialized y.cls ∈ lw_all) (w4 : Cond.code y bytes maxL ret ∈ lw_all) (hn : y.cls ≠ "java/lang/invoke/MethodHandle" ∧ y.cls ≠ "java/lang/invoke/VarHandle" ∧ (parseMethodDescriptor y.desc).map (fun d => d.parameters.length) = some n) (hL : maxL ≤ 45 ∧ plainName y.cls = true) : lTgt 3 g inf q pc i n mi none := by
  intro l d p e R s m args below meth c hC As M f1 qi hq hM hAs hci H locs ls stk rest cells slots hstk hR hsz hW h1 h2
  obtain ⟨c1, c2, c3, c4, c5, c6, c7, c8, c9, c10, c11, c12, c13⟩ := hC
  cases hi.symm.trans hq
  exact vx_runSN (As := As) (rest := rest) ⟨c1, c2, c3, c4, c5⟩ (hM.1 hL.2) ⟨va_cnB n c5 (lw_meth w4) rfl rfl rfl (c10.2.2.1 _ w1 rfl) (c5 _ w3) hn ⟨by rw [c11]; show 2 * d + 1 ≤ 2 * (d + 1); omega, by rw [c12]; show 8 + (maxL + 11) + 64 * d ≤ 64 * (d + 1); omega⟩, c5 _ w2, trivial⟩ ⟨lPc.blind _ _ _, fun U hU hW' => ⟨rfl, by rw [hU]; exact hR, c10.warm hW'⟩⟩ rfl hAs hsz hstk (by simpa using hW) hd ⟨h1, h2⟩
theorem tg_SU {ci : Nat} {r : vw_C} (hd : decode q.2.1 (pc i) = .ok (.invokespecial index, 3)) (hi : inf mi = some (y, bytes, maxL, ret, none)) (hk : (lcl g)[ci]? = some r) (hT : ∀ w ∈ va_wsSU q.1.cls index y [], w ∈ lw_all) (w5 : Cond.code y bytes maxL ret ∈ lw_all) (hn : y.name ≠ "<init>" ∧ (parseMethodDescriptor y.desc).map (fun d => d.parameters.length) = some n) (hL : maxL ≤ 45 ∧ plainName y.cls = true) : lTgt 3 g inf q pc i (n + 1) mi (some ci) := by
  intro l d p e R s m args below meth c hC As M f1 qi hq hM hAs hci H locs ls stk rest cells slots hstk hR hsz hW h1 h2
  obtain ⟨c1, c2, c3, c4, c5, c6, c7, c8, c9, c10, c11, c12, c13⟩ := hC
  cases hi.symm.trans hq
  obtain ⟨b, As', rfl, w, fs, hb⟩ := hci _ rfl
  have hrecv := lRecv c10 hR hb hk
  exact vx_runSU (As := As') (rest := rest) (c10.1 ci _ hk).1 ⟨c1, c2, c3, c4, c5⟩ (hM.1 hL.2) (va_cwSU n c5 (lw_app (fun w hw => hT w (List.mem_append_left _ hw)) (lw_meth w5)) rfl rfl rfl hn ⟨by rw [c11]; show 2 * d + 1 ≤ 2 * (d + 1); omega, by rw [c12]; show 8 + (maxL + 11) + 64 * d ≤ 64 * (d + 1); omega⟩) ⟨lPc.blind _ _ _, hrecv, fun U hU hW' => ⟨rfl, by rw [hU]; exact hR, c10.warm hW'⟩⟩ rfl (by simpa using hAs) hsz (by rw [hstk]; simp) (by simpa using hW) hd ⟨h1, h2⟩
theorem tg_F {ci count : Nat} {r : vw_C} (hd : decode q.2.1 (pc i) = .ok (.invokeinterface index count, 5)) (hi : inf mi = some (y, bytes, maxL, ret, none)) (hk : (lcl g)[ci]? = some r) (hT : ∀ w ∈ va_wsF q.1.cls index r.1 x y [], w ∈ lw_all) (w5 : Cond.code y bytes maxL ret ∈ lw_all) (hF : lIf r.1 x y) (hn : (parseMethodDescriptor x.desc).map (fun d => d.parameters.length) = some n) (hL : maxL ≤ 45 ∧ plainName y.cls = true) : lTgt 5 g inf q pc i (n + 1) mi (some ci) := by
  intro l d p e R s m args below meth c hC As M f1 qi hq hM hAs hci H locs ls stk rest cells slots hstk hR hsz hW h1 h2
  obtain ⟨c1, c2, c3, c4, c5, c6, c7, c8, c9, c10, c11, c12, c13⟩ := hC
  cases hi.symm.trans hq
  obtain ⟨b, As', rfl, w, fs, hb⟩ := hci _ rfl
  have hrecv := lRecv c10 hR hb hk
  exact vx_runF (As := As') (rest := rest) (c10.1 ci _ hk).1 ⟨c1, c2, c3, c4, c5⟩ (hM.1 hL.2) (va_cwF n c5 (lw_app (fun w hw => hT w (List.mem_append_left _ hw)) (lw_meth w5)) rfl rfl rfl (c10.2.2.2.1 _ _ _ hF) ⟨hF.1.1, hF.1.2, hn⟩ ⟨by rw [c11]; show 2 * d + 1 ≤ 2 * (d + 1); omega, by rw [c12]; show 8 + (maxL + 11) + 64 * d ≤ 64 * (d + 1); omega⟩) ⟨lPc.blind _ _ _, hrecv, fun U hU hW' => ⟨rfl, by rw [hU]; exact hR, c10.warm hW'⟩⟩ rfl (by simpa using hAs) hsz (by rw [hstk]; simp) (by simpa using hW) hd ⟨h1, h2⟩
end LTgt
