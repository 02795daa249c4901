/-! Throwable.fillInStackTrace -/
def lThA : List Cond := [
  .initialized Bundle.tN, .superclass Bundle.tN "java/lang/Object",
  .instanceMethod Bundle.tFill, .codeSync Bundle.tFill LibCode.Throwable.Fill.code 1 (some (.object Bundle.tN)), .instanceMethod Bundle.tFill0, .native Bundle.tFill0,
  .instanceMethod Bundle.tInit0, .code Bundle.tInit0 LibCode.Throwable.Init0.code 1 none, .instanceMethod Bundle.oInit, .code Bundle.oInit ⟨#[0xb1]⟩ 1 none,
  .methodLink Bundle.tN 1 Bundle.oInit, .methodLink Bundle.tN 27 Bundle.tFill, .methodLink Bundle.tN 202 Bundle.tFill0,
  .fieldLink Bundle.tN 7 Bundle.tN "cause" "Ljava/lang/Throwable;", .lays Bundle.tN Bundle.tN "cause" "Ljava/lang/Throwable;",
  .fieldLink Bundle.tN 17 Bundle.tN "stackTrace" Bundle.steD, .lays Bundle.tN Bundle.tN "stackTrace" Bundle.steD,
  .fieldLink Bundle.tN 24 Bundle.tN "suppressedExceptions" Bundle.listD, .lays Bundle.tN Bundle.tN "suppressedExceptions" Bundle.listD,
  .fieldLink Bundle.tN 13 Bundle.tN "UNASSIGNED_STACK" Bundle.steD,
  .fieldLink Bundle.tN 20 Bundle.tN "SUPPRESSED_SENTINEL" Bundle.listD,
  .lays Bundle.tN Bundle.tN "detailMessage" "Ljava/lang/String;",
  .fieldLink Bundle.tN 198 Bundle.tN "backtrace" "Ljava/lang/Object;", .lays Bundle.tN Bundle.tN "backtrace" "Ljava/lang/Object;",
  .sameMethod Bundle.tN Bundle.tN Bundle.tFill.name Bundle.tFill.desc]
theorem lThA_of {w : Cond} (h : w ∈ Bundle.throwableAtoms) : w ∈ lThA ∨ w = .laysStatic Bundle.tN "UNASSIGNED_STACK" Bundle.steD ∨ w = .laysStatic Bundle.tN "SUPPRESSED_SENTINEL" Bundle.listD := by
  simp only [Bundle.throwableAtoms, List.mem_cons, List.not_mem_nil, or_false] at h
  rcases h with h | h | h | h | h | h | h | h | h | h | h | h | h | h | h | h | h | h | h | h | h | h | h | h <;> subst h <;> first | exact Or.inr (Or.inl rfl) | exact Or.inr (Or.inr rfl) | exact Or.inl (by simp [lThA])
/-- what is asked of a kind of throwables: k: stackTrace's place, kb: backtrace's -/
def lThK (g : lG) (ci k kb : Nat) : Prop := ∃ r : vw_C, (lcl g)[ci]? = some r ∧ k < r.2.2 ∧ kb < r.2.2 ∧ ((r.2.1 k).1 = Bundle.tN ∧ (r.2.1 k).2.1 = "stackTrace" ∧ (r.2.1 k).2.2.1 = Bundle.steD) ∧ ((r.2.1 kb).1 = Bundle.tN ∧ (r.2.1 kb).2.1 = "backtrace" ∧ (r.2.1 kb).2.2.1 = "Ljava/lang/Object;") ∧
  Cond.selects r.1 Bundle.tFill Bundle.tFill ∈ lw_all ∧ Cond.selects r.1 Bundle.tFill0 Bundle.tFill0 ∈ lw_all ∧ Cond.lays r.1 Bundle.tN "stackTrace" Bundle.steD ∈ lw_all ∧ Cond.instantiable r.1 r.2.2 ∈ lw_all
theorem ok_fill {g : lG} {q : lInf} {pc : Nat → Nat} {i j en : Nat} {t1 t2 : List (Nat × Nat)} (hd : decode q.2.1 (pc i) = .ok (.invokevirtual 27, 3)) (hown : q.1.cls = Bundle.tN) (hat : ∀ w ∈ lThA, w ∈ lw_all) (hes : lst g Bundle.tN "UNASSIGNED_STACK" Bundle.steD (lev g en)) (ht : ∀ x ∈ t1, ∃ kb, lLook t2 x.1 = some kb ∧ lThK g x.1 x.2 kb) (hj : pc j = pc i + 3) : lOkN g q pc i (fFill t1 t2 en j) := by
  intro l d p e R s m args below meth c htr hC H locs n0 s0 Q ls lv st M j' lv' st' M' h b1 b2 b3 b4 hR hz hl k
  obtain ⟨c1, c2, c3, c4, c5, c6, c7, c8, c9, c10, c11, c12, c13⟩ := hC
  rw [hown] at c4
  unfold fFill at h
  dsimp only at h
  split at h
  · rename_i a r
    split at h
    · rename_i ci fs hc
      split at h
      · rename_i k1 hk1
        split at h
        · rename_i kb hkb
          split at h
          · rename_i hh
            cases h
            obtain ⟨hv1, hv2, href, hsum⟩ := hh
            obtain ⟨kb', hkb', rr, T0, T1, T2, ⟨T3, T4, T5⟩, ⟨T6, T7, T8⟩, T9, T10, T11, T12⟩ := ht _ (lLook_mem hk1)
            cases hkb.symm.trans hkb'
            obtain ⟨x, q1, q2, q3, q4, q5, -⟩ := hR.2.2.2 a _ hc
            obtain ⟨rr', q6, q7, q8, qv, q9⟩ := q5 rfl
            obtain ⟨ha, hv0, hm0⟩ := q4 rfl
            dsimp only at q6 q7 q8 qv q9 T0 T1 T2 T3 T4 T5 T6 T7 T8
            cases T0.symm.trans q6
            intro T hT X
            have hpe : e.platform.stackTraces = false := (show e.platform.stackTraces = l.stackTraces by rw [X.admits.platform]).trans htr
            have howns : e.platform.frameOwnsMonitors = true := by rw [X.admits.platform]
            have hfin : e.platform.finalization = false := by rw [X.admits.platform]
            have hpl : e.platform.magicAccessors = ({} : Platform).magicAccessors := by rw [X.admits.platform]
            have hkept : ∀ z : Nat, z < (lh0 g).size → ¬ lba g ≤ z → s.heap[z]? = (lh0 g)[z]? := fun z _ hn => c13 z (Nat.not_le.mp hn)
            have hat' : ∀ w ∈ Bundle.throwableAtoms, w.before args s = true := by
              intro w hw
              rcases lThA_of hw with h | rfl | rfl
              · exact c5 _ (hat w h)
              · exact ((c10.2.2.2.2.2.2.2.2.2 ("UNASSIGNED_STACK", Bundle.steD) (by simp [lSt0])).kept hkept).word
              · exact ((c10.2.2.2.2.2.2.2.2.2 ("SUPPRESSED_SENTINEL", Bundle.listD) (by simp [lSt0])).kept hkept).word
            have a' : ∀ w, w ∈ lThA → w.holds args s none s [] = true := fun w hw => c5 _ (hat w hw)
            obtain ⟨TT, Z0, L, -, Y⟩ := ThrowableC.of_atoms (args := args) howns hfin hpl hat'
            obtain ⟨ci198, i198, fB, hk198, hg198, ha198, hsB, -, hnB, htB, hffB⟩ := Cond.ownField (t := .object "java/lang/Object") Y.found L.cls (by decide +kernel) (a' (.fieldLink Bundle.tN 198 Bundle.tN "backtrace" "Ljava/lang/Object;") (by simp [lThA])) (a' (.lays Bundle.tN Bundle.tN "backtrace" "Ljava/lang/Object;") (by simp [lThA])) e.platform hpl
            have hfs : ∀ (kk : Nat) (nm de : String) (v : Value) (cf0 : ClassId) (kf0 : Class) (fi0 : Nat) (f0 : Field), kk < rr.2.2 → (rr.2.1 kk).1 = Bundle.tN → (rr.2.1 kk).2.1 = nm → (rr.2.1 kk).2.2.1 = de → s.fieldFound? Bundle.tN nm de = some (cf0, kf0, fi0, f0) → fs[kk]? = some v → x.slots[f0.slot]? = some v := by
              intro kk nm de v cf0 kf0 fi0 f0 h1 h2 h3 h4 h5 h6
              obtain ⟨cf, kf, fi, fd, hf1, hf2, hf3⟩ := (c10.1 ci rr T0).2 kk h1
              rw [h2, h3, h4] at hf1
              cases hf1.symm.trans h5
              rw [hf2]
              exact q9 kk v h6
            have hvS := hfs k1 _ _ _ _ _ _ _ T1 T3 T4 T5 Y.stack hv1
            have hvB := hfs kb _ _ _ _ _ _ _ T2 T6 T7 T8 hffB hv2
            obtain ⟨zc, zk, zi, zf, za, zcell, z1, z2, z3, z4, z5, z6, z7, z8⟩ := c10.2.2.2.2.2.2.1 _ _ _ _ hes
            cases z1.symm.trans Y.unassigned
            have eaS : za = TT.aS := Option.some.inj (z4.symm.trans L.statics)
            rw [eaS] at z5 z8
            have hcS : T.heap[TT.aS]? = some zcell := by rw [hT, hR.2.2.1 _ (Nat.not_le.mp z8)]; exact z5
            have hneS : TT.aS ≠ a := by intro h; rw [h] at z8; exact z8 ha
            have hknownS : zcell.vm ≠ .unknown := by intro h; rw [h] at z6; cases z6
            have hfc : s.vm.findClass rr.1 = some x.cls := by rw [q7]; exact (c10.1 ci rr T0).1.1
            obtain ⟨cX, kX, hcX, hkX, hord, -, -, -⟩ := Cond.instantiable_spec (c5 _ T12)
            have ecX : cX = x.cls := Option.some.inj (hcX.symm.trans hfc)
            rw [ecX] at hkX
            have hselF : selectMethod e.platform s.vm x.cls TT.fill = .method TT.fill := by
              obtain ⟨c2', r2', m2', u1, u2, u3, u4, -⟩ := Cond.selects_spec (c5 _ T9)
              cases Option.some.inj (u1.symm.trans hfc)
              cases Option.some.inj (u2.symm.trans (State.methodFound?_of_named Y.fill (by decide)))
              cases Option.some.inj (u3.symm.trans Y.fill)
              rw [Launch.admits_selectMethod X.admits]; exact u4
            have hsel0 : selectMethod e.platform s.vm x.cls TT.fill0 = .method TT.fill0 := by
              obtain ⟨c2', r2', m2', u1, u2, u3, u4, -⟩ := Cond.selects_spec (c5 _ T10)
              cases Option.some.inj (u1.symm.trans hfc)
              cases Option.some.inj (u2.symm.trans (State.methodFound?_of_named Y.fill0 (by decide)))
              cases Option.some.inj (u3.symm.trans Y.fill0)
              rw [Launch.admits_selectMethod X.admits]; exact u4
            obtain ⟨tyS, -⟩ := Cond.laysAt hfc hkX Y.stack (c5 _ T11)
            have htS : Takes s x TT.fStack (lev g en) := ⟨(Array.getElem?_eq_some_iff.mp hvS).1, by rw [hv0]; exact (Takes.of_laid hkX hord tyS (by rw [Y.stackType]; exact fits_refV_array _ ⟨lev g en, href⟩)).2⟩
            obtain ⟨mk9, meth9, hn9, hm9, -, hab9⟩ := Cond.instanceMethod_spec (a' (.instanceMethod Bundle.tFill) (by simp [lThA]))
            cases hn9.symm.trans Y.fill
            have hmF : s.vm.method? TT.fill = some TT.methFill := L.method L.fillAt
            cases hm9.symm.trans hmF
            obtain ⟨c2', r2', m2', -, -, u3, -, kI, hkI, hitf⟩ := Cond.selects_spec (c5 _ T9)
            cases u3.symm.trans Y.fill
            have hsz : ls.size = c.maxLocals := by rw [c3]; exact hl.1
            have hd' : decode c.code (pc i) = .ok (.invokevirtual 27, 3) := by rw [c2]; exact hd
            obtain ⟨vm', X', stp⟩ := X.invokevirtualUp c1 (own := Bundle.tN) (owner := Bundle.tN) (index := 27) (x := Bundle.tFill) c4 (a' (.methodLink Bundle.tN 27 Bundle.tFill) (by simp [lThA])) (a' (.sameMethod Bundle.tN Bundle.tN Bundle.tFill.name Bundle.tFill.desc) (by simp [lThA])) (by decide) (r0 := TT.fill) (r := TT.methFill) Y.fill hmF L.fillStatic (a := a) (cell := x) (by rw [hT]; exact q1) (fun z h => by rw [h] at q2; cases q2) hselF hmF hab9 hkI hitf (g := F0 m (pc i) ls (.ref a :: r)) rfl (argsL := []) (rest := r) (by rw [L.fillParams]; rfl) rfl hd'
            have q1' : (T.setVm vm').heap[a]? = some x := by show T.heap[a]? = _; rw [hT]; exact q1
            have hroomN : ∀ vm1, s.WarmedH vm1 → At (fillInside ((T.setVm vm').setVm vm1) (F0 m (pc i) ls r) TT.fill a x) TT.fill TT.codeFill below → e.platform.stackFull ((((fillInside ((T.setVm vm').setVm vm1) (F0 m (pc i) ls r) TT.fill a x).setTop (fillJ TT.fill a 16 [])).threads[((fillInside ((T.setVm vm').setVm vm1) (F0 m (pc i) ls r) TT.fill a x).setTop (fillJ TT.fill a 16 [])).cur]?).getD { frames := [] }) ((fillInside ((T.setVm vm').setVm vm1) (F0 m (pc i) ls r) TT.fill a x).setTop (fillJ TT.fill a 16 [])).frames (nativeFrameWords "java/lang/Throwable" "fillInStackTrace" 2) = false := by
              intro vm1 hW1 hAt
              have X2 := X'.noted hW1
              obtain ⟨-, r2, -, r4⟩ := State.hasRoom_stack X.room
              rw [State.localsInUse_invoking X.frames X.method X.code] at r4
              rw [X.frames, List.length_cons] at r2
              have htop : (((T.setVm vm').setVm vm1).setCell a (x.withEntry ((T.setVm vm').setVm vm1).cur)).topJava?.isSome := X2.here.top
              have hfU : (fillInside ((T.setVm vm').setVm vm1) (F0 m (pc i) ls r) TT.fill a x).frames = .java (entryFrameSync TT.fill #[.ref a] 1 a) :: .java (F0 m (pc i) ls r) :: below := by
                rw [frames_entered htop]
                show _ :: _ :: ((T.setVm vm').setVm vm1).frames.tail = _
                rw [X2.tail]
              have hw : nativeFrameWords "java/lang/Throwable" "fillInStackTrace" 2 ≤ 20 := by decide
              have hb := stackUse_le_stackWeight below
              have ho : operandWords r = (r.map fun v => v.category).sum := operandWords_eq r
              refine roomAbove (pl := e.platform) (pushed := [.java (fillJ TT.fill a 16 [])]) (base := .java (F0 m (pc i) ls r) :: below) (free := 50) (lim := e.platform.stackLimits s.me) (State.frames_setTop _ hfU) ?_ ?_ ?_ ?_
              · rw [State.stackLimits_setTop _ hAt.top, State.stackLimits_pushFrame, State.stackLimits_setTop _ htop]; exact X2.limits
              · simp only [List.length_cons, List.length_nil]; omega
              · rw [stackUse_java]
                show (stackUse below).2 + (ls.size + 11 + 2 * 0 + operandWords r) + 50 ≤ _
                omega
              · rw [stackUse_java, stackUse_nil]
                show 0 + (1 + 11 + 2 * 1 + operandWords []) + _ + 11 ≤ 50
                have : operandWords [] = 0 := rfl
                omega
            obtain ⟨vm2, hW2, st2⟩ := Steps.fillColdAnyV p (V := T.setVm vm') (g := F0 m (pc i) ls r) (c := c) (self := a) X'.here c1 TT L X'.warmed (Nn := fun u => u) ⟨fun _ => rfl, fun _ => rfl, fun h => h, fun _ _ => rfl⟩ (fun _ _ => rfl) (fun _ => rfl) (fun u y z => setCell_twice u a y z) (cell := x) (cellS := zcell) (cN := x.withEntry (T.setVm vm').cur) (u0 := ⟨lev g en, href⟩) (ig := .invokevirtual 27) (len := 3) [] q1' (fun z h => by rw [h] at q2; cases q2) q3 (Or.inl (by rw [hm0])) hvS hsel0 hcS hneS hknownS z7 (fun u h => h) (fun u h => h) rfl rfl rfl rfl htS hd'
              (fun _ vm1 hW1 hAt t' hs => L.nativeOff p hpe hAt hW1 (hroomN vm1 hW1 hAt) hs) (X'.notFull (g := F0 m (pc i) ls r) hsz (by omega) (by show 2 * 0 + (r.map fun v => v.category).sum + (1 + 2 + 11) ≤ _; omega)) ⟨{ ci198 := ci198, i198 := i198, fBack := fB }, ⟨hk198, hg198, ha198, hsB⟩, hvB, fun _ _ => rfl⟩
            have hx9 : ((x.withEntry (T.setVm vm').cur).setSlot TT.fStack.slot (lev g en)).left = x := by
              rw [Cell.setSlot_same (show (x.withEntry (T.setVm vm').cur).slots[TT.fStack.slot]? = _ from hvS)]
              cases x
              dsimp only at hm0
              subst hm0
              rfl
            have kk := k H locs ls hR hz hl
            rw [hj] at kk
            obtain ⟨t, a1, b1⟩ := kk ((T.setVm vm').setVm vm2) hT (X'.noted hW2)
            refine ⟨t, stp t (fun acts => ?_), b1⟩
            rw [doInvoke_state]
            refine st2 t ?_
            dsimp only
            rw [hx9, State.setCell_asItLies (show ((T.setVm vm').setVm vm2).heap[a]? = some x from q1')]
            exact a1
          · cases h
        · cases h
      · cases h
    · cases h
  · cases h
