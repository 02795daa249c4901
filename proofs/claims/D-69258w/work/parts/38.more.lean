/-! more of the shadow machine: natives, arrays by name, abstract and private targets, traces of stacks -/
/-- as lOkM, with a frame to spare -/
def lOkN (g : lG) (q : lInf) (pc : Nat → Nat) (i : Nat) (h : lM) : Prop :=
  ∀ (l : Launch) (d : Nat) (p : Program) (e : Env) (R : Room) (s : State) (m : MethodId) (args : Array Value) (below : List Frame) (meth : Method) (c : Code), l.stackTraces = false → lCx g q l (d + 1) p e R s m args below meth c →
    ∀ (H : Heap) (locs : List Loc) (n0 s0 : Nat) (Q : State → Prop) (ls : Array Slot) (lv : lL) (st : List Value) (M : lMem) (j : Nat) (lv' : lL) (st' : List Value) (M' : lMem),
    h (lev g) (lv, st, M) = some (j, lv', st', M') → n0 ≤ M.2.1 → s0 ≤ M.2.2 → M'.2.1 ≤ n0 + R.cells → M'.2.2 ≤ s0 + R.slots → lRel g M H → (∀ z ∈ locs, lba g ≤ z.base) → lv_has ls q.2.2.1 lv →
    (∀ (H' : Heap) (locs' : List Loc) (ls' : Array Slot), lRel g M' H' → (∀ z ∈ locs', lba g ≤ z.base) → lv_has ls' q.2.2.1 lv' → W p l e R s m args below meth c H' locs' (M'.2.1 - n0) (M'.2.2 - s0) Q (F0 m (pc j) ls' st')) →
    W p l e R s m args below meth c H locs (M.2.1 - n0) (M.2.2 - s0) Q (F0 m (pc i) ls st)
theorem lOk_N {g : lG} {inf : Nat → Option lInf} {q : lInf} {pc : Nat → Nat} {i : Nat} {h : lM} (ok : lOkN g q pc i h) (mo : lMo h) : lOk g inf q pc i (lMemI h) := by
  intro l d rec hrec
  refine ⟨fun st r e => ?_, ?_⟩
  · unfold lMemI at e
    split at e
    · rename_i x hx
      cases e
      exact mo _ st x.1 x.2 hx
    · cases e
  · intro p e R s m args below meth c hC n0 s0 fin st r hf b1 b2 b3 b4 hle k
    unfold lMemI at hf
    split at hf
    · rename_i x hx
      cases hf
      obtain ⟨j, lv', st', M'⟩ := x
      obtain ⟨lv, stk, M⟩ := st
      intro H locs ls hR hz hl
      exact ok l d p e R s m args below meth c hrec.1 hC H locs n0 s0 _ ls lv stk M j lv' st' M' hx b1 b2 (Nat.le_trans hle.1 b3) (Nat.le_trans hle.2 b4) hR hz hl (fun H' locs' ls' hR' hz' hl' => k H' locs' ls' hR' hz' hl')
    · cases hf
theorem oN {g : lG} {inf : Nat → Option lInf} {q : lInf} {pc : Nat → Nat} {i : Nat} {h : lM} (ok : lOkN g q pc i h) (mo : lMo h) : lOk g inf q pc i (aM h) := lOk_N ok mo
/-- arrays by type that are known by name: the i-th type's arrays are of the class nm -/
def lNm (g : lG) (nm : String) (ts : List Nat) : Prop := ∀ t ∈ ts, t < 10 ∧ ∃ ty, (lty g)[t]? = some ty ∧ "[" ++ ty.toString = nm
def fCastA (ts : List Nat) (j : Nat) : lM := fun _ st => match st.2.1 with
  | .ref a :: r => match st.2.2.1 a with
    | some (_, true, t, _) => if ts.contains t = true then some (j, st.1, .ref a :: r, st.2.2) else none
    | _ => none
  | .null :: r => some (j, st.1, .null :: r, st.2.2)
  | _ => none
def fInst (tab : List Nat) (j : Nat) : lM := fun _ st => match st.2.1 with
  | .ref a :: r => match st.2.2.1 a with
    | some (_, false, ci, _) => if tab.contains ci = true then some (j, st.1, .int 1 :: r, st.2.2) else none
    | _ => none
  | .null :: r => some (j, st.1, .int 0 :: r, st.2.2)
  | _ => none
def fGetC (ts : List Nat) (q j : Nat) : lM := fun E st => match st.2.1 with
  | .ref a :: r => match st.2.2.1 a with
    | some (_, true, t, _) => if ts.contains t = true ∧ (r.map (fun v => v.category)).sum ≤ 8 then some (j, st.1, E q :: r, st.2.2) else none
    | _ => none
  | _ => none
def fClone (t : Nat) (ty : FieldType) (j : Nat) : lM := fun _ st => match st.2.1 with
  | .ref a :: r => match st.2.2.1 a with
    | some (_, true, t', xs) => if t' = t ∧ xs.all (fun v => fits ty v) = true ∧ (r.map (fun v => v.category)).sum ≤ 8 then some (j, st.1, .ref st.2.2.2.1 :: r, lUpd st.2.2.1 st.2.2.2.1 (true, true, t, xs), st.2.2.2.1 + 1, st.2.2.2.2 + xs.length) else none
    | _ => none
  | _ => none
/-- zs laid into ys from place p on -/
def lSt : List Value → Nat → List Value → List Value
  | ys, _, [] => ys
  | ys, p, z :: zs => lSt (ys.set p z) (p + 1) zs
/-- may v lie in an array of type t -/
def lInA (h : lHeap) (tab : List (Nat × Nat)) (t : Nat) : Value → Bool
  | .ref b => match h b with
    | some (_, false, ci, _) => tab.contains (t, ci)
    | _ => false
  | .null => tab.any (fun q => q.1 == t)
  | _ => false
def lPrm (prims : List (Nat × FieldType)) (t : Nat) (vs : List Value) : Bool := match prims with
  | [] => false
  | (t', ty) :: r => if t' = t then vs.all (fun v => fits ty v) else lPrm r t vs
theorem lPrm_ok {prims : List (Nat × FieldType)} {t : Nat} {vs : List Value} (h : lPrm prims t vs = true) : ∃ ty, (t, ty) ∈ prims ∧ ∀ v ∈ vs, fits ty v = true := by
  induction prims with
  | nil => cases h
  | cons x r ih =>
    obtain ⟨t', ty⟩ := x
    unfold lPrm at h
    split at h
    · rename_i e
      subst e
      exact ⟨ty, List.mem_cons_self, fun v hv => List.all_eq_true.mp h v hv⟩
    · obtain ⟨ty, h1, h2⟩ := ih h
      exact ⟨ty, List.mem_cons_of_mem _ h1, h2⟩
def fCopy (prims : List (Nat × FieldType)) (tab : List (Nat × Nat)) (j : Nat) : lM := fun _ st => match st.2.1 with
  | .int n :: .int dp :: .ref a :: .int sp :: .ref a0 :: r => match st.2.2.1 a0 with
    | some (_, true, t0, xs) => match st.2.2.1 a with
      | some (true, true, t1, ys) =>
        if ¬ n < 0 ∧ ¬ dp < 0 ∧ ¬ sp < 0 ∧ sp.toNatClampNeg + n.toNatClampNeg ≤ xs.length ∧ dp.toNatClampNeg + n.toNatClampNeg ≤ ys.length ∧ (r.map (fun v => v.category)).sum ≤ 8 ∧
          ((t0 = t1 ∧ lPrm prims t1 ((xs.drop sp.toNatClampNeg).take n.toNatClampNeg) = true) ∨
           (tab.any (fun q => q.1 == t0) = true ∧ tab.any (fun q => q.1 == t1) = true ∧ ((xs.drop sp.toNatClampNeg).take n.toNatClampNeg).all (lInA st.2.2.1 tab t1) = true))
        then some (j, st.1, r, lUpd st.2.2.1 a (true, true, t1, lSt ys dp.toNatClampNeg ((xs.drop sp.toNatClampNeg).take n.toNatClampNeg)), st.2.2.2.1, st.2.2.2.2) else none
      | _ => none
    | _ => none
  | _ => none
/-- Throwable.fillInStackTrace where no traces are kept: the places of stackTrace and backtrace by kind -/
def fFill (t1 t2 : List (Nat × Nat)) (q j : Nat) : lM := fun E st => match st.2.1 with
  | .ref a :: r => match st.2.2.1 a with
    | some (true, false, ci, fs) => match lLook t1 ci with
      | some k => match lLook t2 ci with
        | some kb => if fs[k]? = some (E q) ∧ fs[kb]? = some .null ∧ (E q).isRef = true ∧ (r.map (fun v => v.category)).sum ≤ 8 then some (j, st.1, .ref a :: r, st.2.2) else none
        | none => none
      | none => none
    | _ => none
  | _ => none
theorem mo_fCastA (ts : List Nat) (j : Nat) : lMo (fCastA ts j) := by
  intro E st i st' e
  unfold fCastA at e
  repeat' split at e
  all_goals cases e
  all_goals exact ⟨by simp, by simp⟩
theorem mo_fInst (ts : List Nat) (j : Nat) : lMo (fInst ts j) := by
  intro E st i st' e
  unfold fInst at e
  repeat' split at e
  all_goals cases e
  all_goals exact ⟨by simp, by simp⟩
theorem mo_fGetC (ts : List Nat) (q j : Nat) : lMo (fGetC ts q j) := by
  intro E st i st' e
  unfold fGetC at e
  repeat' split at e
  all_goals cases e
  all_goals exact ⟨by simp, by simp⟩
theorem mo_fClone (t : Nat) (ty : FieldType) (j : Nat) : lMo (fClone t ty j) := by
  intro E st i st' e
  unfold fClone at e
  repeat' split at e
  all_goals cases e
  all_goals exact ⟨by simp, by simp⟩
theorem mo_fCopy (prims : List (Nat × FieldType)) (tab : List (Nat × Nat)) (j : Nat) : lMo (fCopy prims tab j) := by
  intro E st i st' e
  unfold fCopy at e
  repeat' split at e
  all_goals cases e
  all_goals exact ⟨by simp, by simp⟩
theorem mo_fFill (t1 t2 : List (Nat × Nat)) (q j : Nat) : lMo (fFill t1 t2 q j) := by
  intro E st i st' e
  unfold fFill at e
  repeat' split at e
  all_goals cases e
  all_goals exact ⟨by simp, by simp⟩
section LMore
variable {g : lG} {own nm : String} {cc : ByteArray} {nL : Nat} {pc : Nat → Nat} {i j : Nat} {q : lInf}
theorem ok_checkcastA {index : Nat} {ts : List Nat} {T : String} (hd : decode cc (pc i) = .ok (.checkcast index, 3)) (h1 : Cond.classLink own index T ∈ lw_all) (ht : lNm g T ts) (hj : pc j = pc i + 3) : lOkM g own nm cc nL pc i (fCastA ts j) := by
  intro p l e R s m args below meth c H locs n0 s0 Q ls lv st M j' lv' st' M' hx hb hown hts hnm hK h b1 b2 b3 b4 hR hz hl k
  unfold fCastA at h
  dsimp only at h
  split at h
  · rename_i a r
    split at h
    · rename_i w t xs hc
      split at h
      · rename_i hh
        cases h
        have kk := k H locs ls hR hz hl
        rw [hj] at kk
        obtain ⟨g1, ty, g2, g3⟩ := ht t (List.contains_iff_mem.mp hh)
        obtain ⟨x, q1, q2, q3, q4, -, q5⟩ := hR.2.2.2 a _ hc
        have hnm := lKa.nm hK.2.1 g2 (q5 rfl).1 g1
        rw [g3] at hnm
        intro T hT X
        obtain ⟨vm', X', st⟩ := X.checkcastYes hx hown (hts _ h1) (by rw [hT]; exact q1) q2 hnm (va_asg _ _) (g := F0 m (pc i) ls (.ref a :: r)) rfl rfl (by rw [hb]; exact hd)
        obtain ⟨t, a1, b1⟩ := kk (T.setVm vm') hT X'
        exact ⟨t, st t a1, b1⟩
      · cases h
    · cases h
  · cases h
    have kk := k H locs ls hR hz hl
    rw [hj] at kk
    exact lv_castN hx hb hd kk
  · cases h
theorem ok_instanceof {index : Nat} {tab : List Nat} {T : String} (hd : decode cc (pc i) = .ok (.instanceof index, 3)) (h1 : Cond.classLink own index T ∈ lw_all) (ht : ∀ ci ∈ tab, ∃ r : vw_C, (lcl g)[ci]? = some r ∧ (r.1 = T ∨ Cond.castable r.1 T ∈ lw_tbl)) (hj : pc j = pc i + 3) : lOkM g own nm cc nL pc i (fInst tab j) := by
  intro p l e R s m args below meth c H locs n0 s0 Q ls lv st M j' lv' st' M' hx hb hown hts hnm hK h b1 b2 b3 b4 hR hz hl k
  unfold fInst at h
  dsimp only at h
  split at h
  · rename_i a r
    split at h
    · rename_i w ci fs hc
      split at h
      · rename_i hh
        cases h
        have kk := k H locs ls hR hz hl
        rw [hj] at kk
        obtain ⟨r', q1, q2⟩ := ht ci (List.contains_iff_mem.mp hh)
        rcases q2 with rfl | q2
        · exact va_instS hx hb hown (hts _ h1) (hK.1 ci _ q1).1 (lRecv hK hR hc q1) hd kk
        · exact va_instY hx hb hown (hts _ h1) (hK.2.2.1 _ q2 rfl) (lRecv hK hR hc q1) hd kk
      · cases h
    · cases h
  · cases h
    have kk := k H locs ls hR hz hl
    rw [hj] at kk
    exact lv_instN hx hb hd kk
  · cases h
theorem ok_ldcwS {index e : Nat} {tx : String} (hd : decode cc (pc i) = .ok (.ldc_w index, 3)) (h1 : Cond.stringRef own index tx ∈ lw_tbl) (hq : lev g e = .ref (lsa g own index)) (hj : pc j = pc i + 3) : lOkM g own nm cc nL pc i (fEnv e j) := by
  intro p l e R s m args below meth c H locs n0 s0 Q ls lv st M j' lv' st' M' hx hb hown hts hnm hK h b1 b2 b3 b4 hR hz hl k
  unfold fEnv at h
  cases h
  have kk := k H locs ls hR hz hl
  rw [hj, hq] at kk
  have hZ := hK.2.2.2.2.2.1 _ _ _ h1
  intro T hT X
  obtain ⟨t, a1, b1⟩ := kk T hT X
  exact ⟨t, X.ldcStringW hx (own := own) (text := tx) (index := index) hown hZ.1 hZ.2 (g := F0 m (pc i) ls st) rfl (by rw [hb]; exact hd) _ a1, b1⟩
theorem ok_getC {index e : Nat} {ts : List Nat} {C : String} (hd : decode q.2.1 (pc i) = .ok (.invokevirtual index, 3)) (w1 : Cond.methodLink q.1.cls index ⟨"java/lang/Object", "getClass", "()Ljava/lang/Class;"⟩ ∈ lw_all) (w2 : Cond.declares ⟨"java/lang/Object", "getClass", "()Ljava/lang/Class;"⟩ ∈ lw_tbl) (w3 : Cond.selects C ⟨"java/lang/Object", "getClass", "()Ljava/lang/Class;"⟩ ⟨"java/lang/Object", "getClass", "()Ljava/lang/Class;"⟩ ∈ lw_all)
    (w4 : Cond.instanceMethod ⟨"java/lang/Object", "getClass", "()Ljava/lang/Class;"⟩ ∈ lw_all) (w5 : Cond.native ⟨"java/lang/Object", "getClass", "()Ljava/lang/Class;"⟩ ∈ lw_all) (hm : C ∈ lMir) (hq : lev g e = .ref (lmi g C)) (ht : lNm g C ts) (hj : pc j = pc i + 3) : lOkN g q pc i (fGetC ts e j) := by
  intro l d p e R s m args below meth c htr hC H locs n0 s0 Q ls lv st M j' lv' st' M' h b1 b2 b3 b4 hR hz hl k
  obtain ⟨c1, c2, c3, c4, c5, c6, c7, c8, c9, c10, c11, c12, c13⟩ := hC
  unfold fGetC at h
  dsimp only at h
  split at h
  · rename_i a r
    split at h
    · rename_i w t xs hc
      split at h
      · rename_i hh
        cases h
        have kk := k H locs ls hR hz hl
        rw [hj, hq] at kk
        obtain ⟨g1, ty, g2, g3⟩ := ht t (List.contains_iff_mem.mp hh.1)
        obtain ⟨x, q1, q2, q3, q4, -, q5⟩ := hR.2.2.2 a _ hc
        have hnm := lKa.nm c10.2.1 g2 (q5 rfl).1 g1
        rw [g3] at hnm
        have hsum := hh.2
        exact va_getC c1 c2 (by rw [c3]; exact hl.1.symm) c4 (c5 _ w1) (va_Nw.use rfl (c10.2.2.1 _ w2 rfl)) (c5 _ w3) (c5 _ w4) (c5 _ w5) (c10.2.2.2.2.2.2.2.2.1 _ hm) ⟨x, q1, q2, hnm⟩ (by omega) (by omega) hd kk
      · cases h
    · cases h
  · cases h
theorem ok_clone {index t : Nat} {ty : FieldType} {ad : String} (hd : decode q.2.1 (pc i) = .ok (.invokevirtual index, 3)) (w1 : Cond.methodLink q.1.cls index ⟨ad, "clone", "()Ljava/lang/Object;"⟩ ∈ lw_all) (w2 : Cond.sameMethod ad "java/lang/Object" "clone" "()Ljava/lang/Object;" ∈ lw_all) (w3 : Cond.native ⟨"java/lang/Object", "clone", "()Ljava/lang/Object;"⟩ ∈ lw_all) (w4 : Cond.instanceMethod ⟨"java/lang/Object", "clone", "()Ljava/lang/Object;"⟩ ∈ lw_all)
    (w5 : Cond.selects ad ⟨ad, "clone", "()Ljava/lang/Object;"⟩ ⟨"java/lang/Object", "clone", "()Ljava/lang/Object;"⟩ ∈ lw_all) (w6 : Cond.castable ad "java/lang/Cloneable" ∈ lw_tbl) (ht : (lty g)[t]? = some ty) (h12 : t < 10) (hnm : "[" ++ ty.toString = ad) (hj : pc j = pc i + 3) : lOkN g q pc i (fClone t ty j) := by
  intro l d p e R s m args below meth c htr hC H locs n0 s0 Q ls lv st M j' lv' st' M' h b1 b2 b3 b4 hR hz hl k
  obtain ⟨c1, c2, c3, c4, c5, c6, c7, c8, c9, c10, c11, c12, c13⟩ := hC
  unfold fClone at h
  dsimp only at h
  split at h
  · rename_i a r
    split at h
    · rename_i w t' xs hc
      split at h
      · rename_i hh
        cases h
        obtain ⟨rfl, hfit, hsum⟩ := hh
        obtain ⟨x, q1, q2, q3, q4, -, q5⟩ := hR.2.2.2 a _ hc
        obtain ⟨q6, q7⟩ := q5 rfl
        dsimp only at q6 q7 b3 b4
        have hfc := lKa.nm c10.2.1 ht q6 h12
        rw [hnm] at hfc
        obtain ⟨kA, comp, f1, f2, f3⟩ := lKa c10.2.1 ht q6
        obtain ⟨c0, t0, d1, d2, d3⟩ := Cond.castable_spec (va_Nw.use (A := args) rfl (c10.2.2.1 _ w6 rfl))
        cases hfc.symm.trans d1
        have hsz : x.slots.size = xs.length := by rw [q7]; simp
        intro T hT X
        obtain ⟨vm', X', stp⟩ := X.cloneArray c1 c4 (c5 _ w1) (c5 _ w2) (c5 _ w3) (c5 _ w4) (c5 _ w5) (a := a) (cell := x) (by rw [hT]; exact q1) (fun k h => by rw [h] at q2; cases q2) q3 hfc d2 d3
          (fun i v hv => by
            obtain ⟨kT, hkT, heT⟩ := X.warmed.alike.2.2 _ _ f1
            have hkT' : T.vm.classes[x.cls]? = some kT := hkT
            have hkk : kT.kind = .array comp ty := by rw [heT]; exact f2
            have hv' : fits ty v = true := by
              rw [q7] at hv
              exact List.all_eq_true.mp hfit v (List.mem_of_getElem? (by simpa using hv))
            simpa [State.fitsSlot, State.slotType?, hkT', hkk] using hv')
          (g := F0 m (pc i) ls (.ref a :: r)) rfl (by rw [c3]; exact hl.1) rfl (by rw [c2]; exact hd) (by omega) (by show 2 * 0 + _ + 14 ≤ _; omega) (by omega) (by rw [hsz]; omega) (hloader := Vm.clonesLoader_of_array f1 f2)
        generalize hH1 : H.push ({ cls := x.cls, slots := x.slots } : Cell) = H1
        have z1 : H1.size = H.size + 1 := by rw [← hH1, Array.size_push]
        have e1 : H1[H.size]? = some { cls := x.cls, slots := x.slots } := by rw [← hH1, Array.getElem?_push_size]
        have o1 : ∀ q : Nat, q < H.size → H1[q]? = H[q]? := fun q hq => by rw [← hH1, Array.getElem?_push, if_neg (Nat.ne_of_lt hq)]
        have kk := k H1 locs ls (hR.new z1 o1 ⟨_, e1, rfl, (fun z => by cases z), fun _ => ⟨by rw [hR.1]; exact hR.2.1, rfl, rfl⟩, (fun z => by cases z), fun _ => ⟨q6, q7⟩⟩) hz hl
        rw [hj, ← hR.1] at kk
        rw [hsz, show M.2.1 - n0 + 1 = M.2.1 + 1 - n0 by omega, show M.2.2 - s0 + xs.length = M.2.2 + xs.length - s0 by omega] at X'
        rw [hR.1] at kk
        obtain ⟨t2, a1, b1⟩ := kk _ (by rw [← hH1, ← hT]; rfl) X'
        refine ⟨t2, stp t2 ?_, b1⟩
        rw [hT, hR.1]
        exact a1
      · cases h
    · cases h
  · cases h
theorem lPairs (at_ : Nat) : ∀ (zs : List Value) (i : Nat) (x : Cell), (x.storePairs at_ (zs.zipIdx i)) = { x with slots := (lSt x.slots.toList (at_ + i) zs).toArray }
  | [], i, x => by
    show x = _
    simp [lSt]
  | z :: zs, i, x => by
    rw [List.zipIdx_cons]
    show (x.setSlot (at_ + i) z).storePairs at_ (zs.zipIdx (i + 1)) = _
    rw [lPairs at_ zs (i + 1)]
    simp [lSt, Cell.setSlot, Nat.add_assoc]
theorem lStretch (x : Cell) (xs : List Value) (sp n : Nat) (h : x.slots = xs.toArray) (hl : sp + n ≤ xs.length) : x.stretch sp n = (xs.drop sp).take n := by
  unfold Cell.stretch
  rw [h]
  apply List.ext_getElem?
  intro k
  by_cases hk : k < n
  · rw [List.getElem?_map, List.getElem?_range hk, List.getElem?_take_of_lt hk, List.getElem?_drop]
    have : sp + k < xs.length := by omega
    simp [this]
  · rw [List.getElem?_eq_none (by simp; omega), List.getElem?_eq_none (by simp; omega)]
theorem ok_copy {index : Nat} {prims : List (Nat × FieldType)} {tab : List (Nat × Nat)} (hd : decode q.2.1 (pc i) = .ok (.invokestatic index, 3)) (w1 : Cond.methodLink q.1.cls index arraycopyName ∈ lw_all) (w2 : Cond.native arraycopyName ∈ lw_all) (w3 : Cond.static arraycopyName ∈ lw_all) (w4 : Cond.initialized "java/lang/System" ∈ lw_all)
    (hp : ∀ x ∈ prims, (lty g)[x.1]? = some x.2 ∧ refKind x.2 = false) (ht : ∀ q ∈ tab, ∃ (r : vw_C) (E : String), (lcl g)[q.2]? = some r ∧ (lty g)[q.1]? = some (.object E) ∧ (r.1 = E ∨ Cond.castable r.1 E ∈ lw_tbl)) (hj : pc j = pc i + 3) : lOkN g q pc i (fCopy prims tab j) := by
  have nn : ∀ z : Int32, ¬ z < 0 → z.toInt = (z.toNatClampNeg : Int) := by
    intro z hz
    have hz0 : (0 : Int) ≤ z.toInt := by
      have := Int32.not_lt.mp hz
      simpa using Int32.le_iff_toInt_le.mp this
    show z.toInt = ((z.toInt.toNat : Nat) : Int)
    omega
  intro l d p e R s m args below meth c htr hC H locs n0 s0 Q ls lv st M j' lv' st' M' h b1 b2 b3 b4 hR hz hl k
  obtain ⟨c1, c2, c3, c4, c5, c6, c7, c8, c9, c10, c11, c12, c13⟩ := hC
  unfold fCopy at h
  dsimp only at h
  split at h
  · rename_i n dp a sp a0 r
    split at h
    · rename_i w0 t0 xs hc0
      split at h
      · rename_i t1 ys hc1
        split at h
        · rename_i hh
          cases h
          obtain ⟨hn3, hn2, hn1, hn4, hn5, hsum, hcase⟩ := hh
          obtain ⟨x0, q1, q2, q3, q4, -, q5⟩ := hR.2.2.2 a0 _ hc0
          obtain ⟨q6, q7⟩ := q5 rfl
          obtain ⟨x1, p1, p2, p3, p4, -, p5⟩ := hR.2.2.2 a _ hc1
          obtain ⟨p6, p7⟩ := p5 rfl
          obtain ⟨ha, hv0, hm0⟩ := p4 rfl
          dsimp only at q6 q7 p6 p7
          obtain ⟨ty0, hty0⟩ : ∃ ty, (lty g)[t0]? = some ty := by obtain ⟨ty, _, _, z, _⟩ := q6; exact ⟨ty, z⟩
          obtain ⟨ty1, hty1⟩ : ∃ ty, (lty g)[t1]? = some ty := by obtain ⟨ty, _, _, z, _⟩ := p6; exact ⟨ty, z⟩
          obtain ⟨k0, m0, f1, f2, -⟩ := lKa c10.2.1 hty0 q6
          obtain ⟨k1, m1, f3, f4, f5⟩ := lKa c10.2.1 hty1 p6
          have hstr := lStretch x0 xs sp.toNatClampNeg n.toNatClampNeg q7 hn4
          have hmem : ∀ b, b < n.toNatClampNeg → x0.slots.getD (sp.toNatClampNeg + b) .null ∈ (xs.drop sp.toNatClampNeg).take n.toNatClampNeg := by
            intro b hb
            rw [← hstr]
            unfold Cell.stretch
            exact List.mem_map.mpr ⟨b, List.mem_range.mpr hb, rfl⟩
          have hty : ((refKind ty0 != refKind ty1) || (!refKind ty0 && ty0 != ty1)) = false := by
            rcases hcase with ⟨rfl, hpr⟩ | ⟨h5, h6, -⟩
            · cases hty0.symm.trans hty1
              simp
            · obtain ⟨⟨t2, c2'⟩, g1, g2⟩ := List.any_eq_true.mp h5
              obtain ⟨⟨t3, c3'⟩, g3, g4⟩ := List.any_eq_true.mp h6
              obtain ⟨-, E2, -, g5, -⟩ := ht _ g1
              obtain ⟨-, E3, -, g6, -⟩ := ht _ g3
              have e2 : t2 = t0 := by simpa using g2
              have e3 : t3 = t1 := by simpa using g4
              subst e2; subst e3
              cases hty0.symm.trans g5
              cases hty1.symm.trans g6
              simp [refKind]
          have hvals : ∀ T : State, T.heap = H → ∀ vm', s.vm.Alike vm' → ∀ b, b < n.toNatClampNeg → fits ty1 (x0.slots.getD (sp.toNatClampNeg + b) .null) = true ∧ (T.setVm vm').takes m1 (x0.slots.getD (sp.toNatClampNeg + b) .null) := by
            intro T hT vm' hA b hb
            have hm := hmem b hb
            generalize x0.slots.getD (sp.toNatClampNeg + b) .null = v at hm ⊢
            rcases hcase with ⟨rfl, hpr⟩ | ⟨h5, h6, h7⟩
            · obtain ⟨ty, z1, z2⟩ := lPrm_ok hpr
              obtain ⟨z3, z4⟩ := hp _ z1
              cases hty1.symm.trans z3
              have z5 := z2 v hm
              refine ⟨z5, ?_⟩
              cases v with
              | ref b => dsimp only at z4; cases ty <;> simp [refKind, fits] at z4 z5
              | _ => exact trivial
            · have h8 := List.all_eq_true.mp h7 v hm
              unfold lInA at h8
              split at h8
              · rename_i b'
                split at h8
                · rename_i w ci fs hv
                  obtain ⟨rr, E, g1, g2, g3⟩ := ht _ (List.contains_iff_mem.mp h8)
                  cases hty1.symm.trans g2
                  obtain ⟨xv, u1, u2, u3⟩ := lRecv c10 hR hv g1
                  have hfc := f5 E rfl
                  obtain ⟨kE, hkE, -⟩ := Vm.findClass_spec hfc
                  obtain ⟨kV, hkV, -⟩ := Vm.findClass_spec u3
                  have has : s.vm.assignable xv.cls m1 = true := by
                    rcases g3 with rfl | g3
                    · have e2 : xv.cls = m1 := Option.some.inj (u3.symm.trans hfc)
                      obtain ⟨c1', c2'⟩ := (c10.1 _ _ g1).1
                      have e3 := Option.some.inj (u3.symm.trans c1')
                      rw [← e2, e3]
                      exact va_assign ⟨c1', c2'⟩
                    · obtain ⟨c0, t0', d1, d2, d3⟩ := Cond.castable_spec (va_Nw.use (A := args) rfl (c10.2.2.1 _ g3 rfl))
                      cases u3.symm.trans d1
                      cases hfc.symm.trans d2
                      exact d3
                  obtain ⟨kE', hkE', -⟩ := hA.2.2 _ _ hkE
                  obtain ⟨kV', hkV', -⟩ := hA.2.2 _ _ hkV
                  refine ⟨rfl, xv, (by show T.heap[_]? = _; rw [hT]; exact u1), (fun k z => by rw [z] at u2; cases u2), ⟨kV', hkV'⟩, ⟨kE', hkE'⟩, ?_⟩
                  show vm'.assignable _ _ = true
                  rw [hA.assignable]; exact has
                · cases h8
              · obtain ⟨⟨t3, c3'⟩, g3, g4⟩ := List.any_eq_true.mp h6
                obtain ⟨-, E3, -, g6, -⟩ := ht _ g3
                have e3 : t3 = t1 := by simpa using g4
                subst e3
                cases hty1.symm.trans g6
                exact ⟨rfl, trivial⟩
              · cases h8
          intro T hT X
          obtain ⟨vm', X', stp⟩ := X.arraycopy c1 c4 (c5 _ w1) (c5 _ w2) (c5 _ w3) (c5 _ w4) (src := a0) (dst := a) (cs := x0) (cd := x1) (srcPos := sp) (destPos := dp) (n := n) (by rw [hT]; exact q1) (by rw [hT]; exact p1)
            (fun k z => by rw [z] at q2; cases q2) (fun k z => by rw [z] at p2; cases p2) q3 p3 f1 f3 f2 f4 hty hn1 hn2 hn3 (by rw [nn sp hn1, nn n hn3, q7]; simp; omega) (by rw [nn dp hn2, nn n hn3, p7]; simp; omega) (hvals T hT)
            (g := F0 m (pc i) ls (.int n :: .int dp :: .ref a :: .int sp :: .ref a0 :: st')) rfl (by rw [c3]; exact hl.1) (rest := st') rfl (by rw [c2]; exact hd) (by omega) (by
              have : nativeFrameWords "java/lang/System" "arraycopy" 5 ≤ 40 := by decide
              show 2 * 0 + _ + _ ≤ _; omega)
          have e1 : copied x0 x1 sp dp n = { x1 with slots := (lSt ys dp.toNatClampNeg ((xs.drop sp.toNatClampNeg).take n.toNatClampNeg)).toArray } := by
            unfold copied Cell.storeRun
            rw [hstr, lPairs, p7]
            simp
          rw [e1] at X' stp
          have hlt : a < H.size := (Array.getElem?_eq_some_iff.mp p1).1
          generalize hx1 : ({ x1 with slots := (lSt ys dp.toNatClampNeg ((xs.drop sp.toNatClampNeg).take n.toNatClampNeg)).toArray } : Cell) = x2 at X' stp
          have oq : ∀ q : Nat, q ≠ a → (H.setIfInBounds a x2)[q]? = H[q]? := fun q hq => by simp [Array.getElem?_setIfInBounds, Ne.symm hq]
          have kk := k (H.setIfInBounds a x2) (locs ++ (x0.stretch sp.toNatClampNeg n.toNatClampNeg).zipIdx.map fun q => ⟨a, dp.toNatClampNeg + q.2⟩) ls (hR.put ha (by simp) oq ⟨x2, by simp [Array.getElem?_setIfInBounds, hlt], by rw [← hx1]; exact p2, by rw [← hx1]; exact p3, by rw [← hx1]; exact fun _ => ⟨ha, hv0, hm0⟩, (fun z => by cases z), fun _ => by rw [← hx1]; exact ⟨p6, rfl⟩⟩) (fun z hz' => by
            rcases List.mem_append.mp hz' with z1 | z1
            · exact hz z z1
            · obtain ⟨y, -, rfl⟩ := List.mem_map.mp z1
              exact ha) hl
          rw [hj] at kk
          obtain ⟨t2, a1, b1⟩ := kk _ (by rw [← hT]; rfl) X'
          exact ⟨t2, stp t2 a1, b1⟩
        · cases h
      · cases h
    · cases h
  · cases h
end LMore
section LTgt2
variable {g : lG} {inf : Nat → Option lInf} {q : lInf} {pc : Nat → Nat} {i n mi index : Nat} {y x : MethodName} {bytes : ByteArray} {maxL : Nat} {ret : Option FieldType} {hh : List (Nat × Nat × Nat × Nat)}
/-- the method that is named is abstract -/
theorem tg_A {ci : Nat} {r : vw_C} {owner : String} (hd : decode q.2.1 (pc i) = .ok (.invokevirtual index, 3)) (hi : inf mi = some (y, bytes, maxL, ret, none)) (hk : (lcl g)[ci]? = some r) (hT : ∀ w ∈ va_wsU q.1.cls index r.1 owner x y [], w ∈ lw_all) (w5 : Cond.code y bytes maxL ret ∈ lw_all) (w6 : Cond.declares ⟨owner, x.name, x.desc⟩ ∈ lw_tbl) (hn : owner ≠ "java/lang/invoke/MethodHandle" ∧ owner ≠ "java/lang/invoke/VarHandle" ∧ (parseMethodDescriptor x.desc).map (fun d => d.parameters.length) = some n) (hL : maxL ≤ 45 ∧ plainName y.cls = true) : lTgt 3 g inf q pc i (n + 1) mi (some ci) := by
  intro l d p e R s m args below meth c hC As M f1 qi hq hM hAs hci H locs ls stk rest cells slots hstk hR hsz hW h1 h2
  obtain ⟨c1, c2, c3, c4, c5, c6, c7, c8, c9, c10, c11, c12, c13⟩ := hC
  cases hi.symm.trans hq
  obtain ⟨b, As', rfl, w, fs, hb⟩ := hci _ rfl
  have hrecv := lRecv c10 hR hb hk
  exact vx_runU (As := As') (rest := rest) ⟨c1, c2, c3, c4, c5⟩ (hM.1 hL.2) (va_cwA n c5 (lw_app (fun w hw => hT w (List.mem_append_left _ hw)) (lw_meth w5)) rfl rfl rfl (c10.2.2.1 _ w6 rfl) hn ⟨by rw [c11]; show 2 * d + 1 ≤ 2 * (d + 1); omega, by rw [c12]; show 8 + (maxL + 11) + 64 * d ≤ 64 * (d + 1); omega⟩) ⟨lPc.blind _ _ _, hrecv, fun U hU hW' => ⟨rfl, by rw [hU]; exact hR, c10.warm hW'⟩⟩ rfl (by simpa using hAs) hsz (by rw [hstk]; simp) (by simpa using hW) hd ⟨h1, h2⟩
theorem lSelP {C C2 : String} {y z w : MethodName} {s : State} {args : Array Value} {c : ClassId} (hc : s.vm.findClass C = some c) (hy : y.cls ≠ "java/lang/invoke/MethodHandle" ∧ y.cls ≠ "java/lang/invoke/VarHandle") (hpriv : (Cond.privateMethod y).before args s = true) (hinst : (Cond.instanceMethod y).before args s = true) (hsel : (Cond.selects C2 z w).before args s = true) (hw : w.cls = y.cls) : (Cond.selects C y y).before args s = true := by
  obtain ⟨mk, methM, hnamed, hmethM, -, -⟩ := Cond.instanceMethod_spec hinst
  have hfound : s.methodFound? y.cls y.name y.desc = some mk := State.methodFound?_of_named hnamed hy
  have hs : selectMethod {} s.vm c mk = .method mk := selectMethod_private hmethM (Cond.privateMethod_at hpriv mk methM hnamed hmethM)
  obtain ⟨c2, r2, m2, -, -, hm2, -, kk, hkk, hni⟩ := Cond.selects_spec hsel
  have e1 : m2.cls = mk.cls := Option.some.inj ((findClass_of_methodNamed hm2).symm.trans (by rw [hw]; exact findClass_of_methodNamed hnamed))
  rw [e1] at hkk
  simp only [Cond.before, Cond.holds, Cond.value, hc, hfound, hnamed, hs, hkk]
  simp
  exact hni
/-- a private method of a class above the receiver's -/
theorem tg_P {ci : Nat} {r : vw_C} {C2 : String} {z w9 : MethodName} (hd : decode q.2.1 (pc i) = .ok (.invokevirtual index, 3)) (hi : inf mi = some (y, bytes, maxL, ret, none)) (hk : (lcl g)[ci]? = some r) (w1 : Cond.methodLink q.1.cls index y ∈ lw_all) (w2 : Cond.instanceMethod y ∈ lw_all) (w3 : Cond.privateMethod y ∈ lw_tbl) (w4 : Cond.initialized y.cls ∈ lw_all) (w5 : Cond.code y bytes maxL ret ∈ lw_all) (w6 : Cond.selects C2 z w9 ∈ lw_all) (hw : w9.cls = y.cls) (hn : y.cls ≠ "java/lang/invoke/MethodHandle" ∧ y.cls ≠ "java/lang/invoke/VarHandle" ∧ (parseMethodDescriptor y.desc).map (fun d => d.parameters.length) = some n) (hL : maxL ≤ 45 ∧ plainName y.cls = true) : lTgt 3 g inf q pc i (n + 1) mi (some ci) := by
  intro l d p e R s m args below meth c hC As M f1 qi hq hM hAs hci H locs ls stk rest cells slots hstk hR hsz hW h1 h2
  obtain ⟨c1, c2, c3, c4, c5, c6, c7, c8, c9, c10, c11, c12, c13⟩ := hC
  cases hi.symm.trans hq
  obtain ⟨b, As', rfl, w, fs, hb⟩ := hci _ rfl
  have hrecv := lRecv c10 hR hb hk
  exact vx_runV (As := As') (rest := rest) ⟨c1, c2, c3, c4, c5⟩ (hM.1 hL.2) ⟨callB_of n c5 (lw_meth w5) rfl rfl rfl (c5 _ w4) (c5 _ w1) hn ⟨by rw [c11]; show 2 * d + 1 ≤ 2 * (d + 1); omega, by rw [c12]; show 8 + (maxL + 11) + 64 * d ≤ 64 * (d + 1); omega⟩, c5 _ w2, lSelP (c10.1 ci _ hk).1.1 ⟨hn.1, hn.2.1⟩ (va_Nw.use rfl (c10.2.2.1 _ w3 rfl)) (c5 _ w2) (c5 _ w6) hw⟩ ⟨lPc.blind _ _ _, hrecv, fun U hU hW' => ⟨rfl, by rw [hU]; exact hR, c10.warm hW'⟩⟩ rfl (by simpa using hAs) hsz (by rw [hstk]; simp) (by simpa using hW) hd ⟨h1, h2⟩
end LTgt2
/-! a call that goes into the callee's frame without a contract: where no word says that the callee's class is initialised -/
theorem lWeak {tb : Tables} {e : Env} {mid below : List Frame} {a b : State} (h : Steps tb e (mid ++ below) a b) : Steps tb e below a b := by
  obtain ⟨n, hn, hw⟩ := h
  exact ⟨n, hn, fun k hk => (hw k hk).weaken⟩
theorem lBackI {g : lG} {l : Launch} {y : MethodName} {bytes : ByteArray} {maxL d : Nat} {ret : Option FieldType} {As : List Value} {M : lMem} {fin : lF} {p : Program} {e : Env} {R : Room} {below : List Frame} {s : State} {args : Array Value}
    (hB : lBod g l (y, bytes, maxL, ret, none) d As M fin) (hx : p.tables.exec = Jvm.exec) (hts : ∀ w ∈ lw_all, w.before args s = true) (w5 : Cond.code y bytes maxL ret ∈ lw_all) (hy : plainFor y = true) (hf : R.frames = 2 * (d + 1)) (hlo : R.locals = 64 * (d + 1)) (hL : maxL ≤ 45) :
    vx_Back l R p e below s args y 3 8 (PreOf R (fin.2.2.1 - M.2.1) (fin.2.2.2 - M.2.2) (lPc g As M)) (PostOf (lQc g fin) (fin.2.2.1 - M.2.1) (fin.2.2.2 - M.2.2) (fun a => lba g ≤ a)) (vx_Post (lXC g fin) (fin.2.2.1 - M.2.1) (fin.2.2.2 - M.2.2) (fun a => lba g ≤ a)) := by
  intro m meth c A gg ig mk a X hg hsize hdg hW hn hp
  obtain ⟨p1, p2, rfl, p4, p5⟩ := hp
  obtain ⟨U, Ls, c0, s0⟩ := A
  dsimp only [Pt.U, Pt.locs, Pt.cells, Pt.slots] at X hn p1 p2 p4 p5 ⊢
  have pay := pay_in hts (lw_meth w5)
  have h2 : (Cond.code y bytes maxL ret).before As.toArray U = true := pay _ List.mem_cons_self _ _ X.warmed
  obtain ⟨methY, cY, hmY, hcY, hbY, hlY, hrY, hkY, hxY, hsY⟩ := Cond.code_spec hn h2
  obtain ⟨kY, hkY2, hnY⟩ := className_of_methodNamed hn
  have hpl : U.plainMethod mk := State.plainMethod.of_named hy hn hmY
  obtain ⟨Y₀, hin⟩ := X.into hg hsize hdg As.toArray (R' := { frames := 2 * d, cells := fin.2.2.1 - M.2.1, slots := fin.2.2.2 - M.2.2, locals := 64 * d }) hmY hcY hkY hpl (by show 2 * d + 1 ≤ _; omega) (by show _ + _ + (cY.maxLocals + 11) + 64 * d ≤ _; omega) p1 p2
  have htab : cY.exceptionTable.toList = tableOf ((none : Option (List (Nat × Nat × Nat × Nat))).getD []) := by
    have : cY.exceptionTable = #[] := Array.isEmpty_iff.mp hxY
    rw [this]; rfl
  have w := hB p e { frames := 2 * d, cells := fin.2.2.1 - M.2.1, slots := fin.2.2.2 - M.2.2, locals := 64 * d } (U.calling gg mk As.toArray) mk (.java gg :: below) methY cY ⟨hx, hbY, hlY, findClass_of_methodNamed hn, fun w hw => pay w (List.mem_cons_of_mem _ hw) _ _ X.warmed, hrY, hkY, (name_of_methodNamed hn hmY).1, htab, lKn.same (s := U) rfl p5, rfl, rfl, p4.2.2.1⟩ (by show fin.2.2.1 ≤ M.2.1 + (fin.2.2.1 - M.2.1); omega) (by show fin.2.2.2 ≤ M.2.2 + (fin.2.2.2 - M.2.2); omega) p4
  obtain ⟨t, hst, o, hrun, hend, hQ⟩ := w ((U.setTop gg).pushFrame (.java (entryFrame mk As.toArray cY.maxLocals))) rfl Y₀
  rcases hQ with ⟨⟨v, hv, rfl, hrel⟩, L, ⟨-, hWt, hsame⟩, hfree⟩ | ⟨x, rfl, E, ce, L, hxc, hce, hcv, hcl, hWt, hsame, hfree⟩
  · obtain ⟨T', X', hW', -, ht⟩ := X.outOf hg hdg hend hWt hsame
    refine Or.inl ⟨v, ⟨T', Ls ++ L, _, _⟩, X', ⟨gg, mk, t, L, (congrArg State.heap ht).symm, (congrArg State.vm ht).symm, ⟨v, hv, rfl, hrel⟩, rfl, hfree, rfl, rfl⟩, ?_⟩
    rw [hin [], hlY, ← ht]
    rw [hlY] at hst
    exact lWeak (mid := [.java gg]) hst
  · obtain ⟨T', X', hW', -, ht⟩ := X.outOfThrown hg hend hWt hsame
    refine Or.inr ⟨x, ⟨T', Ls ++ L, _, _⟩, X', ⟨gg, mk, t, L, E, ce, (congrArg State.heap ht).symm, (congrArg State.vm ht).symm, hxc, hce, hcv, hcl, rfl, hfree, rfl, rfl⟩, ?_⟩
    rw [hin [], hlY, ← ht]
    rw [hlY] at hst
    exact lWeak (mid := [.java gg]) hst
def lDcl (g : lG) (x : MethodName) : Prop := ∀ (s : State) (args : Array Value), (∀ w ∈ lw_all, w.before args s = true) → lKn g s → va_Decl s x
theorem lDclA {g : lG} {x : MethodName} (h : Cond.declares x ∈ lw_tbl) : lDcl g x := fun s args c5 c10 => va_Decl.abs (c10.2.2.1 _ h rfl)
theorem lDclC {g : lG} {x : MethodName} {b : ByteArray} {m : Nat} {ret : Option FieldType} (h1 : Cond.instanceMethod x ∈ lw_all) (h2 : Cond.code x b m ret ∈ lw_all) : lDcl g x := fun s args c5 c10 => va_Decl.of (c5 _ h1) (c5 _ h2)
/-- a virtual call into the callee's frame; the method that is named may be abstract -/
theorem tg_X {g : lG} {inf : Nat → Option lInf} {q : lInf} {pc : Nat → Nat} {i n mi index : Nat} {y x : MethodName} {bytes : ByteArray} {maxL : Nat} {ret : Option FieldType} {ci : Nat} {r : vw_C} {owner : String} (hd : decode q.2.1 (pc i) = .ok (.invokevirtual index, 3)) (hi : inf mi = some (y, bytes, maxL, ret, none)) (hk : (lcl g)[ci]? = some r)
    (w1 : Cond.methodLink q.1.cls index x ∈ lw_all) (w2 : Cond.sameMethod x.cls owner x.name x.desc ∈ lw_all) (w3 : Cond.selects r.1 x y ∈ lw_all) (w4 : Cond.instanceMethod y ∈ lw_all) (w5 : Cond.code y bytes maxL ret ∈ lw_all) (w6 : lDcl g ⟨owner, x.name, x.desc⟩) (hy : plainName y.cls = true)
    (hn : owner ≠ "java/lang/invoke/MethodHandle" ∧ owner ≠ "java/lang/invoke/VarHandle" ∧ (parseMethodDescriptor x.desc).map (fun d => d.parameters.length) = some n) (hL : maxL ≤ 45) : lTgt 3 g inf q pc i (n + 1) mi (some ci) := by
  intro l d p e R s m args below meth c hC As M f1 qi hq hM hAs hci H locs ls stk rest cells slots hstk hR hsz hW h1 h2
  obtain ⟨c1, c2, c3, c4, c5, c6, c7, c8, c9, c10, c11, c12, c13⟩ := hC
  cases hi.symm.trans hq
  obtain ⟨b, As', rfl, w, fs, hb⟩ := hci _ rfl
  obtain ⟨cellB, hcB, hoB, hclB⟩ := lRecv c10 hR hb hk
  intro T hT X
  rcases vx_callVU X c1 (C := r.1) (owner := owner) (bytes := bytes) (maxL := maxL) (ret := ret) c4 (c5 _ w1) (c5 _ w2) (w6 s args c5 c10) ⟨hn.1, hn.2.1⟩ (c5 _ w3) (c5 _ w4) (c5 _ w5) (lBackI hM.2 c1 c5 w5 (plainFor_of_name hy) c11 c12 hL) (by rw [hT]; exact hcB) hoB hclB (g := F0 m (pc i) ls stk) rfl (hsz.trans c3.symm) (argsL := As') (rest := rest)
    (fun sig h => by
      have h2 := hn.2.2
      rw [h] at h2
      have h3 := Option.some.inj h2
      dsimp only at h3
      rw [h3]
      simpa using hAs) (by show stk = _; rw [hstk]; simp) (by simpa using hW) (by rw [c2]; exact hd)
    (fun vm₁ hW₁ => ⟨h1, h2, rfl, by show lRel g M T.heap; rw [hT]; exact hR, c10.warm hW₁⟩) with ⟨v, vm₁, ⟨U', l2, c2', s2⟩, hW₁, X', ⟨g', mk, t, L, e1, e2, hq', h1', hL', h2', h3'⟩, st⟩ | ⟨x9, vm₁, ⟨U', l2, c2', s2⟩, hW₁, X', ⟨g', mk, t, L, E, ce, e1, e2, hq', hce, hcv, hcl, h1', hL', h2', h3'⟩, st⟩
  · dsimp only [Pt.U, Pt.locs, Pt.cells, Pt.slots] at X' e1 e2 h1' h2' h3' st
    subst h1'; subst h2'; subst h3'
    exact Or.inl ⟨v, (T.setVm vm₁).calling g' mk (Value.ref b :: As').toArray, t, U', L, hT, X', hL', e1, e2, hq', st⟩
  · dsimp only [Pt.U, Pt.locs, Pt.cells, Pt.slots] at X' e1 e2 h1' h2' h3' st hcl
    subst h1'; subst h2'; subst h3'
    exact Or.inr ⟨x9, (T.setVm vm₁).calling g' mk (Value.ref b :: As').toArray, t, U', L, E, ce, hT, X', hL', e1, e2, hq', hce, hcv, vx_cls hW₁ hcl, st⟩
/-- a static call into the callee's frame (java/lang/Math isn't plainly named) -/
theorem tg_SI {g : lG} {inf : Nat → Option lInf} {q : lInf} {pc : Nat → Nat} {i n mi index : Nat} {y : MethodName} {bytes : ByteArray} {maxL : Nat} {ret : Option FieldType} (hd : decode q.2.1 (pc i) = .ok (.invokestatic index, 3)) (hi : inf mi = some (y, bytes, maxL, ret, none)) (w1 : Cond.methodLink q.1.cls index y ∈ lw_all) (w2 : Cond.static y ∈ lw_all) (w3 : Cond.initialized y.cls ∈ lw_all) (w4 : Cond.code y bytes maxL ret ∈ lw_all)
    (hn : y.cls ≠ "java/lang/invoke/MethodHandle" ∧ y.cls ≠ "java/lang/invoke/VarHandle" ∧ (parseMethodDescriptor y.desc).map (fun d => d.parameters.length) = some n) (hL : maxL ≤ 45 ∧ plainFor y = true) : lTgt 3 g inf q pc i n mi none := by
  intro l d p e R s m args below meth c hC As M f1 qi hq hM hAs hci H locs ls stk rest cells slots hstk hR hsz hW h1 h2
  obtain ⟨c1, c2, c3, c4, c5, c6, c7, c8, c9, c10, c11, c12, c13⟩ := hC
  cases hi.symm.trans hq
  intro T hT X
  rcases vx_callS X c1 (bytes := bytes) (maxL := maxL) (ret := ret) c4 (c5 _ w1) (c5 _ w2) (c5 _ w3) (c5 _ w4) ⟨hn.1, hn.2.1⟩ (lBackI hM.2 c1 c5 w4 hL.2 c11 c12 hL.1) (g := F0 m (pc i) ls stk) rfl (hsz.trans c3.symm) (argsL := As) (rest := rest)
    (fun sig h => by
      have h2 := hn.2.2
      rw [h] at h2
      have h3 := Option.some.inj h2
      dsimp only at h3
      rw [h3]
      exact hAs) hstk (by simpa using hW) (by rw [c2]; exact hd)
    (fun vm₁ hW₁ => ⟨h1, h2, rfl, by show lRel g M T.heap; rw [hT]; exact hR, c10.warm hW₁⟩) with ⟨v, vm₁, ⟨U', l2, c2', s2⟩, hW₁, X', ⟨g', mk, t, L, e1, e2, hq', h1', hL', h2', h3'⟩, st⟩ | ⟨x9, vm₁, ⟨U', l2, c2', s2⟩, hW₁, X', ⟨g', mk, t, L, E, ce, e1, e2, hq', hce, hcv, hcl, h1', hL', h2', h3'⟩, st⟩
  · dsimp only [Pt.U, Pt.locs, Pt.cells, Pt.slots] at X' e1 e2 h1' h2' h3' st
    subst h1'; subst h2'; subst h3'
    exact Or.inl ⟨v, (T.setVm vm₁).calling g' mk As.toArray, t, U', L, hT, X', hL', e1, e2, hq', st⟩
  · dsimp only [Pt.U, Pt.locs, Pt.cells, Pt.slots] at X' e1 e2 h1' h2' h3' st hcl
    subst h1'; subst h2'; subst h3'
    exact Or.inr ⟨x9, (T.setVm vm₁).calling g' mk As.toArray, t, U', L, E, ce, hT, X', hL', e1, e2, hq', hce, hcv, vx_cls hW₁ hcl, st⟩
