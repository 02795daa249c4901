set_option maxRecDepth 100000
def tPf : List (Nat × Nat) := [(0, 100), (2, 50), (2, 51), (2, 52), (2, 53), (2, 54), (2, 55), (2, 56), (2, 57), (0, 109), (0, 110), (0, 111), (0, 112), (0, 113), (2, 58), (2, 59), (2, 60), (0, 117), (0, 118), (0, 119), (0, 120), (2, 61), (2, 62), (2, 63), (0, 124), (2, 64), (2, 65), (0, 127), (2, 66), (2, 67), (0, 130), (2, 68), (2, 69), (2, 70), (2, 71), (0, 135), (2, 72), (2, 73), (2, 74), (2, 75)]
theorem tTab_two {c ci : Nat} {fs : List (Nat × Nat)} (ht : tTab[c]? = some (.inl (ci, fs))) {f : Nat × Nat} (hf : f ∈ fs) (h2 : ¬ f.1 = 0) (h3 : ¬ f.1 = 1) : f.1 = 2 := by
  have h : (List.range tTab.length).all (fun c => match tTab[c]? with | some (.inl (_, fs)) => fs.all (fun f => f.1 == 0 || f.1 == 1 || f.1 == 2) | _ => true) = true := by decide +kernel
  have h1 := List.all_eq_true.mp h c (List.mem_range.mpr (tlen ht))
  rw [ht] at h1
  have h4 := List.all_eq_true.mp h1 f hf
  simp only [Bool.or_eq_true, beq_iff_eq] at h4
  rcases h4 with (h4 | h4) | h4
  · exact absurd h4 h2
  · exact absurd h4 h3
  · exact h4
theorem tTab_swc {c : Nat} (hc : c < tTab.length) : tTab[swc c]? = tTab[c]? := by
  have h : ∀ c ∈ List.range tTab.length, tTab[swc c]? = tTab[c]? := by decide +kernel
  exact h c (List.mem_range.mpr hc)
theorem tTab_obj {c ci : Nat} {fs : List (Nat × Nat)} (ht : tTab[c]? = some (.inl (ci, fs))) : swc c = c := by
  have h : (List.range tTab.length).all (fun c => match tTab[c]? with | some (.inl _) => swc c == c | _ => true) = true := by decide +kernel
  have h1 := List.all_eq_true.mp h c (List.mem_range.mpr (tlen ht))
  rw [ht] at h1
  exact beq_iff_eq.mp h1
theorem tTab_long {c t len : Nat} (ht : tTab[c]? = some (.inr (t, len))) (h0 : t = 1) : swc c = c := by
  have h : (List.range tTab.length).all (fun c => match tTab[c]? with | some (.inr (1, _)) => swc c == c | _ => true) = true := by decide +kernel
  have h1 := List.all_eq_true.mp h c (List.mem_range.mpr (tlen ht))
  rw [ht, h0] at h1
  exact beq_iff_eq.mp h1
theorem tTab_ref {c ci : Nat} {fs : List (Nat × Nat)} (ht : tTab[c]? = some (.inl (ci, fs))) (h0 : c ≠ 1) {f : Nat × Nat} (hf : f ∈ fs) (h2 : f.1 = 2) : f.2 < tTab.length ∧ swc f.2 = f.2 := by
  have h : (List.range tTab.length).all (fun c => match tTab[c]? with | some (.inl (_, fs)) => c == 1 || fs.all (fun f => !(f.1 == 2) || (decide (f.2 < tTab.length) && (swc f.2 == f.2))) | _ => true) = true := by decide +kernel
  have h1 := List.all_eq_true.mp h c (List.mem_range.mpr (tlen ht))
  rw [ht] at h1
  dsimp only at h1
  have e : (c == 1) = false := by simpa using h0
  rw [e, Bool.false_or] at h1
  have h3 := List.all_eq_true.mp h1 f hf
  rw [h2] at h3
  simp only [beq_self_eq_true, Bool.not_true, Bool.false_or, Bool.and_eq_true, decide_eq_true_eq, beq_iff_eq] at h3
  exact h3
theorem tTab_ref2 {c ci : Nat} {fs : List (Nat × Nat)} (ht : tTab[c]? = some (.inl (ci, fs))) {f : Nat × Nat} (hf : f ∈ fs) (h2 : ¬ f.1 = 0) (h3 : ¬ f.1 = 1) (h0 : c ≠ 1) : f.2 < tTab.length ∧ swc f.2 = f.2 := tTab_ref ht h0 hf (tTab_two ht hf h2 h3)
theorem gF_own {h : lHeap} {n m a ci k : Nat} {fs : List Value} {v : Value} {tab : List (Nat × Nat)} (hci : ci < 1000) (hk : lLook tab ci = some k) (hv : fs[k]? = some v) : gF (lUpd h a (true, false, ci, fs), n, m) tab a v := ⟨true, ci, k, fs, lUpd_eq .., hci, hk, hv⟩
theorem lUpd2 (h : lHeap) (a : Nat) (c d : lCell) : lUpd (lUpd h a c) a d = lUpd h a d := by
  funext q
  by_cases e : q = a
  · rw [e, lUpd_eq, lUpd_eq]
  · rw [lUpd_ne _ _ e, lUpd_ne _ _ e, lUpd_ne _ _ e]
theorem pF_own {h : lHeap} {n m a ci k : Nat} {fs : List Value} {v : Value} {tab : List (Nat × Nat)} (hci : ci < 1000) (hk : lLook tab ci = some k) (hl : k < fs.length) : pF (lUpd h a (true, false, ci, fs), n, m) tab a v (fun A => A = (lUpd h a (true, false, ci, fs.set k v), n, m)) := ⟨ci, k, fs, lUpd_eq .., hci, hk, hl, by rw [lUpd2]⟩
theorem lUpd_id {h : lHeap} {a : Nat} {c : lCell} (e : h a = some c) : lUpd h a c = h := by
  funext q
  by_cases z : q = a
  · rw [z, lUpd_eq, e]
  · rw [lUpd_ne _ _ z]
theorem fx_swp {ad : List Nat} (hn : tOk ad) {q c : Nat} (h : fx ad q = some c) : fx (swp ad) q = some (swc c) := by
  have h1 := fx_some h
  have hc : c < tTab.length := by rw [← hn.1]; exact tlen h1
  refine fx_of (swp_ok hn).2 ?_
  rw [adr_get (swp_ok hn) (swc_lt hc), adr_swp (swc_lt hc), swc_swc]
  rw [adr_get hn hc] at h1
  exact h1
theorem fx_swpn {ad : List Nat} (hn : tOk ad) {q : Nat} (h : fx ad q = none) : fx (swp ad) q = none := by
  cases e : fx (swp ad) q with
  | none => rfl
  | some c =>
    have h1 := fx_some e
    have hc : c < tTab.length := by rw [← (swp_ok hn).1]; exact tlen h1
    rw [adr_get (swp_ok hn) hc, adr_swp hc] at h1
    cases h1
    rw [fx_of hn.2 (adr_get hn (swc_lt hc))] at h
    cases h
theorem tp_swp {ad : List Nat} (hn : tOk ad) {s s' : TS} {A0 : lMem} {LF : List Value} (h1 : tcell (swp ad) s' 1 = (true, false, 52, LF)) (h2 : ∀ c, c < tTab.length → c ≠ 1 → tcell (swp ad) s' (swc c) = tcell ad s c) : (lUpd (tp ad s A0).1 (adr ad 1) (true, false, 52, LF), (tp ad s A0).2.1, (tp ad s A0).2.2) = tp (swp ad) s' A0 := by
  unfold tp
  dsimp only
  refine Prod.ext ?_ rfl
  funext q
  dsimp only
  by_cases e : q = adr ad 1
  · rw [e, lUpd_eq, fx_swp hn (fx_of hn.2 (adr_get hn (c := 1) (by decide)))]
    dsimp only
    rw [show swc 1 = 1 from rfl, h1]
  · rw [lUpd_ne _ _ e]
    cases hf : fx ad q with
    | none =>
      dsimp only
      rw [fx_swpn hn hf]
    | some c =>
      dsimp only
      rw [fx_swp hn hf]
      dsimp only
      have h3 := fx_some hf
      have hc : c < tTab.length := by rw [← hn.1]; exact tlen h3
      rw [h2 c hc]
      intro z
      rw [z, adr_get hn (by decide)] at h3
      cases h3
      exact e rfl
theorem ts_686 {R : lAR} (hR : lRok R) {E : lE} {ad : List Nat} (hn : tOk ad) {s : TS} {A0 : lMem} {x : TS} (h : t_686 s = some x) {Z : lZ} (hz : Z (.inl none) (tp (swp ad) x A0)) : lSQ R E 1 686 [.ref (adr ad 1)] (tp ad s A0) Z := by
  refine lQ.sq pg_686 (Nat.le_of_ble_eq_true rfl) rfl ?_
  unfold t_686 at h
  rcases iteC h with ⟨hg, h⟩ | ⟨_, h⟩
  case inr => cases h
  cases h
  have e : tp ad s A0 = (lUpd (tp ad s A0).1 (adr ad 1) (true, false, 52, tPf.map (fval ad s)), (tp ad s A0).2.1, (tp ad s A0).2.2) := by
    have e1 := lUpd_id (tp_at (s := s) (A0 := A0) hn (c := 1) (by decide))
    rw [tcell_obj (c := 1) (ci := 52) (fs := tPf) rfl] at e1
    rw [e1]
  rw [e]
  refine lQ.loadN rfl rfl ?_
  refine lQ.get hR rfl (gF_own (k := 21) (by decide) rfl rfl) ?_
  refine lQ.stN rfl (lN2s rfl rfl) ?_
  refine lQ.loadN rfl rfl ?_
  refine lQ.loadN rfl rfl ?_
  refine lQ.get hR rfl (gF_own (k := 14) (by decide) rfl rfl) ?_
  refine lQ.put hR rfl rfl (pF_own (k := 21) (by decide) rfl (Nat.le_of_ble_eq_true rfl)) ?_
  rintro _ rfl
  refine lQ.loadN rfl rfl ?_
  refine lQ.loadN rfl rfl ?_
  refine lQ.put hR rfl rfl (pF_own (k := 14) (by decide) rfl (Nat.le_of_ble_eq_true rfl)) ?_
  rintro _ rfl
  refine lQ.loadN rfl rfl ?_
  refine lQ.get hR rfl (gF_own (k := 22) (by decide) rfl rfl) ?_
  refine lQ.stN rfl (lN2s rfl rfl) ?_
  refine lQ.loadN rfl rfl ?_
  refine lQ.loadN rfl rfl ?_
  refine lQ.get hR rfl (gF_own (k := 15) (by decide) rfl rfl) ?_
  refine lQ.put hR rfl rfl (pF_own (k := 22) (by decide) rfl (Nat.le_of_ble_eq_true rfl)) ?_
  rintro _ rfl
  refine lQ.loadN rfl rfl ?_
  refine lQ.loadN rfl rfl ?_
  refine lQ.put hR rfl rfl (pF_own (k := 15) (by decide) rfl (Nat.le_of_ble_eq_true rfl)) ?_
  rintro _ rfl
  refine lQ.loadN rfl rfl ?_
  refine lQ.get hR rfl (gF_own (k := 23) (by decide) rfl rfl) ?_
  refine lQ.stN rfl (lN2s rfl rfl) ?_
  refine lQ.loadN rfl rfl ?_
  refine lQ.loadN rfl rfl ?_
  refine lQ.get hR rfl (gF_own (k := 16) (by decide) rfl rfl) ?_
  refine lQ.put hR rfl rfl (pF_own (k := 23) (by decide) rfl (Nat.le_of_ble_eq_true rfl)) ?_
  rintro _ rfl
  refine lQ.loadN rfl rfl ?_
  refine lQ.loadN rfl rfl ?_
  refine lQ.put hR rfl rfl (pF_own (k := 16) (by decide) rfl (Nat.le_of_ble_eq_true rfl)) ?_
  rintro _ rfl
  refine lQ.loadN rfl rfl ?_
  refine lQ.get hR rfl (gF_own (k := 26) (by decide) rfl rfl) ?_
  refine lQ.stN rfl (lN2s rfl rfl) ?_
  refine lQ.loadN rfl rfl ?_
  refine lQ.loadN rfl rfl ?_
  refine lQ.get hR rfl (gF_own (k := 25) (by decide) rfl rfl) ?_
  refine lQ.put hR rfl rfl (pF_own (k := 26) (by decide) rfl (Nat.le_of_ble_eq_true rfl)) ?_
  rintro _ rfl
  refine lQ.loadN rfl rfl ?_
  refine lQ.loadN rfl rfl ?_
  refine lQ.put hR rfl rfl (pF_own (k := 25) (by decide) rfl (Nat.le_of_ble_eq_true rfl)) ?_
  rintro _ rfl
  refine lQ.loadN rfl rfl ?_
  refine lQ.loadN rfl rfl ?_
  refine lQ.get hR rfl (gF_own (k := 12) (by decide) rfl rfl) ?_
  refine lQ.put hR rfl rfl (pF_own (k := 19) (by decide) rfl (Nat.le_of_ble_eq_true rfl)) ?_
  rintro _ rfl
  refine lQ.loadN rfl rfl ?_
  refine lQ.loadN rfl rfl ?_
  refine lQ.get hR rfl (gF_own (k := 13) (by decide) rfl rfl) ?_
  refine lQ.put hR rfl rfl (pF_own (k := 20) (by decide) rfl (Nat.le_of_ble_eq_true rfl)) ?_
  rintro _ rfl
  refine lQ.loadN rfl rfl ?_
  refine lQ.loadN rfl rfl ?_
  refine lQ.get hR rfl (gF_own (k := 17) (by decide) rfl rfl) ?_
  refine lQ.put hR rfl rfl (pF_own (k := 24) (by decide) rfl (Nat.le_of_ble_eq_true rfl)) ?_
  rintro _ rfl
  refine lQ.loadN rfl rfl ?_
  refine lQ.loadN rfl rfl ?_
  refine lQ.get hR rfl (gF_own (k := 9) (by decide) rfl rfl) ?_
  refine lQ.put hR rfl (fitB hg) (pF_own (k := 18) (by decide) rfl (Nat.le_of_ble_eq_true rfl)) ?_
  rintro _ rfl
  refine lQ.retV rfl ?_
  have f := tp_swp (A0 := A0) hn (s := s) (s' := ptI (ptI (ptI (ptI (s.1, s.2.1, fun c k => s.2.2.1 (swc c) k, s.2.2.2) 119 (s.1 112)) 120 (s.1 113)) 124 (s.1 117)) 118 (s.1 109)) (LF := ((((((((((((tPf.map (fval ad s)).set 21 (.ref (adr ad 58))).set 14 (.ref (adr ad 61))).set 22 (.ref (adr ad 59))).set 15 (.ref (adr ad 62))).set 23 (.ref (adr ad 60))).set 16 (.ref (adr ad 63))).set 26 (.ref (adr ad 64))).set 25 (.ref (adr ad 65))).set 19 (.int (s.1 112))).set 20 (.int (s.1 113))).set 24 (.int (s.1 117))).set 18 (.int (s.1 109))) ?_ ?_
  · have g := congrArg (fun A => Z (.inl none) A) f
    exact g.mpr hz
  · rw [tcell_obj (c := 1) (ci := 52) (fs := tPf) rfl]
    have hA50 : adr (swp ad) 50 = adr ad 50 := adr_swp (by decide)
    have hA51 : adr (swp ad) 51 = adr ad 51 := adr_swp (by decide)
    have hA52 : adr (swp ad) 52 = adr ad 52 := adr_swp (by decide)
    have hA53 : adr (swp ad) 53 = adr ad 53 := adr_swp (by decide)
    have hA54 : adr (swp ad) 54 = adr ad 54 := adr_swp (by decide)
    have hA55 : adr (swp ad) 55 = adr ad 55 := adr_swp (by decide)
    have hA56 : adr (swp ad) 56 = adr ad 56 := adr_swp (by decide)
    have hA57 : adr (swp ad) 57 = adr ad 57 := adr_swp (by decide)
    have hA58 : adr (swp ad) 58 = adr ad 61 := adr_swp (by decide)
    have hA59 : adr (swp ad) 59 = adr ad 62 := adr_swp (by decide)
    have hA60 : adr (swp ad) 60 = adr ad 63 := adr_swp (by decide)
    have hA61 : adr (swp ad) 61 = adr ad 58 := adr_swp (by decide)
    have hA62 : adr (swp ad) 62 = adr ad 59 := adr_swp (by decide)
    have hA63 : adr (swp ad) 63 = adr ad 60 := adr_swp (by decide)
    have hA64 : adr (swp ad) 64 = adr ad 65 := adr_swp (by decide)
    have hA65 : adr (swp ad) 65 = adr ad 64 := adr_swp (by decide)
    have hA66 : adr (swp ad) 66 = adr ad 66 := adr_swp (by decide)
    have hA67 : adr (swp ad) 67 = adr ad 67 := adr_swp (by decide)
    have hA68 : adr (swp ad) 68 = adr ad 68 := adr_swp (by decide)
    have hA69 : adr (swp ad) 69 = adr ad 69 := adr_swp (by decide)
    have hA70 : adr (swp ad) 70 = adr ad 70 := adr_swp (by decide)
    have hA71 : adr (swp ad) 71 = adr ad 71 := adr_swp (by decide)
    have hA72 : adr (swp ad) 72 = adr ad 72 := adr_swp (by decide)
    have hA73 : adr (swp ad) 73 = adr ad 73 := adr_swp (by decide)
    have hA74 : adr (swp ad) 74 = adr ad 74 := adr_swp (by decide)
    have hA75 : adr (swp ad) 75 = adr ad 75 := adr_swp (by decide)
    refine congrArg (fun l => (true, false, 52, l)) ?_
    show tPf.map (fval (swp ad) _) = _
    unfold tPf
    simp only [List.map_cons, List.map_nil, fval, hA50, hA51, hA52, hA53, hA54, hA55, hA56, hA57, hA58, hA59, hA60, hA61, hA62, hA63, hA64, hA65, hA66, hA67, hA68, hA69, hA70, hA71, hA72, hA73, hA74, hA75]
    rfl
  · intro c hc h1
    unfold tcell
    rw [show tTab[swc c]? = tTab[c]? from tTab_swc hc]
    split
    · rename_i ci fs ht
      congr 3
      have hsc : swc c = c := tTab_obj ht
      apply List.map_congr_left
      intro f hf
      rcases tTab_code ht hf with h | h
      · have hw : f.2 < tTab.length ∧ swc f.2 = f.2 := tTab_ref ht h1 hf h
        unfold fval
        rw [h]
        show Value.ref (adr (swp ad) f.2) = Value.ref (adr ad f.2)
        rw [adr_swp hw.1, hw.2]
      · unfold fval
        split
        · show Value.int (if _ = _ then _ else if _ = _ then _ else if _ = _ then _ else if _ = _ then _ else _) = _
          rw [if_neg (fun z => h1 (by rw [← h, z])), if_neg (fun z => h1 (by rw [← h, z])), if_neg (fun z => h1 (by rw [← h, z])), if_neg (fun z => h1 (by rw [← h, z]))]
        · rfl
        · rename_i h2 h3
          have hw : f.2 < tTab.length ∧ swc f.2 = f.2 := tTab_ref2 ht hf h2 h3 h1
          rw [adr_swp hw.1, hw.2]
    · rename_i t len ht
      congr 3
      apply List.map_congr_left
      intro k _
      show (if t = 1 then Value.long (s.2.2.2 (swc c) k) else Value.int (s.2.2.1 (swc (swc c)) k)) = _
      rw [swc_swc]
      by_cases z : t = 1
      · have hsc : swc c = c := tTab_long ht z
        rw [if_pos z, if_pos z, hsc]
      · rw [if_neg z, if_neg z]
    · rfl
theorem ts_556 {R : lAR} (hR : lRok R) {E : lE} {ad : List Nat} (hn : tOk ad) {s : TS} {A0 : lMem} {x : Int32} (h : t_556 s = some x) {Z : lZ} (hz : Z (.inl (some (.int x))) (tp ad s A0)) : lSQ R E 1 556 [.ref (adr ad 0)] (tp ad s A0) Z := by
  refine lQ.sq pg_556 (Nat.le_of_ble_eq_true rfl) rfl ?_
  unfold t_556 at h
  refine lQ.loadN rfl rfl ?_
  refine lQ.get hR rfl (tf_0_0 hn) ?_
  obtain rfl := Option.some.inj h
  exact lQ.retI rfl rfl hz
theorem ts_675 {R : lAR} (hR : lRok R) {E : lE} {ad : List Nat} (hn : tOk ad) {v0 : Int32} {s : TS} {A0 : lMem} {x : Int32} (h : t_675 v0 s = some x) {Z : lZ} (hz : Z (.inl (some (.int x))) (tp ad s A0)) : lSQ R E 1 675 [.int v0] (tp ad s A0) Z := by
  refine lQ.sq pg_675 (Nat.le_of_ble_eq_true rfl) rfl ?_
  unfold t_675 at h
  refine lQ.loadI rfl rfl ?_
  rcases iteC h with ⟨hc, h⟩ | ⟨hc, h⟩
  · refine lQ.ifT rfl (decide_eq_true hc) ?_
    refine lQ.push rfl ?_
    obtain rfl := Option.some.inj h
    exact lQ.retI rfl rfl hz
  · refine lQ.ifF rfl (decide_eq_false hc) ?_
    refine lQ.loadI rfl rfl ?_
    refine lQ.push rfl ?_
    rcases iteC h with ⟨hc, h⟩ | ⟨hc, h⟩
    · refine lQ.cmpT rfl (decide_eq_true hc) ?_
      refine lQ.push rfl ?_
      obtain rfl := Option.some.inj h
      exact lQ.retI rfl rfl hz
    · refine lQ.cmpF rfl (decide_eq_false hc) ?_
      refine lQ.push rfl ?_
      refine lQ.goto rfl ?_
      obtain rfl := Option.some.inj h
      exact lQ.retI rfl rfl hz
theorem ts_558 {R : lAR} (hR : lRok R) {E : lE} {ad : List Nat} (hn : tOk ad) {v1 : Int32} {v2 : Int32} {s : TS} {A0 : lMem} {x : Int32 × TS} (h : t_558 v1 v2 s = some x) {Z : lZ} (hz : Z (.inl (some (.int x.1))) (tp ad x.2 A0)) : lSQ R E 1 558 [.ref (adr ad 0), .int v1, .int v2] (tp ad s A0) Z := by
  refine lQ.sq pg_558 (Nat.le_of_ble_eq_true rfl) rfl ?_
  unfold t_558 at h
  refine lQ.loadN rfl rfl ?_
  refine lQ.loadI rfl rfl ?_
  obtain ⟨v10, hy1, h1⟩ := bindC h
  have hJ1 : lQ R E 0 cd_558 10 [(0, .ref (adr ad 0))] [.int v10, .ref (adr ad 0)] (tp ad s A0) Z := by
    obtain ⟨s1, hx, h1⟩ := bindC h1
    refine lQ.put hR rfl rfl (tq_0_0 hn hx) ?_
    rintro _ rfl
    refine lQ.loadN rfl rfl ?_
    refine lQ.get hR rfl (tf_0_0 hn) ?_
    rcases iteC h1 with ⟨hc, h1⟩ | ⟨hc, h1⟩
    · refine lQ.ifF rfl (decide_eq_false (fun z => z hc)) ?_
      refine lQ.push rfl ?_
      refine lQ.goto rfl ?_
      obtain rfl := Option.some.inj h1
      exact lQ.retI rfl rfl hz
    · refine lQ.ifT rfl (decide_eq_true hc) ?_
      refine lQ.push rfl ?_
      obtain rfl := Option.some.inj h1
      exact lQ.retI rfl rfl hz
  rcases iteC hy1 with ⟨hc, hy1⟩ | ⟨hc, hy1⟩
  · refine lQ.ifF rfl (decide_eq_false (fun z => z hc)) ?_
    refine lQ.push rfl ?_
    refine lQ.goto rfl ?_
    obtain rfl := Option.some.inj hy1
    exact lQ.sub (lSb rfl lSb0) hJ1
  · refine lQ.ifT rfl (decide_eq_true hc) ?_
    refine lQ.loadI rfl rfl ?_
    rcases iteC hy1 with ⟨hc, hy1⟩ | ⟨hc, hy1⟩
    · refine lQ.ifF rfl (decide_eq_false (fun z => z hc)) ?_
      refine lQ.push rfl ?_
      refine lQ.goto rfl ?_
      obtain rfl := Option.some.inj hy1
      exact lQ.sub (lSb rfl lSb0) hJ1
    · refine lQ.ifT rfl (decide_eq_true hc) ?_
      refine lQ.push rfl ?_
      obtain rfl := Option.some.inj hy1
      exact lQ.sub (lSb rfl lSb0) hJ1
theorem ts_679 {R : lAR} (hR : lRok R) {E : lE} {ad : List Nat} (hn : tOk ad) {v1 : Int32} {s : TS} {A0 : lMem} {x : Int32} (h : t_679 v1 s = some x) {Z : lZ} (hz : Z (.inl (some (.int x))) (tp ad s A0)) : lSQ R E 1 679 [.ref (adr ad 1), .int v1] (tp ad s A0) Z := by
  refine lQ.sq pg_679 (Nat.le_of_ble_eq_true rfl) rfl ?_
  unfold t_679 at h
  refine lQ.loadN rfl rfl ?_
  refine lQ.get hR rfl (tf_1_1 hn) ?_
  refine lQ.loadI rfl rfl ?_
  obtain ⟨x1, hx, h⟩ := bindC h
  refine lQ.ald hR rfl (ta_50 hn hx) ?_
  refine lQ.loadN rfl rfl ?_
  refine lQ.get hR rfl (tf_1_3 hn) ?_
  refine lQ.loadI rfl rfl ?_
  obtain ⟨x2, hx, h⟩ := bindC h
  refine lQ.ald hR rfl (ta_52 hn hx) ?_
  rcases iteC h with ⟨hc, h⟩ | ⟨hc, h⟩
  · refine lQ.ifT rfl (decide_eq_true hc) ?_
    refine lQ.push rfl ?_
    refine lQ.binI rfl ?_
    obtain rfl := Option.some.inj h
    exact lQ.retI rfl rfl hz
  · refine lQ.ifF rfl (decide_eq_false hc) ?_
    refine lQ.loadN rfl rfl ?_
    refine lQ.get hR rfl (tf_1_4 hn) ?_
    refine lQ.loadI rfl rfl ?_
    obtain ⟨x3, hx, h⟩ := bindC h
    refine lQ.ald hR rfl (ta_53 hn hx) ?_
    refine lQ.goto rfl ?_
    refine lQ.binI rfl ?_
    obtain rfl := Option.some.inj h
    exact lQ.retI rfl rfl hz
theorem ts_680 {R : lAR} (hR : lRok R) {E : lE} {ad : List Nat} (hn : tOk ad) {v1 : Int32} {s : TS} {A0 : lMem} {x : Int32} (h : t_680 v1 s = some x) {Z : lZ} (hz : Z (.inl (some (.int x))) (tp ad s A0)) : lSQ R E 1 680 [.ref (adr ad 1), .int v1] (tp ad s A0) Z := by
  refine lQ.sq pg_680 (Nat.le_of_ble_eq_true rfl) rfl ?_
  unfold t_680 at h
  refine lQ.loadN rfl rfl ?_
  refine lQ.get hR rfl (tf_1_2 hn) ?_
  refine lQ.loadI rfl rfl ?_
  obtain ⟨x1, hx, h⟩ := bindC h
  refine lQ.ald hR rfl (ta_51 hn hx) ?_
  refine lQ.loadN rfl rfl ?_
  refine lQ.get hR rfl (tf_1_3 hn) ?_
  refine lQ.loadI rfl rfl ?_
  obtain ⟨x2, hx, h⟩ := bindC h
  refine lQ.ald hR rfl (ta_52 hn hx) ?_
  rcases iteC h with ⟨hc, h⟩ | ⟨hc, h⟩
  · refine lQ.ifT rfl (decide_eq_true hc) ?_
    refine lQ.loadN rfl rfl ?_
    refine lQ.get hR rfl (tf_1_4 hn) ?_
    refine lQ.loadI rfl rfl ?_
    obtain ⟨x3, hx, h⟩ := bindC h
    refine lQ.ald hR rfl (ta_53 hn hx) ?_
    refine lQ.binI rfl ?_
    obtain rfl := Option.some.inj h
    exact lQ.retI rfl rfl hz
  · refine lQ.ifF rfl (decide_eq_false hc) ?_
    refine lQ.push rfl ?_
    refine lQ.goto rfl ?_
    refine lQ.binI rfl ?_
    obtain rfl := Option.some.inj h
    exact lQ.retI rfl rfl hz
theorem ts_678 {R : lAR} (hR : lRok R) {E : lE} {ad : List Nat} (hn : tOk ad) {v1 : Int32} {v2 : Int32} {s : TS} {A0 : lMem} {x : Int32} (h : t_678 v1 v2 s = some x) {Z : lZ} (hz : Z (.inl (some (.int x))) (tp ad s A0)) : lSQ R E 2 678 [.ref (adr ad 1), .int v1, .int v2] (tp ad s A0) Z := by
  refine lQ.sq pg_678 (Nat.le_of_ble_eq_true rfl) rfl ?_
  unfold t_678 at h
  refine lQ.loadN rfl rfl ?_
  refine lQ.get hR rfl (tf_1_3 hn) ?_
  refine lQ.loadI rfl rfl ?_
  obtain ⟨x1, hx, h⟩ := bindC h
  refine lQ.ald hR rfl (ta_52 hn hx) ?_
  refine lQ.loadN rfl rfl ?_
  refine lQ.get hR rfl (tf_1_3 hn) ?_
  refine lQ.loadI rfl rfl ?_
  obtain ⟨x2, hx, h⟩ := bindC h
  refine lQ.ald hR rfl (ta_52 hn hx) ?_
  rcases iteC h with ⟨hc, h⟩ | ⟨hc, h⟩
  · refine lQ.cmpF rfl (decide_eq_false (fun z => z hc)) ?_
    refine lQ.loadN rfl rfl ?_
    refine lQ.get hR rfl (tf_1_3 hn) ?_
    refine lQ.loadI rfl rfl ?_
    obtain ⟨x3, hx, h⟩ := bindC h
    refine lQ.ald hR rfl (ta_52 hn hx) ?_
    obtain ⟨y1, hy1, h1⟩ := bindC h
    have hJ1 : ∀ v35, y1 = .inl v35 → lQ R E 1 cd_678 35 [(0, .ref (adr ad 1)), (1, .int v1), (2, .int v2)] [] (tp ad s A0) Z := by
      rintro v35 rfl
      have h1 := elimC h1
      refine lQ.loadN rfl rfl ?_
      refine lQ.get hR rfl (tf_1_3 hn) ?_
      refine lQ.loadI rfl rfl ?_
      obtain ⟨x8, hx, h1⟩ := bindC h1
      refine lQ.ald hR rfl (ta_52 hn hx) ?_
      obtain ⟨v77, hy2, h2⟩ := bindC h1
      have hJ2 : lQ R E 1 cd_678 77 [(0, .ref (adr ad 1)), (1, .int v1), (2, .int v2)] [.int v77] (tp ad s A0) Z := by
        refine lQ.stI rfl (lN2s rfl rfl) ?_
        refine lQ.loadN rfl rfl ?_
        refine lQ.get hR rfl (tf_1_3 hn) ?_
        refine lQ.loadI rfl rfl ?_
        obtain ⟨x17, hx, h2⟩ := bindC h2
        refine lQ.ald hR rfl (ta_52 hn hx) ?_
        obtain ⟨v112, hy3, h3⟩ := bindC h2
        have hJ3 : lQ R E 1 cd_678 112 [(3, .int v77)] [.int v112] (tp ad s A0) Z := by
          refine lQ.stI rfl (lN2s rfl rfl) ?_
          refine lQ.loadI rfl rfl ?_
          refine lQ.loadI rfl rfl ?_
          refine lQ.binI rfl ?_
          obtain rfl := Option.some.inj h3
          exact lQ.retI rfl rfl hz
        rcases iteC hy3 with ⟨hc, hy3⟩ | ⟨hc, hy3⟩
        · refine lQ.ifT rfl (decide_eq_true hc) ?_
          refine lQ.loadN rfl rfl ?_
          refine lQ.loadI rfl rfl ?_
          obtain ⟨x18, hx, hy3⟩ := bindC hy3
          refine lQ.callVI (F := (fun y A => x18 = y ∧ A = tp ad s A0)) (G := fun _ _ => False) (args := [.ref (adr ad 1), .int v1]) (r := []) hR rfl rfl rfl (Nat.le_of_ble_eq_true rfl) (Nat.le_of_ble_eq_true rfl) rfl (tk_1 hn rfl) (ts_680 hR hn hx (cI_mk ⟨rfl, rfl⟩)) ?_ (fun _ _ _ z => z.elim)
          rintro _ _ ⟨rfl, rfl⟩
          refine lQ.loadN rfl rfl ?_
          refine lQ.loadI rfl rfl ?_
          obtain ⟨x19, hx, hy3⟩ := bindC hy3
          refine lQ.callVI (F := (fun y A => x19 = y ∧ A = tp ad s A0)) (G := fun _ _ => False) (args := [.ref (adr ad 1), .int v2]) (r := [.int x18]) hR rfl rfl rfl (Nat.le_of_ble_eq_true rfl) (Nat.le_of_ble_eq_true rfl) rfl (tk_1 hn rfl) (ts_680 hR hn hx (cI_mk ⟨rfl, rfl⟩)) ?_ (fun _ _ _ z => z.elim)
          rintro _ _ ⟨rfl, rfl⟩
          rcases iteC hy3 with ⟨hc, hy3⟩ | ⟨hc, hy3⟩
          · refine lQ.cmpF rfl (decide_eq_false (Int32.not_le.mpr hc)) ?_
            refine lQ.loadN rfl rfl ?_
            refine lQ.loadI rfl rfl ?_
            obtain ⟨x21, hx, hy3⟩ := bindC hy3
            refine lQ.callVI (F := (fun y A => x21 = y ∧ A = tp ad s A0)) (G := fun _ _ => False) (args := [.ref (adr ad 1), .int v1]) (r := []) hR rfl rfl rfl (Nat.le_of_ble_eq_true rfl) (Nat.le_of_ble_eq_true rfl) rfl (tk_1 hn rfl) (ts_680 hR hn hx (cI_mk ⟨rfl, rfl⟩)) ?_ (fun _ _ _ z => z.elim)
            rintro _ _ ⟨rfl, rfl⟩
            refine lQ.goto rfl ?_
            obtain rfl := Option.some.inj hy3
            exact lQ.sub (lSb rfl lSb0) hJ3
          · refine lQ.cmpT rfl (decide_eq_true (Int32.not_lt.mp hc)) ?_
            refine lQ.loadN rfl rfl ?_
            refine lQ.loadI rfl rfl ?_
            obtain ⟨x20, hx, hy3⟩ := bindC hy3
            refine lQ.callVI (F := (fun y A => x20 = y ∧ A = tp ad s A0)) (G := fun _ _ => False) (args := [.ref (adr ad 1), .int v2]) (r := []) hR rfl rfl rfl (Nat.le_of_ble_eq_true rfl) (Nat.le_of_ble_eq_true rfl) rfl (tk_1 hn rfl) (ts_680 hR hn hx (cI_mk ⟨rfl, rfl⟩)) ?_ (fun _ _ _ z => z.elim)
            rintro _ _ ⟨rfl, rfl⟩
            obtain rfl := Option.some.inj hy3
            exact lQ.sub (lSb rfl lSb0) hJ3
        · refine lQ.ifF rfl (decide_eq_false hc) ?_
          refine lQ.loadN rfl rfl ?_
          refine lQ.loadI rfl rfl ?_
          obtain ⟨x22, hx, hy3⟩ := bindC hy3
          refine lQ.callVI (F := (fun y A => x22 = y ∧ A = tp ad s A0)) (G := fun _ _ => False) (args := [.ref (adr ad 1), .int v1]) (r := []) hR rfl rfl rfl (Nat.le_of_ble_eq_true rfl) (Nat.le_of_ble_eq_true rfl) rfl (tk_1 hn rfl) (ts_679 hR hn hx (cI_mk ⟨rfl, rfl⟩)) ?_ (fun _ _ _ z => z.elim)
          rintro _ _ ⟨rfl, rfl⟩
          refine lQ.loadN rfl rfl ?_
          refine lQ.loadI rfl rfl ?_
          obtain ⟨x23, hx, hy3⟩ := bindC hy3
          refine lQ.callVI (F := (fun y A => x23 = y ∧ A = tp ad s A0)) (G := fun _ _ => False) (args := [.ref (adr ad 1), .int v2]) (r := [.int x22]) hR rfl rfl rfl (Nat.le_of_ble_eq_true rfl) (Nat.le_of_ble_eq_true rfl) rfl (tk_1 hn rfl) (ts_679 hR hn hx (cI_mk ⟨rfl, rfl⟩)) ?_ (fun _ _ _ z => z.elim)
          rintro _ _ ⟨rfl, rfl⟩
          rcases iteC hy3 with ⟨hc, hy3⟩ | ⟨hc, hy3⟩
          · refine lQ.cmpF rfl (decide_eq_false (Int32.not_le.mpr hc)) ?_
            refine lQ.loadN rfl rfl ?_
            refine lQ.loadI rfl rfl ?_
            obtain ⟨x25, hx, hy3⟩ := bindC hy3
            refine lQ.callVI (F := (fun y A => x25 = y ∧ A = tp ad s A0)) (G := fun _ _ => False) (args := [.ref (adr ad 1), .int v1]) (r := []) hR rfl rfl rfl (Nat.le_of_ble_eq_true rfl) (Nat.le_of_ble_eq_true rfl) rfl (tk_1 hn rfl) (ts_679 hR hn hx (cI_mk ⟨rfl, rfl⟩)) ?_ (fun _ _ _ z => z.elim)
            rintro _ _ ⟨rfl, rfl⟩
            refine lQ.goto rfl ?_
            obtain rfl := Option.some.inj hy3
            exact lQ.sub (lSb rfl lSb0) hJ3
          · refine lQ.cmpT rfl (decide_eq_true (Int32.not_lt.mp hc)) ?_
            refine lQ.loadN rfl rfl ?_
            refine lQ.loadI rfl rfl ?_
            obtain ⟨x24, hx, hy3⟩ := bindC hy3
            refine lQ.callVI (F := (fun y A => x24 = y ∧ A = tp ad s A0)) (G := fun _ _ => False) (args := [.ref (adr ad 1), .int v2]) (r := []) hR rfl rfl rfl (Nat.le_of_ble_eq_true rfl) (Nat.le_of_ble_eq_true rfl) rfl (tk_1 hn rfl) (ts_679 hR hn hx (cI_mk ⟨rfl, rfl⟩)) ?_ (fun _ _ _ z => z.elim)
            rintro _ _ ⟨rfl, rfl⟩
            refine lQ.goto rfl ?_
            obtain rfl := Option.some.inj hy3
            exact lQ.sub (lSb rfl lSb0) hJ3
      rcases iteC hy2 with ⟨hc, hy2⟩ | ⟨hc, hy2⟩
      · refine lQ.ifT rfl (decide_eq_true hc) ?_
        refine lQ.loadN rfl rfl ?_
        refine lQ.get hR rfl (tf_1_2 hn) ?_
        refine lQ.loadI rfl rfl ?_
        obtain ⟨x9, hx, hy2⟩ := bindC hy2
        refine lQ.ald hR rfl (ta_51 hn hx) ?_
        refine lQ.loadN rfl rfl ?_
        refine lQ.get hR rfl (tf_1_2 hn) ?_
        refine lQ.loadI rfl rfl ?_
        obtain ⟨x10, hx, hy2⟩ := bindC hy2
        refine lQ.ald hR rfl (ta_51 hn hx) ?_
        rcases iteC hy2 with ⟨hc, hy2⟩ | ⟨hc, hy2⟩
        · refine lQ.cmpF rfl (decide_eq_false (Int32.not_le.mpr hc)) ?_
          refine lQ.loadN rfl rfl ?_
          refine lQ.get hR rfl (tf_1_2 hn) ?_
          refine lQ.loadI rfl rfl ?_
          obtain ⟨x12, hx, hy2⟩ := bindC hy2
          refine lQ.ald hR rfl (ta_51 hn hx) ?_
          refine lQ.goto rfl ?_
          obtain rfl := Option.some.inj hy2
          exact lQ.sub (lSb rfl (lSb rfl (lSb rfl lSb0))) hJ2
        · refine lQ.cmpT rfl (decide_eq_true (Int32.not_lt.mp hc)) ?_
          refine lQ.loadN rfl rfl ?_
          refine lQ.get hR rfl (tf_1_2 hn) ?_
          refine lQ.loadI rfl rfl ?_
          obtain ⟨x11, hx, hy2⟩ := bindC hy2
          refine lQ.ald hR rfl (ta_51 hn hx) ?_
          obtain rfl := Option.some.inj hy2
          exact lQ.sub (lSb rfl (lSb rfl (lSb rfl lSb0))) hJ2
      · refine lQ.ifF rfl (decide_eq_false hc) ?_
        refine lQ.loadN rfl rfl ?_
        refine lQ.get hR rfl (tf_1_1 hn) ?_
        refine lQ.loadI rfl rfl ?_
        obtain ⟨x13, hx, hy2⟩ := bindC hy2
        refine lQ.ald hR rfl (ta_50 hn hx) ?_
        refine lQ.loadN rfl rfl ?_
        refine lQ.get hR rfl (tf_1_1 hn) ?_
        refine lQ.loadI rfl rfl ?_
        obtain ⟨x14, hx, hy2⟩ := bindC hy2
        refine lQ.ald hR rfl (ta_50 hn hx) ?_
        rcases iteC hy2 with ⟨hc, hy2⟩ | ⟨hc, hy2⟩
        · refine lQ.cmpF rfl (decide_eq_false (Int32.not_le.mpr hc)) ?_
          refine lQ.loadN rfl rfl ?_
          refine lQ.get hR rfl (tf_1_1 hn) ?_
          refine lQ.loadI rfl rfl ?_
          obtain ⟨x16, hx, hy2⟩ := bindC hy2
          refine lQ.ald hR rfl (ta_50 hn hx) ?_
          refine lQ.goto rfl ?_
          obtain rfl := Option.some.inj hy2
          exact lQ.sub (lSb rfl (lSb rfl (lSb rfl lSb0))) hJ2
        · refine lQ.cmpT rfl (decide_eq_true (Int32.not_lt.mp hc)) ?_
          refine lQ.loadN rfl rfl ?_
          refine lQ.get hR rfl (tf_1_1 hn) ?_
          refine lQ.loadI rfl rfl ?_
          obtain ⟨x15, hx, hy2⟩ := bindC hy2
          refine lQ.ald hR rfl (ta_50 hn hx) ?_
          refine lQ.goto rfl ?_
          obtain rfl := Option.some.inj hy2
          exact lQ.sub (lSb rfl (lSb rfl (lSb rfl lSb0))) hJ2
    rcases iteC hy1 with ⟨hc, hy1⟩ | ⟨hc, hy1⟩
    · refine lQ.ifT rfl (decide_eq_true hc) ?_
      refine lQ.loadN rfl rfl ?_
      refine lQ.get hR rfl (tf_1_1 hn) ?_
      refine lQ.loadI rfl rfl ?_
      obtain ⟨x4, hx, hy1⟩ := bindC hy1
      refine lQ.ald hR rfl (ta_50 hn hx) ?_
      refine lQ.loadN rfl rfl ?_
      refine lQ.get hR rfl (tf_1_1 hn) ?_
      refine lQ.loadI rfl rfl ?_
      obtain ⟨x5, hx, hy1⟩ := bindC hy1
      refine lQ.ald hR rfl (ta_50 hn hx) ?_
      rcases iteC hy1 with ⟨hc, hy1⟩ | ⟨hc, hy1⟩
      · refine lQ.cmpT rfl (decide_eq_true hc) ?_
        obtain rfl := Option.some.inj hy1
        exact lQ.sub (lSb rfl (lSb rfl (lSb rfl lSb0))) (hJ1 _ rfl)
      · refine lQ.cmpF rfl (decide_eq_false hc) ?_
        refine lQ.push rfl ?_
        obtain rfl := Option.some.inj hy1
        obtain rfl := elimD h1
        exact lQ.retI rfl rfl hz
    · refine lQ.ifF rfl (decide_eq_false hc) ?_
      refine lQ.loadN rfl rfl ?_
      refine lQ.get hR rfl (tf_1_2 hn) ?_
      refine lQ.loadI rfl rfl ?_
      obtain ⟨x6, hx, hy1⟩ := bindC hy1
      refine lQ.ald hR rfl (ta_51 hn hx) ?_
      refine lQ.loadN rfl rfl ?_
      refine lQ.get hR rfl (tf_1_2 hn) ?_
      refine lQ.loadI rfl rfl ?_
      obtain ⟨x7, hx, hy1⟩ := bindC hy1
      refine lQ.ald hR rfl (ta_51 hn hx) ?_
      rcases iteC hy1 with ⟨hc, hy1⟩ | ⟨hc, hy1⟩
      · refine lQ.cmpT rfl (decide_eq_true hc) ?_
        obtain rfl := Option.some.inj hy1
        exact lQ.sub (lSb rfl (lSb rfl (lSb rfl lSb0))) (hJ1 _ rfl)
      · refine lQ.cmpF rfl (decide_eq_false hc) ?_
        refine lQ.goto rfl ?_
        refine lQ.push rfl ?_
        obtain rfl := Option.some.inj hy1
        obtain rfl := elimD h1
        exact lQ.retI rfl rfl hz
  · refine lQ.cmpT rfl (decide_eq_true hc) ?_
    refine lQ.push rfl ?_
    obtain rfl := Option.some.inj h
    exact lQ.retI rfl rfl hz
theorem ts_677 {R : lAR} (hR : lRok R) {E : lE} {ad : List Nat} (hn : tOk ad) {v1 : Int32} {s : TS} {A0 : lMem} {x : Int32} (h : t_677 v1 s = some x) {Z : lZ} (hz : Z (.inl (some (.int x))) (tp ad s A0)) : lSQ R E 3 677 [.ref (adr ad 1), .int v1] (tp ad s A0) Z := by
  refine lQ.sq pg_677 (Nat.le_of_ble_eq_true rfl) rfl ?_
  unfold t_677 at h
  refine lQ.push rfl ?_
  refine lQ.stI rfl (lN2s rfl rfl) ?_
  refine lQ.push rfl ?_
  refine lQ.stI rfl (lN2s rfl rfl) ?_
  obtain ⟨v25, hy1, h1⟩ := bindC h
  have hJ1 : lQ R E 2 cd_677 25 [(2, .int v25)] [] (tp ad s A0) Z := by
    refine lQ.loadI rfl rfl ?_
    rcases iteC h1 with ⟨hg, h1⟩ | ⟨_, h1⟩
    case inr => cases h1
    have hb := hg
    obtain rfl := Option.some.inj h1
    exact lQ.retI rfl (fitB hb) hz
  refine lQ.sub (lSb rfl (lSb rfl (lSb rfl (lSb rfl lSb0)))) (wh_run (P := fun p4 => lQ R E 2 cd_677 4 [(0, .ref (adr ad 1)), (1, .int v1), (2, .int p4.1), (3, .int p4.2)] [] (tp ad s A0) Z) hy1 ?_)
  intro p4 r2 hb2 hI2 hX2
  refine lQ.loadI rfl rfl ?_
  refine lQ.loadN rfl rfl ?_
  refine lQ.get hR rfl (tf_1_0 hn) ?_
  rcases iteC hb2 with ⟨hc, hb2⟩ | ⟨hc, hb2⟩
  · refine lQ.cmpF rfl (decide_eq_false (Int32.not_le.mpr hc)) ?_
    refine lQ.loadI rfl rfl ?_
    obtain ⟨v22, hy3, h3⟩ := bindC hb2
    have hJ3 : lQ R E 2 cd_677 22 [(0, .ref (adr ad 1)), (1, .int v1), (3, .int p4.2)] [.int v22] (tp ad s A0) Z := by
      refine lQ.stI rfl (lN2s rfl rfl) ?_
      refine lQ.inc rfl rfl (lN2s rfl rfl) ?_
      refine lQ.goto rfl ?_
      obtain rfl := Option.some.inj h3
      exact lQ.sub (lSb rfl (lSb rfl (lSb rfl (lSb rfl lSb0)))) (hI2 _ rfl)
    rcases iteC hy3 with ⟨hc, hy3⟩ | ⟨hc, hy3⟩
    · refine lQ.ifT rfl (decide_eq_true hc) ?_
      refine lQ.push rfl ?_
      obtain rfl := Option.some.inj hy3
      exact lQ.sub (lSb rfl (lSb rfl (lSb rfl lSb0))) hJ3
    · refine lQ.ifF rfl (decide_eq_false hc) ?_
      refine lQ.loadI rfl rfl ?_
      refine lQ.loadI rfl rfl ?_
      rcases iteC hy3 with ⟨hc, hy3⟩ | ⟨hc, hy3⟩
      · refine lQ.cmpT rfl (decide_eq_true hc) ?_
        refine lQ.push rfl ?_
        refine lQ.goto rfl ?_
        obtain rfl := Option.some.inj hy3
        exact lQ.sub (lSb rfl (lSb rfl (lSb rfl lSb0))) hJ3
      · refine lQ.cmpF rfl (decide_eq_false hc) ?_
        refine lQ.loadN rfl rfl ?_
        refine lQ.loadI rfl rfl ?_
        refine lQ.loadI rfl rfl ?_
        obtain ⟨x1, hx, hy3⟩ := bindC hy3
        refine lQ.callVI (F := (fun y A => x1 = y ∧ A = tp ad s A0)) (G := fun _ _ => False) (args := [.ref (adr ad 1), .int p4.2, .int v1]) (r := []) hR rfl rfl rfl (Nat.le_of_ble_eq_true rfl) (Nat.le_of_ble_eq_true rfl) rfl (tk_1 hn rfl) (ts_678 hR hn hx (cI_mk ⟨rfl, rfl⟩)) ?_ (fun _ _ _ z => z.elim)
        rintro _ _ ⟨rfl, rfl⟩
        refine lQ.push rfl ?_
        rcases iteC hy3 with ⟨hc, hy3⟩ | ⟨hc, hy3⟩
        · refine lQ.cmpF rfl (decide_eq_false (Int32.not_le.mpr hc)) ?_
          refine lQ.push rfl ?_
          refine lQ.goto rfl ?_
          obtain rfl := Option.some.inj hy3
          exact lQ.sub (lSb rfl (lSb rfl (lSb rfl lSb0))) hJ3
        · refine lQ.cmpT rfl (decide_eq_true (Int32.not_lt.mp hc)) ?_
          refine lQ.push rfl ?_
          obtain rfl := Option.some.inj hy3
          exact lQ.sub (lSb rfl (lSb rfl (lSb rfl lSb0))) hJ3
  · refine lQ.cmpT rfl (decide_eq_true (Int32.not_lt.mp hc)) ?_
    obtain rfl := Option.some.inj hb2
    obtain rfl := hX2 _ rfl
    exact lQ.sub (lSb rfl lSb0) hJ1
theorem ts_676 {R : lAR} (hR : lRok R) {E : lE} {ad : List Nat} (hn : tOk ad) {v1 : Int32} {v2 : Int32} {v3 : Int32} {v4 : Int32} {s : TS} {A0 : lMem} {x : Int32 × TS} (h : t_676 v1 v2 v3 v4 s = some x) {Z : lZ} (hz : Z (.inl (some (.int x.1))) (tp ad x.2 A0)) : lSQ R E 4 676 [.ref (adr ad 1), .int v1, .int v2, .int v3, .int v4] (tp ad s A0) Z := by
  refine lQ.sq pg_676 (Nat.le_of_ble_eq_true rfl) rfl ?_
  unfold t_676 at h
  refine lQ.loadN rfl rfl ?_
  refine lQ.get hR rfl (tf_1_1 hn) ?_
  refine lQ.loadN rfl rfl ?_
  refine lQ.get hR rfl (tf_1_0 hn) ?_
  refine lQ.loadI rfl rfl ?_
  refine lQ.loadI rfl rfl ?_
  obtain ⟨v10, hy1, h1⟩ := bindC h
  have hJ1 : lQ R E 3 cd_676 10 [(0, .ref (adr ad 1)), (1, .int v1), (2, .int v2), (3, .int v3), (4, .int v4)] [.int v10, .int (s.1 100), .ref (adr ad 50)] (tp ad s A0) Z := by
    obtain ⟨s1, hx, h1⟩ := bindC h1
    refine lQ.ast hR rfl (tw_50 hn hx) ?_
    rintro _ rfl
    refine lQ.loadN rfl rfl ?_
    refine lQ.get hR rfl (tf_1_2 hn) ?_
    refine lQ.loadN rfl rfl ?_
    refine lQ.get hR rfl (tf_1_0 hn) ?_
    refine lQ.loadI rfl rfl ?_
    refine lQ.loadI rfl rfl ?_
    obtain ⟨v21, hy2, h2⟩ := bindC h1
    have hJ2 : lQ R E 3 cd_676 21 [(0, .ref (adr ad 1)), (1, .int v1), (2, .int v2), (3, .int v3), (4, .int v4)] [.int v21, .int (s1.1 100), .ref (adr ad 51)] (tp ad s1 A0) Z := by
      obtain ⟨s2, hx, h2⟩ := bindC h2
      refine lQ.ast hR rfl (tw_51 hn hx) ?_
      rintro _ rfl
      refine lQ.loadN rfl rfl ?_
      refine lQ.get hR rfl (tf_1_3 hn) ?_
      refine lQ.loadN rfl rfl ?_
      refine lQ.get hR rfl (tf_1_0 hn) ?_
      refine lQ.loadI rfl rfl ?_
      refine lQ.loadI rfl rfl ?_
      obtain ⟨v32, hy3, h3⟩ := bindC h2
      have hJ3 : lQ R E 3 cd_676 32 [(0, .ref (adr ad 1)), (1, .int v1), (2, .int v2), (3, .int v3), (4, .int v4)] [.int v32, .int (s2.1 100), .ref (adr ad 52)] (tp ad s2 A0) Z := by
        obtain ⟨s3, hx, h3⟩ := bindC h3
        refine lQ.bst hR rfl (tw_52 hn hx) ?_
        rintro _ rfl
        refine lQ.loadN rfl rfl ?_
        refine lQ.get hR rfl (tf_1_4 hn) ?_
        refine lQ.loadN rfl rfl ?_
        refine lQ.get hR rfl (tf_1_0 hn) ?_
        refine lQ.loadI rfl rfl ?_
        refine lQ.loadI rfl rfl ?_
        refine lQ.binI rfl ?_
        refine lQ.push rfl ?_
        refine lQ.loadN rfl rfl ?_
        refine lQ.get hR rfl (tf_1_1 hn) ?_
        refine lQ.loadN rfl rfl ?_
        refine lQ.get hR rfl (tf_1_0 hn) ?_
        obtain ⟨x4, hx, h3⟩ := bindC h3
        refine lQ.ald hR rfl (ta_50 hn hx) ?_
        refine lQ.binI rfl ?_
        refine lQ.binI rfl ?_
        refine lQ.loadI rfl rfl ?_
        refine lQ.binI rfl ?_
        refine lQ.loadI rfl rfl ?_
        refine lQ.binI rfl ?_
        refine lQ.push rfl ?_
        refine lQ.loadN rfl rfl ?_
        refine lQ.get hR rfl (tf_1_2 hn) ?_
        refine lQ.loadN rfl rfl ?_
        refine lQ.get hR rfl (tf_1_0 hn) ?_
        obtain ⟨x5, hx, h3⟩ := bindC h3
        refine lQ.ald hR rfl (ta_51 hn hx) ?_
        refine lQ.binI rfl ?_
        refine lQ.binI rfl ?_
        obtain ⟨s6, hx, h3⟩ := bindC h3
        refine lQ.ast hR rfl (tw_53 hn hx) ?_
        rintro _ rfl
        refine lQ.loadN rfl rfl ?_
        refine lQ.get hR rfl (tf_1_5 hn) ?_
        refine lQ.loadN rfl rfl ?_
        refine lQ.get hR rfl (tf_1_0 hn) ?_
        refine lQ.push rfl ?_
        obtain ⟨s7, hx, h3⟩ := bindC h3
        refine lQ.ast hR rfl (tw_54 hn hx) ?_
        rintro _ rfl
        refine lQ.loadN rfl rfl ?_
        refine lQ.loadN rfl rfl ?_
        refine lQ.get hR rfl (tf_1_0 hn) ?_
        obtain ⟨x8, hx, h3⟩ := bindC h3
        refine lQ.callVI (F := (fun y A => x8 = y ∧ A = tp ad s7 A0)) (G := fun _ _ => False) (args := [.ref (adr ad 1), .int (s7.1 100)]) (r := []) hR rfl rfl rfl (Nat.le_of_ble_eq_true rfl) (Nat.le_of_ble_eq_true rfl) rfl (tk_1 hn rfl) (ts_677 hR hn hx (cI_mk ⟨rfl, rfl⟩)) ?_ (fun _ _ _ z => z.elim)
        rintro _ _ ⟨rfl, rfl⟩
        rcases iteC h3 with ⟨hc, h3⟩ | ⟨hc, h3⟩
        · refine lQ.ifF rfl (decide_eq_false (fun z => z hc)) ?_
          refine lQ.push rfl ?_
          obtain rfl := Option.some.inj h3
          exact lQ.retI rfl rfl hz
        · refine lQ.ifT rfl (decide_eq_true hc) ?_
          refine lQ.loadN rfl rfl ?_
          refine lQ.dupN rfl ?_
          refine lQ.get hR rfl (tf_1_0 hn) ?_
          refine lQ.push rfl ?_
          refine lQ.binI rfl ?_
          obtain ⟨s9, hx, h3⟩ := bindC h3
          refine lQ.put hR rfl rfl (tq_1_0 hn hx) ?_
          rintro _ rfl
          refine lQ.loadN rfl rfl ?_
          refine lQ.push rfl ?_
          obtain ⟨s10, hx, h3⟩ := bindC h3
          refine lQ.put hR rfl rfl (tq_1_10 hn hx) ?_
          rintro _ rfl
          refine lQ.loadN rfl rfl ?_
          refine lQ.get hR rfl (tf_1_0 hn) ?_
          refine lQ.push rfl ?_
          refine lQ.binI rfl ?_
          obtain rfl := Option.some.inj h3
          exact lQ.retI rfl rfl hz
      rcases iteC hy3 with ⟨hc, hy3⟩ | ⟨hc, hy3⟩
      · refine lQ.cmpF rfl (decide_eq_false (fun z => z hc)) ?_
        refine lQ.push rfl ?_
        refine lQ.goto rfl ?_
        obtain rfl := Option.some.inj hy3
        exact lQ.sub (lSb rfl (lSb rfl (lSb rfl (lSb rfl (lSb rfl lSb0))))) hJ3
      · refine lQ.cmpT rfl (decide_eq_true hc) ?_
        refine lQ.push rfl ?_
        obtain rfl := Option.some.inj hy3
        exact lQ.sub (lSb rfl (lSb rfl (lSb rfl (lSb rfl (lSb rfl lSb0))))) hJ3
    rcases iteC hy2 with ⟨hc, hy2⟩ | ⟨hc, hy2⟩
    · refine lQ.cmpF rfl (decide_eq_false (Int32.not_le.mpr hc)) ?_
      refine lQ.loadI rfl rfl ?_
      refine lQ.goto rfl ?_
      obtain rfl := Option.some.inj hy2
      exact lQ.sub (lSb rfl (lSb rfl (lSb rfl (lSb rfl (lSb rfl lSb0))))) hJ2
    · refine lQ.cmpT rfl (decide_eq_true (Int32.not_lt.mp hc)) ?_
      refine lQ.loadI rfl rfl ?_
      obtain rfl := Option.some.inj hy2
      exact lQ.sub (lSb rfl (lSb rfl (lSb rfl (lSb rfl (lSb rfl lSb0))))) hJ2
  rcases iteC hy1 with ⟨hc, hy1⟩ | ⟨hc, hy1⟩
  · refine lQ.cmpF rfl (decide_eq_false (Int32.not_le.mpr hc)) ?_
    refine lQ.loadI rfl rfl ?_
    refine lQ.goto rfl ?_
    obtain rfl := Option.some.inj hy1
    exact lQ.sub (lSb rfl (lSb rfl (lSb rfl (lSb rfl (lSb rfl lSb0))))) hJ1
  · refine lQ.cmpT rfl (decide_eq_true (Int32.not_lt.mp hc)) ?_
    refine lQ.loadI rfl rfl ?_
    obtain rfl := Option.some.inj hy1
    exact lQ.sub (lSb rfl (lSb rfl (lSb rfl (lSb rfl (lSb rfl lSb0))))) hJ1
theorem ts_557 {R : lAR} (hR : lRok R) {E : lE} {ad : List Nat} (hn : tOk ad) {v1 : Int32} {v2 : Int32} {v3 : Int32} {v4 : Int32} {s : TS} {A0 : lMem} {x : Int32 × TS} (h : t_557 v1 v2 v3 v4 s = some x) {Z : lZ} (hz : Z (.inl (some (.int x.1))) (tp ad x.2 A0)) : lSQ R E 5 557 [.ref (adr ad 0), .int v1, .int v2, .int v3, .int v4] (tp ad s A0) Z := by
  refine lQ.sq pg_557 (Nat.le_of_ble_eq_true rfl) rfl ?_
  unfold t_557 at h
  refine lQ.loadI rfl rfl ?_
  obtain ⟨x1, hx, h⟩ := bindC h
  refine lQ.callI (F := (fun y A => x1 = y ∧ A = tp ad s A0)) (G := fun _ _ => False) (args := [.int v1]) (r := []) hR rfl rfl rfl (Nat.le_of_ble_eq_true rfl) (Nat.le_of_ble_eq_true rfl) (ts_675 hR hn hx (cI_mk ⟨rfl, rfl⟩)) ?_ (fun _ _ _ z => z.elim)
  rintro _ _ ⟨rfl, rfl⟩
  obtain ⟨v25, hy1, h1⟩ := bindC h
  have hJ1 : lQ R E 4 cd_557 25 [(0, .ref (adr ad 0)), (1, .int v1), (2, .int v2), (3, .int v3), (4, .int v4)] [.int v25] (tp ad s A0) Z := by
    refine lQ.stI rfl (lN2s rfl rfl) ?_
    refine lQ.loadN rfl rfl ?_
    refine lQ.loadI rfl rfl ?_
    refine lQ.loadN rfl rfl ?_
    refine lQ.get hR rfl (tf_0_1 hn) ?_
    obtain ⟨v39, hy2, h2⟩ := bindC h1
    have hJ2 : lQ R E 4 cd_557 39 [(0, .ref (adr ad 0)), (1, .int v1), (2, .int v2), (3, .int v3), (4, .int v4)] [.int v39, .int v25, .ref (adr ad 0)] (tp ad s A0) Z := by
      obtain ⟨x5, hx, h2⟩ := bindC h2
      refine lQ.callVI (F := (fun y A => x5.1 = y ∧ A = tp ad x5.2 A0)) (G := fun _ _ => False) (args := [.ref (adr ad 0), .int v25, .int v39]) (r := []) hR rfl rfl rfl (Nat.le_of_ble_eq_true rfl) (Nat.le_of_ble_eq_true rfl) rfl (tk_0 hn rfl) (ts_558 hR hn hx (cI_mk ⟨rfl, rfl⟩)) ?_ (fun _ _ _ z => z.elim)
      rintro _ _ ⟨rfl, rfl⟩
      rcases iteC h2 with ⟨hc, h2⟩ | ⟨hc, h2⟩
      · refine lQ.ifT rfl (decide_eq_true hc) ?_
        refine lQ.push rfl ?_
        obtain rfl := Option.some.inj h2
        exact lQ.retI rfl rfl hz
      · refine lQ.ifF rfl (decide_eq_false hc) ?_
        refine lQ.loadN rfl rfl ?_
        refine lQ.get hR rfl (tf_0_3 hn) ?_
        refine lQ.loadI rfl rfl ?_
        refine lQ.loadI rfl rfl ?_
        refine lQ.loadI rfl rfl ?_
        refine lQ.loadI rfl rfl ?_
        obtain ⟨x6, hx, h2⟩ := bindC h2
        refine lQ.callVI (F := (fun y A => x6.1 = y ∧ A = tp ad x6.2 A0)) (G := fun _ _ => False) (args := [.ref (adr ad 1), .int v1, .int v2, .int v3, .int v4]) (r := []) hR rfl rfl rfl (Nat.le_of_ble_eq_true rfl) (Nat.le_of_ble_eq_true rfl) rfl (tk_1 hn rfl) (ts_676 hR hn hx (cI_mk ⟨rfl, rfl⟩)) ?_ (fun _ _ _ z => z.elim)
        rintro _ _ ⟨rfl, rfl⟩
        refine lQ.goto rfl ?_
        obtain rfl := Option.some.inj h2
        exact lQ.retI rfl rfl hz
    rcases iteC hy2 with ⟨hc, hy2⟩ | ⟨hc, hy2⟩
    · refine lQ.ifF rfl (decide_eq_false (fun z => z hc)) ?_
      refine lQ.loadN rfl rfl ?_
      refine lQ.get hR rfl (tf_0_3 hn) ?_
      refine lQ.get hR rfl (tf_1_0 hn) ?_
      refine lQ.push rfl ?_
      rcases iteC hy2 with ⟨hc, hy2⟩ | ⟨hc, hy2⟩
      · refine lQ.cmpF rfl (decide_eq_false (Int32.not_le.mpr hc)) ?_
        refine lQ.push rfl ?_
        refine lQ.goto rfl ?_
        obtain rfl := Option.some.inj hy2
        exact lQ.sub (lSb rfl (lSb rfl (lSb rfl (lSb rfl (lSb rfl lSb0))))) hJ2
      · refine lQ.cmpT rfl (decide_eq_true (Int32.not_lt.mp hc)) ?_
        refine lQ.push rfl ?_
        obtain rfl := Option.some.inj hy2
        exact lQ.sub (lSb rfl (lSb rfl (lSb rfl (lSb rfl (lSb rfl lSb0))))) hJ2
    · refine lQ.ifT rfl (decide_eq_true hc) ?_
      refine lQ.push rfl ?_
      obtain rfl := Option.some.inj hy2
      exact lQ.sub (lSb rfl (lSb rfl (lSb rfl (lSb rfl (lSb rfl lSb0))))) hJ2
  rcases iteC hy1 with ⟨hc, hy1⟩ | ⟨hc, hy1⟩
  · refine lQ.ifT rfl (decide_eq_true hc) ?_
    refine lQ.push rfl ?_
    obtain rfl := Option.some.inj hy1
    exact lQ.sub (lSb rfl (lSb rfl (lSb rfl (lSb rfl (lSb rfl lSb0))))) hJ1
  · refine lQ.ifF rfl (decide_eq_false hc) ?_
    refine lQ.loadI rfl rfl ?_
    obtain ⟨x2, hx, hy1⟩ := bindC hy1
    refine lQ.callI (F := (fun y A => x2 = y ∧ A = tp ad s A0)) (G := fun _ _ => False) (args := [.int v2]) (r := []) hR rfl rfl rfl (Nat.le_of_ble_eq_true rfl) (Nat.le_of_ble_eq_true rfl) (ts_675 hR hn hx (cI_mk ⟨rfl, rfl⟩)) ?_ (fun _ _ _ z => z.elim)
    rintro _ _ ⟨rfl, rfl⟩
    rcases iteC hy1 with ⟨hc, hy1⟩ | ⟨hc, hy1⟩
    · refine lQ.ifT rfl (decide_eq_true hc) ?_
      refine lQ.push rfl ?_
      obtain rfl := Option.some.inj hy1
      exact lQ.sub (lSb rfl (lSb rfl (lSb rfl (lSb rfl (lSb rfl lSb0))))) hJ1
    · refine lQ.ifF rfl (decide_eq_false hc) ?_
      refine lQ.loadI rfl rfl ?_
      obtain ⟨x3, hx, hy1⟩ := bindC hy1
      refine lQ.callI (F := (fun y A => x3 = y ∧ A = tp ad s A0)) (G := fun _ _ => False) (args := [.int v3]) (r := []) hR rfl rfl rfl (Nat.le_of_ble_eq_true rfl) (Nat.le_of_ble_eq_true rfl) (ts_675 hR hn hx (cI_mk ⟨rfl, rfl⟩)) ?_ (fun _ _ _ z => z.elim)
      rintro _ _ ⟨rfl, rfl⟩
      rcases iteC hy1 with ⟨hc, hy1⟩ | ⟨hc, hy1⟩
      · refine lQ.ifT rfl (decide_eq_true hc) ?_
        refine lQ.push rfl ?_
        obtain rfl := Option.some.inj hy1
        exact lQ.sub (lSb rfl (lSb rfl (lSb rfl (lSb rfl (lSb rfl lSb0))))) hJ1
      · refine lQ.ifF rfl (decide_eq_false hc) ?_
        refine lQ.loadI rfl rfl ?_
        obtain ⟨x4, hx, hy1⟩ := bindC hy1
        refine lQ.callI (F := (fun y A => x4 = y ∧ A = tp ad s A0)) (G := fun _ _ => False) (args := [.int v4]) (r := []) hR rfl rfl rfl (Nat.le_of_ble_eq_true rfl) (Nat.le_of_ble_eq_true rfl) (ts_675 hR hn hx (cI_mk ⟨rfl, rfl⟩)) ?_ (fun _ _ _ z => z.elim)
        rintro _ _ ⟨rfl, rfl⟩
        rcases iteC hy1 with ⟨hc, hy1⟩ | ⟨hc, hy1⟩
        · refine lQ.ifT rfl (decide_eq_true hc) ?_
          refine lQ.push rfl ?_
          obtain rfl := Option.some.inj hy1
          exact lQ.sub (lSb rfl (lSb rfl (lSb rfl (lSb rfl (lSb rfl lSb0))))) hJ1
        · refine lQ.ifF rfl (decide_eq_false hc) ?_
          refine lQ.loadI rfl rfl ?_
          refine lQ.loadI rfl rfl ?_
          rcases iteC hy1 with ⟨hc, hy1⟩ | ⟨hc, hy1⟩
          · refine lQ.cmpF rfl (decide_eq_false (fun z => z hc)) ?_
            refine lQ.loadI rfl rfl ?_
            refine lQ.loadI rfl rfl ?_
            rcases iteC hy1 with ⟨hc, hy1⟩ | ⟨hc, hy1⟩
            · refine lQ.cmpT rfl (decide_eq_true hc) ?_
              refine lQ.push rfl ?_
              obtain rfl := Option.some.inj hy1
              exact lQ.sub (lSb rfl (lSb rfl (lSb rfl (lSb rfl (lSb rfl lSb0))))) hJ1
            · refine lQ.cmpF rfl (decide_eq_false hc) ?_
              refine lQ.goto rfl ?_
              refine lQ.push rfl ?_
              refine lQ.goto rfl ?_
              obtain rfl := Option.some.inj hy1
              exact lQ.sub (lSb rfl (lSb rfl (lSb rfl (lSb rfl (lSb rfl lSb0))))) hJ1
          · refine lQ.cmpT rfl (decide_eq_true hc) ?_
            refine lQ.loadI rfl rfl ?_
            refine lQ.loadI rfl rfl ?_
            rcases iteC hy1 with ⟨hc, hy1⟩ | ⟨hc, hy1⟩
            · refine lQ.cmpF rfl (decide_eq_false (fun z => z hc)) ?_
              refine lQ.push rfl ?_
              refine lQ.goto rfl ?_
              obtain rfl := Option.some.inj hy1
              exact lQ.sub (lSb rfl (lSb rfl (lSb rfl (lSb rfl (lSb rfl lSb0))))) hJ1
            · refine lQ.cmpT rfl (decide_eq_true hc) ?_
              refine lQ.push rfl ?_
              obtain rfl := Option.some.inj hy1
              exact lQ.sub (lSb rfl (lSb rfl (lSb rfl (lSb rfl (lSb rfl lSb0))))) hJ1
theorem ts_560 {R : lAR} (hR : lRok R) {E : lE} {ad : List Nat} (hn : tOk ad) {v0 : Int32} {v1 : Int32} {s : TS} {A0 : lMem} {x : Int32} (h : t_560 v0 v1 s = some x) {Z : lZ} (hz : Z (.inl (some (.int x))) (tp ad s A0)) : lSQ R E 1 560 [.int v0, .int v1] (tp ad s A0) Z := by
  refine lQ.sq pg_560 (Nat.le_of_ble_eq_true rfl) rfl ?_
  unfold t_560 at h
  refine lQ.loadI rfl rfl ?_
  rcases iteC h with ⟨hc, h⟩ | ⟨hc, h⟩
  · refine lQ.ifT rfl (decide_eq_true hc) ?_
    refine lQ.push rfl ?_
    obtain rfl := Option.some.inj h
    exact lQ.retI rfl rfl hz
  · refine lQ.ifF rfl (decide_eq_false hc) ?_
    refine lQ.loadI rfl rfl ?_
    refine lQ.loadI rfl rfl ?_
    rcases iteC h with ⟨hc, h⟩ | ⟨hc, h⟩
    · refine lQ.cmpF rfl (decide_eq_false (Int32.not_le.mpr hc)) ?_
      refine lQ.push rfl ?_
      refine lQ.goto rfl ?_
      obtain rfl := Option.some.inj h
      exact lQ.retI rfl rfl hz
    · refine lQ.cmpT rfl (decide_eq_true (Int32.not_lt.mp hc)) ?_
      refine lQ.push rfl ?_
      obtain rfl := Option.some.inj h
      exact lQ.retI rfl rfl hz
theorem ts_681 {R : lAR} (hR : lRok R) {E : lE} {ad : List Nat} (hn : tOk ad) {v1 : Int32} {v2 : Int32} {v3 : Int32} {s : TS} {A0 : lMem} {x : Int32} (h : t_681 v1 v2 v3 s = some x) {Z : lZ} (hz : Z (.inl (some (.int x))) (tp ad s A0)) : lSQ R E 2 681 [.ref (adr ad 1), .int v1, .int v2, .int v3] (tp ad s A0) Z := by
  refine lQ.sq pg_681 (Nat.le_of_ble_eq_true rfl) rfl ?_
  unfold t_681 at h
  refine lQ.loadI rfl rfl ?_
  refine lQ.push rfl ?_
  rcases iteC h with ⟨hc, h⟩ | ⟨hc, h⟩
  · refine lQ.cmpT rfl (decide_eq_true hc) ?_
    refine lQ.push rfl ?_
    obtain rfl := Option.some.inj h
    exact lQ.retI rfl rfl hz
  · refine lQ.cmpF rfl (decide_eq_false hc) ?_
    refine lQ.loadI rfl rfl ?_
    refine lQ.push rfl ?_
    rcases iteC h with ⟨hc, h⟩ | ⟨hc, h⟩
    · refine lQ.cmpT rfl (decide_eq_true hc) ?_
      refine lQ.push rfl ?_
      obtain rfl := Option.some.inj h
      exact lQ.retI rfl rfl hz
    · refine lQ.cmpF rfl (decide_eq_false hc) ?_
      refine lQ.loadI rfl rfl ?_
      refine lQ.push rfl ?_
      rcases iteC h with ⟨hc, h⟩ | ⟨hc, h⟩
      · refine lQ.cmpT rfl (decide_eq_true hc) ?_
        refine lQ.push rfl ?_
        obtain rfl := Option.some.inj h
        exact lQ.retI rfl rfl hz
      · refine lQ.cmpF rfl (decide_eq_false hc) ?_
        refine lQ.loadI rfl rfl ?_
        refine lQ.push rfl ?_
        rcases iteC h with ⟨hc, h⟩ | ⟨hc, h⟩
        · refine lQ.cmpT rfl (decide_eq_true hc) ?_
          refine lQ.push rfl ?_
          obtain rfl := Option.some.inj h
          exact lQ.retI rfl rfl hz
        · refine lQ.cmpF rfl (decide_eq_false hc) ?_
          refine lQ.loadN rfl rfl ?_
          refine lQ.get hR rfl (tf_1_1 hn) ?_
          refine lQ.loadI rfl rfl ?_
          obtain ⟨x1, hx, h⟩ := bindC h
          refine lQ.ald hR rfl (ta_50 hn hx) ?_
          refine lQ.loadI rfl rfl ?_
          refine lQ.binI rfl ?_
          obtain ⟨x2, hx, h⟩ := bindC h
          refine lQ.callI (F := (fun y A => x2 = y ∧ A = tp ad s A0)) (G := fun _ _ => False) (args := [.int (x1 + v2)]) (r := []) hR rfl rfl rfl (Nat.le_of_ble_eq_true rfl) (Nat.le_of_ble_eq_true rfl) (ts_675 hR hn hx (cI_mk ⟨rfl, rfl⟩)) ?_ (fun _ _ _ z => z.elim)
          rintro _ _ ⟨rfl, rfl⟩
          rcases iteC h with ⟨hc, h⟩ | ⟨hc, h⟩
          · refine lQ.ifT rfl (decide_eq_true hc) ?_
            refine lQ.push rfl ?_
            obtain rfl := Option.some.inj h
            exact lQ.retI rfl rfl hz
          · refine lQ.ifF rfl (decide_eq_false hc) ?_
            refine lQ.loadN rfl rfl ?_
            refine lQ.get hR rfl (tf_1_2 hn) ?_
            refine lQ.loadI rfl rfl ?_
            obtain ⟨x3, hx, h⟩ := bindC h
            refine lQ.ald hR rfl (ta_51 hn hx) ?_
            refine lQ.loadI rfl rfl ?_
            refine lQ.binI rfl ?_
            obtain ⟨x4, hx, h⟩ := bindC h
            refine lQ.callI (F := (fun y A => x4 = y ∧ A = tp ad s A0)) (G := fun _ _ => False) (args := [.int (x3 + v3)]) (r := []) hR rfl rfl rfl (Nat.le_of_ble_eq_true rfl) (Nat.le_of_ble_eq_true rfl) (ts_675 hR hn hx (cI_mk ⟨rfl, rfl⟩)) ?_ (fun _ _ _ z => z.elim)
            rintro _ _ ⟨rfl, rfl⟩
            rcases iteC h with ⟨hc, h⟩ | ⟨hc, h⟩
            · refine lQ.ifT rfl (decide_eq_true hc) ?_
              refine lQ.push rfl ?_
              obtain rfl := Option.some.inj h
              exact lQ.retI rfl rfl hz
            · refine lQ.ifF rfl (decide_eq_false hc) ?_
              refine lQ.loadN rfl rfl ?_
              refine lQ.loadI rfl rfl ?_
              obtain ⟨x5, hx, h⟩ := bindC h
              refine lQ.callVI (F := (fun y A => x5 = y ∧ A = tp ad s A0)) (G := fun _ _ => False) (args := [.ref (adr ad 1), .int v1]) (r := []) hR rfl rfl rfl (Nat.le_of_ble_eq_true rfl) (Nat.le_of_ble_eq_true rfl) rfl (tk_1 hn rfl) (ts_679 hR hn hx (cI_mk ⟨rfl, rfl⟩)) ?_ (fun _ _ _ z => z.elim)
              rintro _ _ ⟨rfl, rfl⟩
              refine lQ.loadI rfl rfl ?_
              refine lQ.binI rfl ?_
              obtain ⟨x6, hx, h⟩ := bindC h
              refine lQ.callI (F := (fun y A => x6 = y ∧ A = tp ad s A0)) (G := fun _ _ => False) (args := [.int (x5 + v2)]) (r := []) hR rfl rfl rfl (Nat.le_of_ble_eq_true rfl) (Nat.le_of_ble_eq_true rfl) (ts_675 hR hn hx (cI_mk ⟨rfl, rfl⟩)) ?_ (fun _ _ _ z => z.elim)
              rintro _ _ ⟨rfl, rfl⟩
              rcases iteC h with ⟨hc, h⟩ | ⟨hc, h⟩
              · refine lQ.ifT rfl (decide_eq_true hc) ?_
                refine lQ.push rfl ?_
                obtain rfl := Option.some.inj h
                exact lQ.retI rfl rfl hz
              · refine lQ.ifF rfl (decide_eq_false hc) ?_
                refine lQ.loadN rfl rfl ?_
                refine lQ.loadI rfl rfl ?_
                obtain ⟨x7, hx, h⟩ := bindC h
                refine lQ.callVI (F := (fun y A => x7 = y ∧ A = tp ad s A0)) (G := fun _ _ => False) (args := [.ref (adr ad 1), .int v1]) (r := []) hR rfl rfl rfl (Nat.le_of_ble_eq_true rfl) (Nat.le_of_ble_eq_true rfl) rfl (tk_1 hn rfl) (ts_680 hR hn hx (cI_mk ⟨rfl, rfl⟩)) ?_ (fun _ _ _ z => z.elim)
                rintro _ _ ⟨rfl, rfl⟩
                refine lQ.loadI rfl rfl ?_
                refine lQ.binI rfl ?_
                obtain ⟨x8, hx, h⟩ := bindC h
                refine lQ.callI (F := (fun y A => x8 = y ∧ A = tp ad s A0)) (G := fun _ _ => False) (args := [.int (x7 + v3)]) (r := []) hR rfl rfl rfl (Nat.le_of_ble_eq_true rfl) (Nat.le_of_ble_eq_true rfl) (ts_675 hR hn hx (cI_mk ⟨rfl, rfl⟩)) ?_ (fun _ _ _ z => z.elim)
                rintro _ _ ⟨rfl, rfl⟩
                rcases iteC h with ⟨hc, h⟩ | ⟨hc, h⟩
                · refine lQ.ifT rfl (decide_eq_true hc) ?_
                  refine lQ.push rfl ?_
                  obtain rfl := Option.some.inj h
                  exact lQ.retI rfl rfl hz
                · refine lQ.ifF rfl (decide_eq_false hc) ?_
                  refine lQ.push rfl ?_
                  refine lQ.goto rfl ?_
                  obtain rfl := Option.some.inj h
                  exact lQ.retI rfl rfl hz
theorem ts_682 {R : lAR} (hR : lRok R) {E : lE} {ad : List Nat} (hn : tOk ad) {v1 : Int32} {v2 : Int32} {v3 : Int32} {s : TS} {A0 : lMem} {x : Int32 × TS} (h : t_682 v1 v2 v3 s = some x) {Z : lZ} (hz : Z (.inl (some (.int x.1))) (tp ad x.2 A0)) : lSQ R E 4 682 [.ref (adr ad 1), .int v1, .int v2, .int v3] (tp ad s A0) Z := by
  refine lQ.sq pg_682 (Nat.le_of_ble_eq_true rfl) rfl ?_
  unfold t_682 at h
  refine lQ.loadN rfl rfl ?_
  refine lQ.get hR rfl (tf_1_1 hn) ?_
  refine lQ.loadI rfl rfl ?_
  refine lQ.dup2 rfl rfl rfl ?_
  obtain ⟨x1, hx, h⟩ := bindC h
  refine lQ.ald hR rfl (ta_50 hn hx) ?_
  refine lQ.loadI rfl rfl ?_
  refine lQ.binI rfl ?_
  obtain ⟨s2, hx, h⟩ := bindC h
  refine lQ.ast hR rfl (tw_50 hn hx) ?_
  rintro _ rfl
  refine lQ.loadN rfl rfl ?_
  refine lQ.get hR rfl (tf_1_2 hn) ?_
  refine lQ.loadI rfl rfl ?_
  refine lQ.dup2 rfl rfl rfl ?_
  obtain ⟨x3, hx, h⟩ := bindC h
  refine lQ.ald hR rfl (ta_51 hn hx) ?_
  refine lQ.loadI rfl rfl ?_
  refine lQ.binI rfl ?_
  obtain ⟨s4, hx, h⟩ := bindC h
  refine lQ.ast hR rfl (tw_51 hn hx) ?_
  rintro _ rfl
  refine lQ.loadN rfl rfl ?_
  refine lQ.loadI rfl rfl ?_
  obtain ⟨x5, hx, h⟩ := bindC h
  refine lQ.callVI (F := (fun y A => x5 = y ∧ A = tp ad s4 A0)) (G := fun _ _ => False) (args := [.ref (adr ad 1), .int v1]) (r := []) hR rfl rfl rfl (Nat.le_of_ble_eq_true rfl) (Nat.le_of_ble_eq_true rfl) rfl (tk_1 hn rfl) (ts_677 hR hn hx (cI_mk ⟨rfl, rfl⟩)) ?_ (fun _ _ _ z => z.elim)
  rintro _ _ ⟨rfl, rfl⟩
  refine lQ.stI rfl (lN2s rfl rfl) ?_
  refine lQ.loadN rfl rfl ?_
  refine lQ.get hR rfl (tf_1_1 hn) ?_
  refine lQ.loadI rfl rfl ?_
  refine lQ.dup2 rfl rfl rfl ?_
  obtain ⟨x6, hx, h⟩ := bindC h
  refine lQ.ald hR rfl (ta_50 hn hx) ?_
  refine lQ.loadI rfl rfl ?_
  obtain ⟨v30, hy1, h1⟩ := bindC h
  have hJ1 : lQ R E 3 cd_682 30 [(0, .ref (adr ad 1)), (1, .int v1), (3, .int v3), (4, .int x5)] [.int v30, .int x6, .int v1, .ref (adr ad 50)] (tp ad s4 A0) Z := by
    refine lQ.binI rfl ?_
    obtain ⟨s7, hx, h1⟩ := bindC h1
    refine lQ.ast hR rfl (tw_50 hn hx) ?_
    rintro _ rfl
    refine lQ.loadN rfl rfl ?_
    refine lQ.get hR rfl (tf_1_2 hn) ?_
    refine lQ.loadI rfl rfl ?_
    refine lQ.dup2 rfl rfl rfl ?_
    obtain ⟨x8, hx, h1⟩ := bindC h1
    refine lQ.ald hR rfl (ta_51 hn hx) ?_
    refine lQ.loadI rfl rfl ?_
    obtain ⟨v42, hy2, h2⟩ := bindC h1
    have hJ2 : lQ R E 3 cd_682 42 [(0, .ref (adr ad 1)), (4, .int x5)] [.int v42, .int x8, .int v1, .ref (adr ad 51)] (tp ad s7 A0) Z := by
      refine lQ.binI rfl ?_
      obtain ⟨s9, hx, h2⟩ := bindC h2
      refine lQ.ast hR rfl (tw_51 hn hx) ?_
      rintro _ rfl
      refine lQ.loadN rfl rfl ?_
      refine lQ.loadN rfl rfl ?_
      refine lQ.get hR rfl (tf_1_10 hn) ?_
      obtain ⟨v53, hy3, h3⟩ := bindC h2
      have hJ3 : lQ R E 3 cd_682 53 [(4, .int x5)] [.int v53, .ref (adr ad 1)] (tp ad s9 A0) Z := by
        rcases iteC h3 with ⟨hg, h3⟩ | ⟨_, h3⟩
        case inr => cases h3
        obtain ⟨s10, hx, h3⟩ := bindC h3
        refine lQ.put hR rfl (fitB hg) (tq_1_10 hn hx) ?_
        rintro _ rfl
        refine lQ.loadI rfl rfl ?_
        rcases iteC h3 with ⟨hg, h3⟩ | ⟨_, h3⟩
        case inr => cases h3
        have hb := hg
        obtain rfl := Option.some.inj h3
        exact lQ.retI rfl (fitB hb) hz
      rcases iteC hy3 with ⟨hc, hy3⟩ | ⟨hc, hy3⟩
      · refine lQ.ifT rfl (decide_eq_true hc) ?_
        refine lQ.push rfl ?_
        obtain rfl := Option.some.inj hy3
        exact lQ.sub (lSb rfl lSb0) hJ3
      · refine lQ.ifF rfl (decide_eq_false hc) ?_
        refine lQ.loadI rfl rfl ?_
        rcases iteC hy3 with ⟨hc, hy3⟩ | ⟨hc, hy3⟩
        · refine lQ.ifF rfl (decide_eq_false (fun z => z hc)) ?_
          refine lQ.push rfl ?_
          refine lQ.goto rfl ?_
          obtain rfl := Option.some.inj hy3
          exact lQ.sub (lSb rfl lSb0) hJ3
        · refine lQ.ifT rfl (decide_eq_true hc) ?_
          refine lQ.push rfl ?_
          obtain rfl := Option.some.inj hy3
          exact lQ.sub (lSb rfl lSb0) hJ3
    rcases iteC hy2 with ⟨hc, hy2⟩ | ⟨hc, hy2⟩
    · refine lQ.ifT rfl (decide_eq_true hc) ?_
      refine lQ.loadI rfl rfl ?_
      obtain rfl := Option.some.inj hy2
      exact lQ.sub (lSb rfl (lSb rfl lSb0)) hJ2
    · refine lQ.ifF rfl (decide_eq_false hc) ?_
      refine lQ.push rfl ?_
      refine lQ.goto rfl ?_
      obtain rfl := Option.some.inj hy2
      exact lQ.sub (lSb rfl (lSb rfl lSb0)) hJ2
  rcases iteC hy1 with ⟨hc, hy1⟩ | ⟨hc, hy1⟩
  · refine lQ.ifT rfl (decide_eq_true hc) ?_
    refine lQ.loadI rfl rfl ?_
    obtain rfl := Option.some.inj hy1
    exact lQ.sub (lSb rfl (lSb rfl (lSb rfl (lSb rfl lSb0)))) hJ1
  · refine lQ.ifF rfl (decide_eq_false hc) ?_
    refine lQ.push rfl ?_
    refine lQ.goto rfl ?_
    obtain rfl := Option.some.inj hy1
    exact lQ.sub (lSb rfl (lSb rfl (lSb rfl (lSb rfl lSb0)))) hJ1
theorem ts_559 {R : lAR} (hR : lRok R) {E : lE} {ad : List Nat} (hn : tOk ad) {v1 : Int32} {v2 : Int32} {v3 : Int32} {s : TS} {A0 : lMem} {x : Int32 × TS} (h : t_559 v1 v2 v3 s = some x) {Z : lZ} (hz : Z (.inl (some (.int x.1))) (tp ad x.2 A0)) : lSQ R E 5 559 [.ref (adr ad 0), .int v1, .int v2, .int v3] (tp ad s A0) Z := by
  refine lQ.sq pg_559 (Nat.le_of_ble_eq_true rfl) rfl ?_
  unfold t_559 at h
  refine lQ.loadN rfl rfl ?_
  refine lQ.loadI rfl rfl ?_
  refine lQ.loadN rfl rfl ?_
  refine lQ.get hR rfl (tf_0_3 hn) ?_
  refine lQ.get hR rfl (tf_1_0 hn) ?_
  obtain ⟨x1, hx, h⟩ := bindC h
  refine lQ.callI (F := (fun y A => x1 = y ∧ A = tp ad s A0)) (G := fun _ _ => False) (args := [.int v1, .int (s.1 100)]) (r := [.ref (adr ad 0)]) hR rfl rfl rfl (Nat.le_of_ble_eq_true rfl) (Nat.le_of_ble_eq_true rfl) (ts_560 hR hn hx (cI_mk ⟨rfl, rfl⟩)) ?_ (fun _ _ _ z => z.elim)
  rintro _ _ ⟨rfl, rfl⟩
  obtain ⟨v17, hy1, h1⟩ := bindC h
  have hJ1 : lQ R E 4 cd_559 17 [(0, .ref (adr ad 0)), (1, .int v1), (2, .int v2), (3, .int v3)] [.int v17, .ref (adr ad 0)] (tp ad s A0) Z := by
    refine lQ.loadN rfl rfl ?_
    refine lQ.get hR rfl (tf_0_1 hn) ?_
    obtain ⟨v23, hy2, h2⟩ := bindC h1
    have hJ2 : lQ R E 4 cd_559 23 [(0, .ref (adr ad 0)), (1, .int v1), (2, .int v2), (3, .int v3)] [.int v23, .int v17, .ref (adr ad 0)] (tp ad s A0) Z := by
      obtain ⟨x3, hx, h2⟩ := bindC h2
      refine lQ.callVI (F := (fun y A => x3.1 = y ∧ A = tp ad x3.2 A0)) (G := fun _ _ => False) (args := [.ref (adr ad 0), .int v17, .int v23]) (r := []) hR rfl rfl rfl (Nat.le_of_ble_eq_true rfl) (Nat.le_of_ble_eq_true rfl) rfl (tk_0 hn rfl) (ts_558 hR hn hx (cI_mk ⟨rfl, rfl⟩)) ?_ (fun _ _ _ z => z.elim)
      rintro _ _ ⟨rfl, rfl⟩
      rcases iteC h2 with ⟨hc, h2⟩ | ⟨hc, h2⟩
      · refine lQ.ifT rfl (decide_eq_true hc) ?_
        refine lQ.push rfl ?_
        obtain rfl := Option.some.inj h2
        exact lQ.retI rfl rfl hz
      · refine lQ.ifF rfl (decide_eq_false hc) ?_
        refine lQ.loadN rfl rfl ?_
        refine lQ.get hR rfl (tf_0_3 hn) ?_
        refine lQ.loadI rfl rfl ?_
        refine lQ.loadI rfl rfl ?_
        refine lQ.loadI rfl rfl ?_
        obtain ⟨x4, hx, h2⟩ := bindC h2
        refine lQ.callVI (F := (fun y A => x4.1 = y ∧ A = tp ad x4.2 A0)) (G := fun _ _ => False) (args := [.ref (adr ad 1), .int v1, .int v2, .int v3]) (r := []) hR rfl rfl rfl (Nat.le_of_ble_eq_true rfl) (Nat.le_of_ble_eq_true rfl) rfl (tk_1 hn rfl) (ts_682 hR hn hx (cI_mk ⟨rfl, rfl⟩)) ?_ (fun _ _ _ z => z.elim)
        rintro _ _ ⟨rfl, rfl⟩
        rcases iteC h2 with ⟨hc, h2⟩ | ⟨hc, h2⟩
        · refine lQ.ifT rfl (decide_eq_true hc) ?_
          refine lQ.push rfl ?_
          obtain rfl := Option.some.inj h2
          exact lQ.retI rfl rfl hz
        · refine lQ.ifF rfl (decide_eq_false hc) ?_
          refine lQ.push rfl ?_
          refine lQ.goto rfl ?_
          obtain rfl := Option.some.inj h2
          exact lQ.retI rfl rfl hz
    rcases iteC hy2 with ⟨hc, hy2⟩ | ⟨hc, hy2⟩
    · refine lQ.ifF rfl (decide_eq_false (fun z => z hc)) ?_
      refine lQ.push rfl ?_
      refine lQ.goto rfl ?_
      obtain rfl := Option.some.inj hy2
      exact lQ.sub (lSb rfl (lSb rfl (lSb rfl (lSb rfl lSb0)))) hJ2
    · refine lQ.ifT rfl (decide_eq_true hc) ?_
      refine lQ.push rfl ?_
      obtain rfl := Option.some.inj hy2
      exact lQ.sub (lSb rfl (lSb rfl (lSb rfl (lSb rfl lSb0)))) hJ2
  rcases iteC hy1 with ⟨hc, hy1⟩ | ⟨hc, hy1⟩
  · refine lQ.ifT rfl (decide_eq_true hc) ?_
    refine lQ.push rfl ?_
    obtain rfl := Option.some.inj hy1
    exact lQ.sub (lSb rfl (lSb rfl (lSb rfl (lSb rfl lSb0)))) hJ1
  · refine lQ.ifF rfl (decide_eq_false hc) ?_
    refine lQ.loadN rfl rfl ?_
    refine lQ.get hR rfl (tf_0_3 hn) ?_
    refine lQ.loadI rfl rfl ?_
    refine lQ.loadI rfl rfl ?_
    refine lQ.loadI rfl rfl ?_
    obtain ⟨x2, hx, hy1⟩ := bindC hy1
    refine lQ.callVI (F := (fun y A => x2 = y ∧ A = tp ad s A0)) (G := fun _ _ => False) (args := [.ref (adr ad 1), .int v1, .int v2, .int v3]) (r := [.ref (adr ad 0)]) hR rfl rfl rfl (Nat.le_of_ble_eq_true rfl) (Nat.le_of_ble_eq_true rfl) rfl (tk_1 hn rfl) (ts_681 hR hn hx (cI_mk ⟨rfl, rfl⟩)) ?_ (fun _ _ _ z => z.elim)
    rintro _ _ ⟨rfl, rfl⟩
    rcases iteC hy1 with ⟨hc, hy1⟩ | ⟨hc, hy1⟩
    · refine lQ.ifT rfl (decide_eq_true hc) ?_
      refine lQ.push rfl ?_
      obtain rfl := Option.some.inj hy1
      exact lQ.sub (lSb rfl (lSb rfl (lSb rfl (lSb rfl lSb0)))) hJ1
    · refine lQ.ifF rfl (decide_eq_false hc) ?_
      refine lQ.push rfl ?_
      refine lQ.goto rfl ?_
      obtain rfl := Option.some.inj hy1
      exact lQ.sub (lSb rfl (lSb rfl (lSb rfl (lSb rfl lSb0)))) hJ1
theorem ts_683 {R : lAR} (hR : lRok R) {E : lE} {ad : List Nat} (hn : tOk ad) {v1 : Int32} {s : TS} {A0 : lMem} {x : Int32} (h : t_683 v1 s = some x) {Z : lZ} (hz : Z (.inl (some (.int x))) (tp ad s A0)) : lSQ R E 1 683 [.ref (adr ad 1), .int v1] (tp ad s A0) Z := by
  refine lQ.sq pg_683 (Nat.le_of_ble_eq_true rfl) rfl ?_
  unfold t_683 at h
  refine lQ.loadN rfl rfl ?_
  refine lQ.get hR rfl (tf_1_4 hn) ?_
  refine lQ.loadI rfl rfl ?_
  obtain ⟨x1, hx, h⟩ := bindC h
  refine lQ.ald hR rfl (ta_53 hn hx) ?_
  obtain rfl := Option.some.inj h
  exact lQ.retI rfl rfl hz
theorem ts_684 {R : lAR} (hR : lRok R) {E : lE} {ad : List Nat} (hn : tOk ad) {v1 : Int32} {v2 : Int32} {v3 : Int32} {v4 : Int32} {s : TS} {A0 : lMem} {x : Int32 × TS} (h : t_684 v1 v2 v3 v4 s = some x) {Z : lZ} (hz : Z (.inl (some (.int x.1))) (tp ad x.2 A0)) : lSQ R E 1 684 [.ref (adr ad 1), .int v1, .int v2, .int v3, .int v4] (tp ad s A0) Z := by
  refine lQ.sq pg_684 (Nat.le_of_ble_eq_true rfl) rfl ?_
  unfold t_684 at h
  refine lQ.loadN rfl rfl ?_
  refine lQ.get hR rfl (tf_1_6 hn) ?_
  refine lQ.push rfl ?_
  refine lQ.loadI rfl rfl ?_
  refine lQ.binI rfl ?_
  refine lQ.loadN rfl rfl ?_
  refine lQ.get hR rfl (tf_1_5 hn) ?_
  refine lQ.loadI rfl rfl ?_
  obtain ⟨x1, hx, h⟩ := bindC h
  refine lQ.ald hR rfl (ta_54 hn hx) ?_
  refine lQ.binI rfl ?_
  refine lQ.loadI rfl rfl ?_
  obtain ⟨s2, hx, h⟩ := bindC h
  refine lQ.ast hR rfl (tw_55 hn hx) ?_
  rintro _ rfl
  refine lQ.loadN rfl rfl ?_
  refine lQ.get hR rfl (tf_1_7 hn) ?_
  refine lQ.push rfl ?_
  refine lQ.loadI rfl rfl ?_
  refine lQ.binI rfl ?_
  refine lQ.loadN rfl rfl ?_
  refine lQ.get hR rfl (tf_1_5 hn) ?_
  refine lQ.loadI rfl rfl ?_
  obtain ⟨x3, hx, h⟩ := bindC h
  refine lQ.ald hR rfl (ta_54 hn hx) ?_
  refine lQ.binI rfl ?_
  refine lQ.loadI rfl rfl ?_
  obtain ⟨s4, hx, h⟩ := bindC h
  refine lQ.ast hR rfl (tw_56 hn hx) ?_
  rintro _ rfl
  refine lQ.loadN rfl rfl ?_
  refine lQ.get hR rfl (tf_1_8 hn) ?_
  refine lQ.push rfl ?_
  refine lQ.loadI rfl rfl ?_
  refine lQ.binI rfl ?_
  refine lQ.loadN rfl rfl ?_
  refine lQ.get hR rfl (tf_1_5 hn) ?_
  refine lQ.loadI rfl rfl ?_
  obtain ⟨x5, hx, h⟩ := bindC h
  refine lQ.ald hR rfl (ta_54 hn hx) ?_
  refine lQ.binI rfl ?_
  refine lQ.loadI rfl rfl ?_
  obtain ⟨s6, hx, h⟩ := bindC h
  refine lQ.ast hR rfl (tw_57 hn hx) ?_
  rintro _ rfl
  refine lQ.loadN rfl rfl ?_
  refine lQ.get hR rfl (tf_1_5 hn) ?_
  refine lQ.loadI rfl rfl ?_
  refine lQ.dup2 rfl rfl rfl ?_
  obtain ⟨x7, hx, h⟩ := bindC h
  refine lQ.ald hR rfl (ta_54 hn hx) ?_
  refine lQ.push rfl ?_
  refine lQ.binI rfl ?_
  obtain ⟨s8, hx, h⟩ := bindC h
  refine lQ.ast hR rfl (tw_54 hn hx) ?_
  rintro _ rfl
  refine lQ.loadN rfl rfl ?_
  refine lQ.get hR rfl (tf_1_5 hn) ?_
  refine lQ.loadI rfl rfl ?_
  obtain ⟨x9, hx, h⟩ := bindC h
  refine lQ.ald hR rfl (ta_54 hn hx) ?_
  obtain rfl := Option.some.inj h
  exact lQ.retI rfl rfl hz
theorem ts_561 {R : lAR} (hR : lRok R) {E : lE} {ad : List Nat} (hn : tOk ad) {v1 : Int32} {v2 : Int32} {v3 : Int32} {v4 : Int32} {s : TS} {A0 : lMem} {x : Int32 × TS} (h : t_561 v1 v2 v3 v4 s = some x) {Z : lZ} (hz : Z (.inl (some (.int x.1))) (tp ad x.2 A0)) : lSQ R E 2 561 [.ref (adr ad 0), .int v1, .int v2, .int v3, .int v4] (tp ad s A0) Z := by
  refine lQ.sq pg_561 (Nat.le_of_ble_eq_true rfl) rfl ?_
  unfold t_561 at h
  refine lQ.loadI rfl rfl ?_
  refine lQ.loadN rfl rfl ?_
  refine lQ.get hR rfl (tf_0_3 hn) ?_
  refine lQ.get hR rfl (tf_1_0 hn) ?_
  obtain ⟨x1, hx, h⟩ := bindC h
  refine lQ.callI (F := (fun y A => x1 = y ∧ A = tp ad s A0)) (G := fun _ _ => False) (args := [.int v1, .int (s.1 100)]) (r := []) hR rfl rfl rfl (Nat.le_of_ble_eq_true rfl) (Nat.le_of_ble_eq_true rfl) (ts_560 hR hn hx (cI_mk ⟨rfl, rfl⟩)) ?_ (fun _ _ _ z => z.elim)
  rintro _ _ ⟨rfl, rfl⟩
  obtain ⟨v26, hy1, h1⟩ := bindC h
  have hJ1 : lQ R E 1 cd_561 26 [(0, .ref (adr ad 0)), (1, .int v1), (2, .int v2), (3, .int v3), (4, .int v4)] [.int v26] (tp ad s A0) Z := by
    refine lQ.stI rfl (lN2s rfl rfl) ?_
    refine lQ.loadN rfl rfl ?_
    refine lQ.loadI rfl rfl ?_
    refine lQ.loadN rfl rfl ?_
    refine lQ.get hR rfl (tf_0_1 hn) ?_
    obtain ⟨v44, hy2, h2⟩ := bindC h1
    have hJ2 : lQ R E 1 cd_561 44 [(0, .ref (adr ad 0)), (1, .int v1), (2, .int v2), (3, .int v3), (4, .int v4)] [.int v44, .int v26, .ref (adr ad 0)] (tp ad s A0) Z := by
      obtain ⟨x4, hx, h2⟩ := bindC h2
      refine lQ.callVI (F := (fun y A => x4.1 = y ∧ A = tp ad x4.2 A0)) (G := fun _ _ => False) (args := [.ref (adr ad 0), .int v26, .int v44]) (r := []) hR rfl rfl rfl (Nat.le_of_ble_eq_true rfl) (Nat.le_of_ble_eq_true rfl) rfl (tk_0 hn rfl) (ts_558 hR hn hx (cI_mk ⟨rfl, rfl⟩)) ?_ (fun _ _ _ z => z.elim)
      rintro _ _ ⟨rfl, rfl⟩
      rcases iteC h2 with ⟨hc, h2⟩ | ⟨hc, h2⟩
      · refine lQ.ifT rfl (decide_eq_true hc) ?_
        refine lQ.push rfl ?_
        obtain rfl := Option.some.inj h2
        exact lQ.retI rfl rfl hz
      · refine lQ.ifF rfl (decide_eq_false hc) ?_
        refine lQ.loadN rfl rfl ?_
        refine lQ.get hR rfl (tf_0_3 hn) ?_
        refine lQ.loadI rfl rfl ?_
        refine lQ.loadI rfl rfl ?_
        refine lQ.loadI rfl rfl ?_
        refine lQ.loadI rfl rfl ?_
        obtain ⟨x5, hx, h2⟩ := bindC h2
        refine lQ.callVI (F := (fun y A => x5.1 = y ∧ A = tp ad x5.2 A0)) (G := fun _ _ => False) (args := [.ref (adr ad 1), .int v1, .int v2, .int v3, .int v4]) (r := []) hR rfl rfl rfl (Nat.le_of_ble_eq_true rfl) (Nat.le_of_ble_eq_true rfl) rfl (tk_1 hn rfl) (ts_684 hR hn hx (cI_mk ⟨rfl, rfl⟩)) ?_ (fun _ _ _ z => z.elim)
        rintro _ _ ⟨rfl, rfl⟩
        refine lQ.goto rfl ?_
        obtain rfl := Option.some.inj h2
        exact lQ.retI rfl rfl hz
    rcases iteC hy2 with ⟨hc, hy2⟩ | ⟨hc, hy2⟩
    · refine lQ.ifF rfl (decide_eq_false (fun z => z hc)) ?_
      refine lQ.loadI rfl rfl ?_
      rcases iteC hy2 with ⟨hc, hy2⟩ | ⟨hc, hy2⟩
      · refine lQ.ifT rfl (decide_eq_true hc) ?_
        refine lQ.push rfl ?_
        refine lQ.goto rfl ?_
        obtain rfl := Option.some.inj hy2
        exact lQ.sub (lSb rfl (lSb rfl (lSb rfl (lSb rfl (lSb rfl lSb0))))) hJ2
      · refine lQ.ifF rfl (decide_eq_false hc) ?_
        refine lQ.loadN rfl rfl ?_
        refine lQ.get hR rfl (tf_0_3 hn) ?_
        refine lQ.get hR rfl (tf_1_5 hn) ?_
        refine lQ.loadI rfl rfl ?_
        obtain ⟨x3, hx, hy2⟩ := bindC hy2
        refine lQ.ald hR rfl (ta_54 hn hx) ?_
        refine lQ.push rfl ?_
        rcases iteC hy2 with ⟨hc, hy2⟩ | ⟨hc, hy2⟩
        · refine lQ.cmpF rfl (decide_eq_false (Int32.not_le.mpr hc)) ?_
          refine lQ.push rfl ?_
          refine lQ.goto rfl ?_
          obtain rfl := Option.some.inj hy2
          exact lQ.sub (lSb rfl (lSb rfl (lSb rfl (lSb rfl (lSb rfl lSb0))))) hJ2
        · refine lQ.cmpT rfl (decide_eq_true (Int32.not_lt.mp hc)) ?_
          refine lQ.push rfl ?_
          obtain rfl := Option.some.inj hy2
          exact lQ.sub (lSb rfl (lSb rfl (lSb rfl (lSb rfl (lSb rfl lSb0))))) hJ2
    · refine lQ.ifT rfl (decide_eq_true hc) ?_
      refine lQ.push rfl ?_
      obtain rfl := Option.some.inj hy2
      exact lQ.sub (lSb rfl (lSb rfl (lSb rfl (lSb rfl (lSb rfl lSb0))))) hJ2
  rcases iteC hy1 with ⟨hc, hy1⟩ | ⟨hc, hy1⟩
  · refine lQ.ifT rfl (decide_eq_true hc) ?_
    refine lQ.push rfl ?_
    obtain rfl := Option.some.inj hy1
    exact lQ.sub (lSb rfl (lSb rfl (lSb rfl (lSb rfl (lSb rfl lSb0))))) hJ1
  · refine lQ.ifF rfl (decide_eq_false hc) ?_
    refine lQ.loadI rfl rfl ?_
    rcases iteC hy1 with ⟨hc, hy1⟩ | ⟨hc, hy1⟩
    · refine lQ.ifT rfl (decide_eq_true hc) ?_
      refine lQ.push rfl ?_
      obtain rfl := Option.some.inj hy1
      exact lQ.sub (lSb rfl (lSb rfl (lSb rfl (lSb rfl (lSb rfl lSb0))))) hJ1
    · refine lQ.ifF rfl (decide_eq_false hc) ?_
      refine lQ.loadI rfl rfl ?_
      refine lQ.loadI rfl rfl ?_
      rcases iteC hy1 with ⟨hc, hy1⟩ | ⟨hc, hy1⟩
      · refine lQ.cmpF rfl (decide_eq_false (Int32.not_le.mpr hc)) ?_
        refine lQ.loadI rfl rfl ?_
        refine lQ.loadN rfl rfl ?_
        refine lQ.get hR rfl (tf_0_3 hn) ?_
        refine lQ.loadI rfl rfl ?_
        obtain ⟨x2, hx, hy1⟩ := bindC hy1
        refine lQ.callVI (F := (fun y A => x2 = y ∧ A = tp ad s A0)) (G := fun _ _ => False) (args := [.ref (adr ad 1), .int v1]) (r := [.int v3]) hR rfl rfl rfl (Nat.le_of_ble_eq_true rfl) (Nat.le_of_ble_eq_true rfl) rfl (tk_1 hn rfl) (ts_683 hR hn hx (cI_mk ⟨rfl, rfl⟩)) ?_ (fun _ _ _ z => z.elim)
        rintro _ _ ⟨rfl, rfl⟩
        rcases iteC hy1 with ⟨hc, hy1⟩ | ⟨hc, hy1⟩
        · refine lQ.cmpT rfl (decide_eq_true hc) ?_
          refine lQ.push rfl ?_
          obtain rfl := Option.some.inj hy1
          exact lQ.sub (lSb rfl (lSb rfl (lSb rfl (lSb rfl (lSb rfl lSb0))))) hJ1
        · refine lQ.cmpF rfl (decide_eq_false hc) ?_
          refine lQ.loadI rfl rfl ?_
          refine lQ.push rfl ?_
          rcases iteC hy1 with ⟨hc, hy1⟩ | ⟨hc, hy1⟩
          · refine lQ.cmpT rfl (decide_eq_true hc) ?_
            refine lQ.push rfl ?_
            obtain rfl := Option.some.inj hy1
            exact lQ.sub (lSb rfl (lSb rfl (lSb rfl (lSb rfl (lSb rfl lSb0))))) hJ1
          · refine lQ.cmpF rfl (decide_eq_false hc) ?_
            refine lQ.loadI rfl rfl ?_
            refine lQ.push rfl ?_
            rcases iteC hy1 with ⟨hc, hy1⟩ | ⟨hc, hy1⟩
            · refine lQ.cmpT rfl (decide_eq_true hc) ?_
              refine lQ.push rfl ?_
              obtain rfl := Option.some.inj hy1
              exact lQ.sub (lSb rfl (lSb rfl (lSb rfl (lSb rfl (lSb rfl lSb0))))) hJ1
            · refine lQ.cmpF rfl (decide_eq_false hc) ?_
              refine lQ.push rfl ?_
              refine lQ.goto rfl ?_
              obtain rfl := Option.some.inj hy1
              exact lQ.sub (lSb rfl (lSb rfl (lSb rfl (lSb rfl (lSb rfl lSb0))))) hJ1
      · refine lQ.cmpT rfl (decide_eq_true (Int32.not_lt.mp hc)) ?_
        refine lQ.push rfl ?_
        obtain rfl := Option.some.inj hy1
        exact lQ.sub (lSb rfl (lSb rfl (lSb rfl (lSb rfl (lSb rfl lSb0))))) hJ1
theorem ts_563 {R : lAR} (hR : lRok R) {E : lE} {ad : List Nat} (hn : tOk ad) {v1 : Int32} {s : TS} {A0 : lMem} {x : Int32 × TS} (h : t_563 v1 s = some x) {Z : lZ} (hz : Z (.inl (some (.int x.1))) (tp ad x.2 A0)) : lSQ R E 1 563 [.ref (adr ad 0), .int v1] (tp ad s A0) Z := by
  refine lQ.sq pg_563 (Nat.le_of_ble_eq_true rfl) rfl ?_
  unfold t_563 at h
  refine lQ.loadN rfl rfl ?_
  refine lQ.loadI rfl rfl ?_
  obtain ⟨v6, hy1, h1⟩ := bindC h
  have hJ1 : lQ R E 0 cd_563 6 [(1, .int v1)] [.int v6, .ref (adr ad 0)] (tp ad s A0) Z := by
    obtain ⟨s1, hx, h1⟩ := bindC h1
    refine lQ.put hR rfl rfl (tq_0_0 hn hx) ?_
    rintro _ rfl
    refine lQ.loadI rfl rfl ?_
    rcases iteC h1 with ⟨hg, h1⟩ | ⟨_, h1⟩
    case inr => cases h1
    have hb := hg
    obtain rfl := Option.some.inj h1
    exact lQ.retI rfl (fitB hb) hz
  rcases iteC hy1 with ⟨hc, hy1⟩ | ⟨hc, hy1⟩
  · refine lQ.ifT rfl (decide_eq_true hc) ?_
    refine lQ.push rfl ?_
    obtain rfl := Option.some.inj hy1
    exact lQ.sub (lSb rfl lSb0) hJ1
  · refine lQ.ifF rfl (decide_eq_false hc) ?_
    refine lQ.push rfl ?_
    refine lQ.goto rfl ?_
    obtain rfl := Option.some.inj hy1
    exact lQ.sub (lSb rfl lSb0) hJ1
theorem ts_687 {R : lAR} (hR : lRok R) {E : lE} {ad : List Nat} (hn : tOk ad) {v0 : Nat} {v1 : Int32} {v2 : Int32} (hv0 : v0 = 58 ∨ v0 = 59) {s : TS} {A0 : lMem} {x : Int32 × TS} (h : t_687 v0 v1 v2 s = some x) {Z : lZ} (hz : Z (.inl (some (.int x.1))) (tp ad x.2 A0)) : lSQ R E 1 687 [.ref (adr ad v0), .int v1, .int v2] (tp ad s A0) Z := by
  refine lQ.sq pg_687 (Nat.le_of_ble_eq_true rfl) rfl ?_
  unfold t_687 at h
  refine lQ.push rfl ?_
  refine lQ.stI rfl (lN2s rfl rfl) ?_
  obtain ⟨v12, hy1, h1⟩ := bindC h
  have hJ1 : lQ R E 0 cd_687 12 [(0, .ref (adr ad v0)), (1, .int v1), (2, .int v2), (3, .int v12)] [] (tp ad s A0) Z := by
    refine lQ.loadI rfl rfl ?_
    refine lQ.loadI rfl rfl ?_
    obtain ⟨y2, hy2, h2⟩ := bindC h1
    have hJ2 : ∀ v22, y2 = .inl v22 → lQ R E 0 cd_687 22 [(0, .ref (adr ad v0)), (1, .int v1), (2, .int v2), (3, .int v12)] [] (tp ad s A0) Z := by
      rintro v22 rfl
      have h2 := elimC h2
      refine lQ.loadI rfl rfl ?_
      refine lQ.stI rfl (lN2s rfl rfl) ?_
      obtain ⟨v37, hy3, h3⟩ := bindC h2
      have hJ3 : lQ R E 0 cd_687 37 [(0, .ref (adr ad v0)), (1, .int v1), (2, .int v2), (3, .int v12)] [] (tp ad v37 A0) Z := by
        refine lQ.loadN rfl rfl ?_
        refine lQ.loadI rfl rfl ?_
        refine lQ.loadI rfl rfl ?_
        obtain ⟨s5, hx, h3⟩ := bindC h3
        refine lQ.ast hR rfl (tw_x hn hv0 hx) ?_
        rintro _ rfl
        refine lQ.loadI rfl rfl ?_
        refine lQ.push rfl ?_
        refine lQ.binI rfl ?_
        obtain rfl := Option.some.inj h3
        exact lQ.retI rfl rfl hz
      refine lQ.sub (lSb rfl (lSb rfl (lSb rfl (lSb rfl (lSb rfl lSb0))))) (wh_run (P := fun p24 => lQ R E 0 cd_687 24 [(0, .ref (adr ad v0)), (1, .int v1), (2, .int v2), (3, .int v12), (4, .int p24.2)] [] (tp ad p24.1 A0) Z) hy3 ?_)
      intro p24 r4 hb4 hI4 hX4
      refine lQ.loadI rfl rfl ?_
      refine lQ.loadI rfl rfl ?_
      rcases iteC hb4 with ⟨hc, hb4⟩ | ⟨hc, hb4⟩
      · refine lQ.cmpF rfl (decide_eq_false (Int32.not_le.mpr hc)) ?_
        refine lQ.loadN rfl rfl ?_
        refine lQ.loadI rfl rfl ?_
        refine lQ.loadN rfl rfl ?_
        refine lQ.loadI rfl rfl ?_
        refine lQ.push rfl ?_
        refine lQ.binI rfl ?_
        obtain ⟨x3, hx, hb4⟩ := bindC hb4
        refine lQ.ald hR rfl (ta_x hn hv0 hx) ?_
        obtain ⟨s4, hx, hb4⟩ := bindC hb4
        refine lQ.ast hR rfl (tw_x hn hv0 hx) ?_
        rintro _ rfl
        refine lQ.dec rfl rfl (Int32.sub_eq_add_neg p24.2 1).symm (lN2s rfl rfl) ?_
        refine lQ.goto rfl ?_
        obtain rfl := Option.some.inj hb4
        exact lQ.sub (lSb rfl (lSb rfl (lSb rfl (lSb rfl (lSb rfl lSb0))))) (hI4 _ rfl)
      · refine lQ.cmpT rfl (decide_eq_true (Int32.not_lt.mp hc)) ?_
        obtain rfl := Option.some.inj hb4
        obtain rfl := hX4 _ rfl
        exact lQ.sub (lSb rfl (lSb rfl (lSb rfl (lSb rfl lSb0)))) hJ3
    rcases iteC hy2 with ⟨hc, hy2⟩ | ⟨hc, hy2⟩
    · refine lQ.cmpF rfl (decide_eq_false (Int32.not_le.mpr hc)) ?_
      refine lQ.loadN rfl rfl ?_
      refine lQ.loadI rfl rfl ?_
      obtain ⟨x2, hx, hy2⟩ := bindC hy2
      refine lQ.ald hR rfl (ta_x hn hv0 hx) ?_
      refine lQ.loadI rfl rfl ?_
      rcases iteC hy2 with ⟨hc, hy2⟩ | ⟨hc, hy2⟩
      · refine lQ.cmpF rfl (decide_eq_false (fun z => z hc)) ?_
        refine lQ.loadI rfl rfl ?_
        obtain rfl := Option.some.inj hy2
        obtain rfl := elimD h2
        exact lQ.retI rfl rfl hz
      · refine lQ.cmpT rfl (decide_eq_true hc) ?_
        obtain rfl := Option.some.inj hy2
        exact lQ.sub (lSb rfl (lSb rfl (lSb rfl (lSb rfl lSb0)))) (hJ2 _ rfl)
    · refine lQ.cmpT rfl (decide_eq_true (Int32.not_lt.mp hc)) ?_
      obtain rfl := Option.some.inj hy2
      exact lQ.sub (lSb rfl (lSb rfl (lSb rfl (lSb rfl lSb0)))) (hJ2 _ rfl)
  refine lQ.sub (lSb rfl (lSb rfl (lSb rfl (lSb rfl lSb0)))) (wh_run (P := fun p2 => lQ R E 0 cd_687 2 [(0, .ref (adr ad v0)), (1, .int v1), (2, .int v2), (3, .int p2)] [] (tp ad s A0) Z) hy1 ?_)
  intro p2 r5 hb5 hI5 hX5
  refine lQ.loadI rfl rfl ?_
  refine lQ.loadI rfl rfl ?_
  rcases iteC hb5 with ⟨hc, hb5⟩ | ⟨hc, hb5⟩
  · refine lQ.cmpF rfl (decide_eq_false (Int32.not_le.mpr hc)) ?_
    refine lQ.loadN rfl rfl ?_
    refine lQ.loadI rfl rfl ?_
    obtain ⟨x1, hx, hb5⟩ := bindC hb5
    refine lQ.ald hR rfl (ta_x hn hv0 hx) ?_
    refine lQ.loadI rfl rfl ?_
    rcases iteC hb5 with ⟨hc, hb5⟩ | ⟨hc, hb5⟩
    · refine lQ.cmpF rfl (decide_eq_false (Int32.not_le.mpr hc)) ?_
      refine lQ.inc rfl rfl (lN2s rfl rfl) ?_
      refine lQ.goto rfl ?_
      obtain rfl := Option.some.inj hb5
      exact lQ.sub (lSb rfl (lSb rfl (lSb rfl (lSb rfl lSb0)))) (hI5 _ rfl)
    · refine lQ.cmpT rfl (decide_eq_true (Int32.not_lt.mp hc)) ?_
      obtain rfl := Option.some.inj hb5
      obtain rfl := hX5 _ rfl
      exact lQ.sub (lSb rfl (lSb rfl (lSb rfl (lSb rfl lSb0)))) hJ1
  · refine lQ.cmpT rfl (decide_eq_true (Int32.not_lt.mp hc)) ?_
    obtain rfl := Option.some.inj hb5
    obtain rfl := hX5 _ rfl
    exact lQ.sub (lSb rfl (lSb rfl (lSb rfl (lSb rfl lSb0)))) hJ1
theorem ts_689 {R : lAR} (hR : lRok R) {E : lE} {ad : List Nat} (hn : tOk ad) {v1 : Int32} {v2 : Int32} {v3 : Int32} {s : TS} {A0 : lMem} {x : Int32} (h : t_689 v1 v2 v3 s = some x) {Z : lZ} (hz : Z (.inl (some (.int x))) (tp ad s A0)) : lSQ R E 2 689 [.ref (adr ad 1), .int v1, .int v2, .int v3] (tp ad s A0) Z := by
  refine lQ.sq pg_689 (Nat.le_of_ble_eq_true rfl) rfl ?_
  unfold t_689 at h
  refine lQ.push rfl ?_
  refine lQ.stI rfl (lN2s rfl rfl) ?_
  refine lQ.push rfl ?_
  refine lQ.stI rfl (lN2s rfl rfl) ?_
  obtain ⟨v111, hy1, h1⟩ := bindC h
  have hJ1 : lQ R E 1 cd_689 111 [(4, .int v111)] [] (tp ad s A0) Z := by
    refine lQ.loadI rfl rfl ?_
    rcases iteC h1 with ⟨hg, h1⟩ | ⟨_, h1⟩
    case inr => cases h1
    have hb := hg
    obtain rfl := Option.some.inj h1
    exact lQ.retI rfl (fitB hb) hz
  refine lQ.sub (lSb rfl (lSb rfl (lSb rfl (lSb rfl (lSb rfl (lSb rfl lSb0)))))) (wh_run (P := fun p4 => lQ R E 1 cd_689 4 [(0, .ref (adr ad 1)), (1, .int v1), (2, .int v2), (3, .int v3), (4, .int p4.1), (5, .int p4.2)] [] (tp ad s A0) Z) hy1 ?_)
  intro p4 r2 hb2 hI2 hX2
  refine lQ.loadI rfl rfl ?_
  refine lQ.loadN rfl rfl ?_
  refine lQ.get hR rfl (tf_1_0 hn) ?_
  rcases iteC hb2 with ⟨hc, hb2⟩ | ⟨hc, hb2⟩
  · refine lQ.cmpF rfl (decide_eq_false (Int32.not_le.mpr hc)) ?_
    refine lQ.loadN rfl rfl ?_
    refine lQ.get hR rfl (tf_1_3 hn) ?_
    refine lQ.loadI rfl rfl ?_
    obtain ⟨x1, hx, hb2⟩ := bindC hb2
    refine lQ.ald hR rfl (ta_52 hn hx) ?_
    refine lQ.loadI rfl rfl ?_
    obtain ⟨v109, hy3, h3⟩ := bindC hb2
    have hJ3 : lQ R E 1 cd_689 109 [(0, .ref (adr ad 1)), (1, .int v1), (2, .int v2), (3, .int v3), (4, .int v109), (5, .int p4.2)] [] (tp ad s A0) Z := by
      refine lQ.inc rfl rfl (lN2s rfl rfl) ?_
      refine lQ.goto rfl ?_
      obtain rfl := Option.some.inj h3
      exact lQ.sub (lSb rfl (lSb rfl (lSb rfl (lSb rfl (lSb rfl (lSb rfl lSb0)))))) (hI2 _ rfl)
    rcases iteC hy3 with ⟨hc, hy3⟩ | ⟨hc, hy3⟩
    · refine lQ.cmpT rfl (decide_eq_true hc) ?_
      obtain rfl := Option.some.inj hy3
      exact lQ.sub (lSb rfl (lSb rfl (lSb rfl (lSb rfl (lSb rfl (lSb rfl lSb0)))))) hJ3
    · refine lQ.cmpF rfl (decide_eq_false hc) ?_
      refine lQ.loadI rfl rfl ?_
      obtain ⟨v25, hy4, h4⟩ := bindC hy3
      have hJ4 : lQ R E 1 cd_689 25 [(0, .ref (adr ad 1)), (1, .int v1), (2, .int v2), (3, .int v3), (4, .int p4.1), (5, .int p4.2)] [.int v25] (tp ad s A0) Z := by
        refine lQ.stI rfl (lN2s rfl rfl) ?_
        refine lQ.loadI rfl rfl ?_
        obtain ⟨v37, hy5, h5⟩ := bindC h4
        have hJ5 : lQ R E 1 cd_689 37 [(0, .ref (adr ad 1)), (1, .int v1), (2, .int v2), (3, .int v3), (4, .int p4.1), (5, .int p4.2), (6, .int v25)] [.int v37] (tp ad s A0) Z := by
          refine lQ.stI rfl (lN2s rfl rfl) ?_
          refine lQ.loadI rfl rfl ?_
          obtain ⟨v97, hy6, h6⟩ := bindC h5
          have hJ6 : lQ R E 1 cd_689 97 [(0, .ref (adr ad 1)), (1, .int v1), (2, .int v2), (3, .int v3), (4, .int p4.1), (5, .int p4.2), (6, .int v25), (7, .int v37)] [.int v97] (tp ad s A0) Z := by
            refine lQ.stI rfl (lN2s rfl rfl) ?_
            refine lQ.loadI rfl rfl ?_
            obtain ⟨v108, hy7, h7⟩ := bindC h6
            have hJ7 : lQ R E 1 cd_689 108 [(0, .ref (adr ad 1)), (1, .int v1), (2, .int v2), (3, .int v3), (5, .int p4.2)] [.int v108] (tp ad s A0) Z := by
              refine lQ.stI rfl (lN2s rfl rfl) ?_
              obtain rfl := Option.some.inj h7
              exact lQ.sub (lSb rfl (lSb rfl (lSb rfl (lSb rfl (lSb rfl (lSb rfl lSb0)))))) hJ3
            rcases iteC hy7 with ⟨hc, hy7⟩ | ⟨hc, hy7⟩
            · refine lQ.ifF rfl (decide_eq_false (fun z => z hc)) ?_
              refine lQ.loadI rfl rfl ?_
              refine lQ.loadI rfl rfl ?_
              rcases iteC hy7 with ⟨hc, hy7⟩ | ⟨hc, hy7⟩
              · refine lQ.cmpF rfl (decide_eq_false (fun z => z hc)) ?_
                refine lQ.loadI rfl rfl ?_
                rcases iteC hy7 with ⟨hc, hy7⟩ | ⟨hc, hy7⟩
                · refine lQ.ifT rfl (decide_eq_true hc) ?_
                  refine lQ.push rfl ?_
                  obtain rfl := Option.some.inj hy7
                  exact lQ.sub (lSb rfl (lSb rfl (lSb rfl (lSb rfl (lSb rfl lSb0))))) hJ7
                · refine lQ.ifF rfl (decide_eq_false hc) ?_
                  refine lQ.push rfl ?_
                  refine lQ.goto rfl ?_
                  obtain rfl := Option.some.inj hy7
                  exact lQ.sub (lSb rfl (lSb rfl (lSb rfl (lSb rfl (lSb rfl lSb0))))) hJ7
              · refine lQ.cmpT rfl (decide_eq_true hc) ?_
                refine lQ.push rfl ?_
                obtain rfl := Option.some.inj hy7
                exact lQ.sub (lSb rfl (lSb rfl (lSb rfl (lSb rfl (lSb rfl lSb0))))) hJ7
            · refine lQ.ifT rfl (decide_eq_true hc) ?_
              refine lQ.push rfl ?_
              refine lQ.goto rfl ?_
              obtain rfl := Option.some.inj hy7
              exact lQ.sub (lSb rfl (lSb rfl (lSb rfl (lSb rfl (lSb rfl lSb0))))) hJ7
          rcases iteC hy6 with ⟨hc, hy6⟩ | ⟨hc, hy6⟩
          · refine lQ.ifT rfl (decide_eq_true hc) ?_
            refine lQ.loadI rfl rfl ?_
            rcases iteC hy6 with ⟨hc, hy6⟩ | ⟨hc, hy6⟩
            · refine lQ.ifF rfl (decide_eq_false (Int32.not_le.mpr hc)) ?_
              refine lQ.loadI rfl rfl ?_
              refine lQ.loadN rfl rfl ?_
              refine lQ.get hR rfl (tf_1_12 hn) ?_
              rcases iteC hy6 with ⟨hc, hy6⟩ | ⟨hc, hy6⟩
              · refine lQ.cmpF rfl (decide_eq_false (Int32.not_le.mpr hc)) ?_
                refine lQ.loadN rfl rfl ?_
                refine lQ.get hR rfl (tf_1_1 hn) ?_
                refine lQ.loadI rfl rfl ?_
                obtain ⟨x6, hx, hy6⟩ := bindC hy6
                refine lQ.ald hR rfl (ta_50 hn hx) ?_
                refine lQ.loadN rfl rfl ?_
                refine lQ.get hR rfl (tf_1_14 hn) ?_
                refine lQ.loadI rfl rfl ?_
                refine lQ.push rfl ?_
                refine lQ.binI rfl ?_
                obtain ⟨x7, hx, hy6⟩ := bindC hy6
                refine lQ.ald hR rfl (ta_58 hn hx) ?_
                rcases iteC hy6 with ⟨hc, hy6⟩ | ⟨hc, hy6⟩
                · refine lQ.cmpT rfl (decide_eq_true hc) ?_
                  refine lQ.push rfl ?_
                  obtain rfl := Option.some.inj hy6
                  exact lQ.sub (lSb rfl (lSb rfl (lSb rfl (lSb rfl (lSb rfl (lSb rfl (lSb rfl (lSb rfl lSb0)))))))) hJ6
                · refine lQ.cmpF rfl (decide_eq_false hc) ?_
                  refine lQ.loadN rfl rfl ?_
                  refine lQ.loadI rfl rfl ?_
                  obtain ⟨x8, hx, hy6⟩ := bindC hy6
                  refine lQ.callVI (F := (fun y A => x8 = y ∧ A = tp ad s A0)) (G := fun _ _ => False) (args := [.ref (adr ad 1), .int p4.2]) (r := []) hR rfl rfl rfl (Nat.le_of_ble_eq_true rfl) (Nat.le_of_ble_eq_true rfl) rfl (tk_1 hn rfl) (ts_679 hR hn hx (cI_mk ⟨rfl, rfl⟩)) ?_ (fun _ _ _ z => z.elim)
                  rintro _ _ ⟨rfl, rfl⟩
                  refine lQ.loadN rfl rfl ?_
                  refine lQ.get hR rfl (tf_1_14 hn) ?_
                  refine lQ.loadI rfl rfl ?_
                  obtain ⟨x9, hx, hy6⟩ := bindC hy6
                  refine lQ.ald hR rfl (ta_58 hn hx) ?_
                  rcases iteC hy6 with ⟨hc, hy6⟩ | ⟨hc, hy6⟩
                  · refine lQ.cmpT rfl (decide_eq_true hc) ?_
                    refine lQ.push rfl ?_
                    obtain rfl := Option.some.inj hy6
                    exact lQ.sub (lSb rfl (lSb rfl (lSb rfl (lSb rfl (lSb rfl (lSb rfl (lSb rfl (lSb rfl lSb0)))))))) hJ6
                  · refine lQ.cmpF rfl (decide_eq_false hc) ?_
                    refine lQ.push rfl ?_
                    refine lQ.goto rfl ?_
                    obtain rfl := Option.some.inj hy6
                    exact lQ.sub (lSb rfl (lSb rfl (lSb rfl (lSb rfl (lSb rfl (lSb rfl (lSb rfl (lSb rfl lSb0)))))))) hJ6
              · refine lQ.cmpT rfl (decide_eq_true (Int32.not_lt.mp hc)) ?_
                refine lQ.push rfl ?_
                obtain rfl := Option.some.inj hy6
                exact lQ.sub (lSb rfl (lSb rfl (lSb rfl (lSb rfl (lSb rfl (lSb rfl (lSb rfl (lSb rfl lSb0)))))))) hJ6
            · refine lQ.ifT rfl (decide_eq_true (Int32.not_lt.mp hc)) ?_
              refine lQ.push rfl ?_
              obtain rfl := Option.some.inj hy6
              exact lQ.sub (lSb rfl (lSb rfl (lSb rfl (lSb rfl (lSb rfl (lSb rfl (lSb rfl (lSb rfl lSb0)))))))) hJ6
          · refine lQ.ifF rfl (decide_eq_false hc) ?_
            refine lQ.loadI rfl rfl ?_
            rcases iteC hy6 with ⟨hc, hy6⟩ | ⟨hc, hy6⟩
            · refine lQ.ifF rfl (decide_eq_false (Int32.not_le.mpr hc)) ?_
              refine lQ.loadI rfl rfl ?_
              refine lQ.loadN rfl rfl ?_
              refine lQ.get hR rfl (tf_1_13 hn) ?_
              rcases iteC hy6 with ⟨hc, hy6⟩ | ⟨hc, hy6⟩
              · refine lQ.cmpF rfl (decide_eq_false (Int32.not_le.mpr hc)) ?_
                refine lQ.loadN rfl rfl ?_
                refine lQ.get hR rfl (tf_1_2 hn) ?_
                refine lQ.loadI rfl rfl ?_
                obtain ⟨x10, hx, hy6⟩ := bindC hy6
                refine lQ.ald hR rfl (ta_51 hn hx) ?_
                refine lQ.loadN rfl rfl ?_
                refine lQ.get hR rfl (tf_1_15 hn) ?_
                refine lQ.loadI rfl rfl ?_
                refine lQ.push rfl ?_
                refine lQ.binI rfl ?_
                obtain ⟨x11, hx, hy6⟩ := bindC hy6
                refine lQ.ald hR rfl (ta_59 hn hx) ?_
                rcases iteC hy6 with ⟨hc, hy6⟩ | ⟨hc, hy6⟩
                · refine lQ.cmpT rfl (decide_eq_true hc) ?_
                  refine lQ.push rfl ?_
                  refine lQ.goto rfl ?_
                  obtain rfl := Option.some.inj hy6
                  exact lQ.sub (lSb rfl (lSb rfl (lSb rfl (lSb rfl (lSb rfl (lSb rfl (lSb rfl (lSb rfl lSb0)))))))) hJ6
                · refine lQ.cmpF rfl (decide_eq_false hc) ?_
                  refine lQ.loadN rfl rfl ?_
                  refine lQ.loadI rfl rfl ?_
                  obtain ⟨x12, hx, hy6⟩ := bindC hy6
                  refine lQ.callVI (F := (fun y A => x12 = y ∧ A = tp ad s A0)) (G := fun _ _ => False) (args := [.ref (adr ad 1), .int p4.2]) (r := []) hR rfl rfl rfl (Nat.le_of_ble_eq_true rfl) (Nat.le_of_ble_eq_true rfl) rfl (tk_1 hn rfl) (ts_680 hR hn hx (cI_mk ⟨rfl, rfl⟩)) ?_ (fun _ _ _ z => z.elim)
                  rintro _ _ ⟨rfl, rfl⟩
                  refine lQ.loadN rfl rfl ?_
                  refine lQ.get hR rfl (tf_1_15 hn) ?_
                  refine lQ.loadI rfl rfl ?_
                  obtain ⟨x13, hx, hy6⟩ := bindC hy6
                  refine lQ.ald hR rfl (ta_59 hn hx) ?_
                  rcases iteC hy6 with ⟨hc, hy6⟩ | ⟨hc, hy6⟩
                  · refine lQ.cmpT rfl (decide_eq_true hc) ?_
                    refine lQ.push rfl ?_
                    refine lQ.goto rfl ?_
                    obtain rfl := Option.some.inj hy6
                    exact lQ.sub (lSb rfl (lSb rfl (lSb rfl (lSb rfl (lSb rfl (lSb rfl (lSb rfl (lSb rfl lSb0)))))))) hJ6
                  · refine lQ.cmpF rfl (decide_eq_false hc) ?_
                    refine lQ.push rfl ?_
                    refine lQ.goto rfl ?_
                    obtain rfl := Option.some.inj hy6
                    exact lQ.sub (lSb rfl (lSb rfl (lSb rfl (lSb rfl (lSb rfl (lSb rfl (lSb rfl (lSb rfl lSb0)))))))) hJ6
              · refine lQ.cmpT rfl (decide_eq_true (Int32.not_lt.mp hc)) ?_
                refine lQ.push rfl ?_
                refine lQ.goto rfl ?_
                obtain rfl := Option.some.inj hy6
                exact lQ.sub (lSb rfl (lSb rfl (lSb rfl (lSb rfl (lSb rfl (lSb rfl (lSb rfl (lSb rfl lSb0)))))))) hJ6
            · refine lQ.ifT rfl (decide_eq_true (Int32.not_lt.mp hc)) ?_
              refine lQ.push rfl ?_
              refine lQ.goto rfl ?_
              obtain rfl := Option.some.inj hy6
              exact lQ.sub (lSb rfl (lSb rfl (lSb rfl (lSb rfl (lSb rfl (lSb rfl (lSb rfl (lSb rfl lSb0)))))))) hJ6
        rcases iteC hy5 with ⟨hc, hy5⟩ | ⟨hc, hy5⟩
        · refine lQ.ifT rfl (decide_eq_true hc) ?_
          refine lQ.loadN rfl rfl ?_
          refine lQ.get hR rfl (tf_1_15 hn) ?_
          refine lQ.loadI rfl rfl ?_
          obtain ⟨x4, hx, hy5⟩ := bindC hy5
          refine lQ.ald hR rfl (ta_59 hn hx) ?_
          obtain rfl := Option.some.inj hy5
          exact lQ.sub (lSb rfl (lSb rfl (lSb rfl (lSb rfl (lSb rfl (lSb rfl (lSb rfl lSb0))))))) hJ5
        · refine lQ.ifF rfl (decide_eq_false hc) ?_
          refine lQ.loadN rfl rfl ?_
          refine lQ.get hR rfl (tf_1_14 hn) ?_
          refine lQ.loadI rfl rfl ?_
          obtain ⟨x5, hx, hy5⟩ := bindC hy5
          refine lQ.ald hR rfl (ta_58 hn hx) ?_
          refine lQ.goto rfl ?_
          obtain rfl := Option.some.inj hy5
          exact lQ.sub (lSb rfl (lSb rfl (lSb rfl (lSb rfl (lSb rfl (lSb rfl (lSb rfl lSb0))))))) hJ5
      rcases iteC hy4 with ⟨hc, hy4⟩ | ⟨hc, hy4⟩
      · refine lQ.ifT rfl (decide_eq_true hc) ?_
        refine lQ.loadN rfl rfl ?_
        refine lQ.get hR rfl (tf_1_2 hn) ?_
        refine lQ.loadI rfl rfl ?_
        obtain ⟨x2, hx, hy4⟩ := bindC hy4
        refine lQ.ald hR rfl (ta_51 hn hx) ?_
        obtain rfl := Option.some.inj hy4
        exact lQ.sub (lSb rfl (lSb rfl (lSb rfl (lSb rfl (lSb rfl (lSb rfl lSb0)))))) hJ4
      · refine lQ.ifF rfl (decide_eq_false hc) ?_
        refine lQ.loadN rfl rfl ?_
        refine lQ.get hR rfl (tf_1_1 hn) ?_
        refine lQ.loadI rfl rfl ?_
        obtain ⟨x3, hx, hy4⟩ := bindC hy4
        refine lQ.ald hR rfl (ta_50 hn hx) ?_
        refine lQ.goto rfl ?_
        obtain rfl := Option.some.inj hy4
        exact lQ.sub (lSb rfl (lSb rfl (lSb rfl (lSb rfl (lSb rfl (lSb rfl lSb0)))))) hJ4
  · refine lQ.cmpT rfl (decide_eq_true (Int32.not_lt.mp hc)) ?_
    obtain rfl := Option.some.inj hb2
    obtain rfl := hX2 _ rfl
    exact lQ.sub (lSb rfl lSb0) hJ1
theorem ts_690 {R : lAR} (hR : lRok R) {E : lE} {ad : List Nat} (hn : tOk ad) {v1 : Int32} {v2 : Int32} {s : TS} {A0 : lMem} {x : Int32 × TS} (h : t_690 v1 v2 s = some x) {Z : lZ} (hz : Z (.inl (some (.int x.1))) (tp ad x.2 A0)) : lSQ R E 1 690 [.ref (adr ad 1), .int v1, .int v2] (tp ad s A0) Z := by
  refine lQ.sq pg_690 (Nat.le_of_ble_eq_true rfl) rfl ?_
  unfold t_690 at h
  refine lQ.loadN rfl rfl ?_
  refine lQ.get hR rfl (tf_1_16 hn) ?_
  refine lQ.loadI rfl rfl ?_
  obtain ⟨x1, hx, h⟩ := bindC h
  refine lQ.ald hR rfl (ta_60 hn hx) ?_
  refine lQ.loadN rfl rfl ?_
  refine lQ.get hR rfl (tf_1_16 hn) ?_
  refine lQ.loadI rfl rfl ?_
  obtain ⟨x2, hx, h⟩ := bindC h
  refine lQ.ald hR rfl (ta_60 hn hx) ?_
  obtain ⟨v18, hy1, h1⟩ := bindC h
  have hJ1 : lQ R E 0 cd_690 18 [(0, .ref (adr ad 1)), (1, .int v1), (2, .int v2)] [.int v18] (tp ad s A0) Z := by
    refine lQ.stI rfl (lN2s rfl rfl) ?_
    refine lQ.loadN rfl rfl ?_
    refine lQ.get hR rfl (tf_1_16 hn) ?_
    refine lQ.loadI rfl rfl ?_
    obtain ⟨x5, hx, h1⟩ := bindC h1
    refine lQ.ald hR rfl (ta_60 hn hx) ?_
    refine lQ.loadN rfl rfl ?_
    refine lQ.get hR rfl (tf_1_16 hn) ?_
    refine lQ.loadI rfl rfl ?_
    obtain ⟨x6, hx, h1⟩ := bindC h1
    refine lQ.ald hR rfl (ta_60 hn hx) ?_
    obtain ⟨v31, hy2, h2⟩ := bindC h1
    have hJ2 : lQ R E 0 cd_690 31 [(0, .ref (adr ad 1)), (1, .int v1), (2, .int v2), (3, .int v18)] [.int v31] (tp ad s A0) Z := by
      refine lQ.stI rfl (lN2s rfl rfl) ?_
      refine lQ.loadN rfl rfl ?_
      refine lQ.get hR rfl (tf_1_16 hn) ?_
      refine lQ.loadI rfl rfl ?_
      refine lQ.loadI rfl rfl ?_
      obtain ⟨s7, hx, h2⟩ := bindC h2
      refine lQ.ast hR rfl (tw_60 hn hx) ?_
      rintro _ rfl
      refine lQ.loadN rfl rfl ?_
      refine lQ.get hR rfl (tf_1_16 hn) ?_
      refine lQ.loadI rfl rfl ?_
      refine lQ.loadI rfl rfl ?_
      obtain ⟨s8, hx, h2⟩ := bindC h2
      refine lQ.ast hR rfl (tw_60 hn hx) ?_
      rintro _ rfl
      refine lQ.loadI rfl rfl ?_
      rcases iteC h2 with ⟨hg, h2⟩ | ⟨_, h2⟩
      case inr => cases h2
      have hb := hg
      obtain rfl := Option.some.inj h2
      exact lQ.retI rfl (fitB hb) hz
    rcases iteC hy2 with ⟨hc, hy2⟩ | ⟨hc, hy2⟩
    · refine lQ.cmpT rfl (decide_eq_true hc) ?_
      refine lQ.push rfl ?_
      obtain rfl := Option.some.inj hy2
      exact lQ.sub (lSb rfl (lSb rfl (lSb rfl (lSb rfl lSb0)))) hJ2
    · refine lQ.cmpF rfl (decide_eq_false hc) ?_
      refine lQ.push rfl ?_
      refine lQ.goto rfl ?_
      obtain rfl := Option.some.inj hy2
      exact lQ.sub (lSb rfl (lSb rfl (lSb rfl (lSb rfl lSb0)))) hJ2
  rcases iteC hy1 with ⟨hc, hy1⟩ | ⟨hc, hy1⟩
  · refine lQ.cmpF rfl (decide_eq_false (Int32.not_le.mpr hc)) ?_
    refine lQ.loadN rfl rfl ?_
    refine lQ.get hR rfl (tf_1_16 hn) ?_
    refine lQ.loadI rfl rfl ?_
    obtain ⟨x4, hx, hy1⟩ := bindC hy1
    refine lQ.ald hR rfl (ta_60 hn hx) ?_
    refine lQ.goto rfl ?_
    obtain rfl := Option.some.inj hy1
    exact lQ.sub (lSb rfl (lSb rfl (lSb rfl lSb0))) hJ1
  · refine lQ.cmpT rfl (decide_eq_true (Int32.not_lt.mp hc)) ?_
    refine lQ.loadN rfl rfl ?_
    refine lQ.get hR rfl (tf_1_16 hn) ?_
    refine lQ.loadI rfl rfl ?_
    obtain ⟨x3, hx, hy1⟩ := bindC hy1
    refine lQ.ald hR rfl (ta_60 hn hx) ?_
    obtain rfl := Option.some.inj hy1
    exact lQ.sub (lSb rfl (lSb rfl (lSb rfl lSb0))) hJ1
theorem ts_688 {R : lAR} (hR : lRok R) {E : lE} {ad : List Nat} (hn : tOk ad) {s : TS} {A0 : lMem} {x : TS} (h : t_688 s = some x) {Z : lZ} (hz : Z (.inl none) (tp ad x A0)) : lSQ R E 3 688 [.ref (adr ad 1)] (tp ad s A0) Z := by
  refine lQ.sq pg_688 (Nat.le_of_ble_eq_true rfl) rfl ?_
  unfold t_688 at h
  refine lQ.push rfl ?_
  refine lQ.stI rfl (lN2s rfl rfl) ?_
  obtain ⟨v12, hy1, h1⟩ := bindC h
  have hJ1 : lQ R E 2 cd_688 12 [(0, .ref (adr ad 1))] [] (tp ad v12 A0) Z := by
    refine lQ.push rfl ?_
    refine lQ.stI rfl (lN2s rfl rfl) ?_
    obtain ⟨v87, hy2, h2⟩ := bindC h1
    have hJ2 : lQ R E 2 cd_688 87 [] [] (tp ad v87 A0) Z := by
      obtain rfl := Option.some.inj h2
      exact lQ.retV rfl hz
    refine lQ.sub (lSb rfl (lSb rfl lSb0)) (wh_run (P := fun p14 => lQ R E 2 cd_688 14 [(0, .ref (adr ad 1)), (1, .int p14.2)] [] (tp ad p14.1 A0) Z) hy2 ?_)
    intro p14 r3 hb3 hI3 hX3
    refine lQ.loadI rfl rfl ?_
    rcases iteC hb3 with ⟨hc, hb3⟩ | ⟨hc, hb3⟩
    · refine lQ.ifT rfl (decide_eq_true hc) ?_
      obtain rfl := Option.some.inj hb3
      obtain rfl := hX3 _ rfl
      exact lQ.sub lSb0 hJ2
    · refine lQ.ifF rfl (decide_eq_false hc) ?_
      refine lQ.push rfl ?_
      refine lQ.stI rfl (lN2s rfl rfl) ?_
      refine lQ.push rfl ?_
      refine lQ.stI rfl (lN2s rfl rfl) ?_
      obtain ⟨v86, hy4, h4⟩ := bindC hb3
      have hJ4 : lQ R E 2 cd_688 86 [(0, .ref (adr ad 1)), (1, .int v86.2)] [] (tp ad v86.1 A0) Z := by
        refine lQ.goto rfl ?_
        obtain rfl := Option.some.inj h4
        exact lQ.sub (lSb rfl (lSb rfl lSb0)) (hI3 _ rfl)
      refine lQ.sub (lSb rfl (lSb rfl (lSb rfl lSb0))) (wh_run (P := fun p20 => lQ R E 2 cd_688 20 [(0, .ref (adr ad 1)), (1, .int p20.2.1), (2, .int p20.2.2)] [] (tp ad p20.1 A0) Z) hy4 ?_)
      intro p20 r5 hb5 hI5 hX5
      refine lQ.loadI rfl rfl ?_
      refine lQ.loadN rfl rfl ?_
      refine lQ.get hR rfl (tf_1_13 hn) ?_
      rcases iteC hb5 with ⟨hc, hb5⟩ | ⟨hc, hb5⟩
      · refine lQ.cmpT rfl (decide_eq_true hc) ?_
        obtain rfl := Option.some.inj hb5
        obtain rfl := hX5 _ rfl
        exact lQ.sub (lSb rfl (lSb rfl lSb0)) hJ4
      · refine lQ.cmpF rfl (decide_eq_false hc) ?_
        refine lQ.push rfl ?_
        refine lQ.stI rfl (lN2s rfl rfl) ?_
        obtain ⟨v84, hy6, h6⟩ := bindC hb5
        have hJ6 : lQ R E 2 cd_688 84 [(0, .ref (adr ad 1)), (1, .int v84.2), (2, .int p20.2.2)] [] (tp ad v84.1 A0) Z := by
          refine lQ.inc rfl rfl (lN2s rfl rfl) ?_
          refine lQ.goto rfl ?_
          obtain rfl := Option.some.inj h6
          exact lQ.sub (lSb rfl (lSb rfl (lSb rfl lSb0))) (hI5 _ rfl)
        refine lQ.sub (lSb rfl (lSb rfl (lSb rfl (lSb rfl lSb0)))) (wh_run (P := fun p26 => lQ R E 2 cd_688 26 [(0, .ref (adr ad 1)), (1, .int p26.2.1), (2, .int p20.2.2), (3, .int p26.2.2)] [] (tp ad p26.1 A0) Z) hy6 ?_)
        intro p26 r7 hb7 hI7 hX7
        refine lQ.loadI rfl rfl ?_
        refine lQ.loadN rfl rfl ?_
        refine lQ.get hR rfl (tf_1_12 hn) ?_
        rcases iteC hb7 with ⟨hc, hb7⟩ | ⟨hc, hb7⟩
        · refine lQ.cmpT rfl (decide_eq_true hc) ?_
          obtain rfl := Option.some.inj hb7
          obtain rfl := hX7 _ rfl
          exact lQ.sub (lSb rfl (lSb rfl (lSb rfl lSb0))) hJ6
        · refine lQ.cmpF rfl (decide_eq_false hc) ?_
          refine lQ.push rfl ?_
          refine lQ.loadI rfl rfl ?_
          refine lQ.binI rfl ?_
          refine lQ.loadI rfl rfl ?_
          refine lQ.binI rfl ?_
          refine lQ.stI rfl (lN2s rfl rfl) ?_
          refine lQ.loadI rfl rfl ?_
          refine lQ.loadI rfl rfl ?_
          refine lQ.loadN rfl rfl ?_
          refine lQ.get hR rfl (tf_1_12 hn) ?_
          obtain ⟨v57, hy8, h8⟩ := bindC hb7
          have hJ8 : lQ R E 2 cd_688 57 [(0, .ref (adr ad 1)), (2, .int p20.2.2), (3, .int p26.2.2), (4, .int ((42 * p20.2.2) + p26.2.2))] [.int v57.2, .int p26.2.1] (tp ad v57.1 A0) Z := by
            refine lQ.binI rfl ?_
            refine lQ.stI rfl (lN2s rfl rfl) ?_
            refine lQ.loadI rfl rfl ?_
            refine lQ.loadI rfl rfl ?_
            refine lQ.loadN rfl rfl ?_
            refine lQ.get hR rfl (tf_1_13 hn) ?_
            obtain ⟨v80, hy9, h9⟩ := bindC h8
            have hJ9 : lQ R E 2 cd_688 80 [(0, .ref (adr ad 1)), (2, .int p20.2.2), (3, .int p26.2.2)] [.int v80.2, .int (p26.2.1 ||| v57.2)] (tp ad v80.1 A0) Z := by
              refine lQ.binI rfl ?_
              refine lQ.stI rfl (lN2s rfl rfl) ?_
              refine lQ.inc rfl rfl (lN2s rfl rfl) ?_
              refine lQ.goto rfl ?_
              obtain rfl := Option.some.inj h9
              exact lQ.sub (lSb rfl (lSb rfl (lSb rfl (lSb rfl lSb0)))) (hI7 _ rfl)
            rcases iteC hy9 with ⟨hc, hy9⟩ | ⟨hc, hy9⟩
            · refine lQ.cmpF rfl (decide_eq_false (Int32.not_le.mpr hc)) ?_
              refine lQ.loadN rfl rfl ?_
              refine lQ.loadI rfl rfl ?_
              refine lQ.loadI rfl rfl ?_
              refine lQ.push rfl ?_
              obtain ⟨x4, hx, hy9⟩ := bindC hy9
              refine lQ.callVI (F := (fun y A => x4 = y ∧ A = tp ad v57.1 A0)) (G := fun _ _ => False) (args := [.ref (adr ad 1), .int p26.2.2, .int p20.2.2, .int 0]) (r := [.int (p26.2.1 ||| v57.2)]) hR rfl rfl rfl (Nat.le_of_ble_eq_true rfl) (Nat.le_of_ble_eq_true rfl) rfl (tk_1 hn rfl) (ts_689 hR hn hx (cI_mk ⟨rfl, rfl⟩)) ?_ (fun _ _ _ z => z.elim)
              rintro _ _ ⟨rfl, rfl⟩
              rcases iteC hy9 with ⟨hc, hy9⟩ | ⟨hc, hy9⟩
              · refine lQ.ifF rfl (decide_eq_false (fun z => z hc)) ?_
                refine lQ.loadN rfl rfl ?_
                refine lQ.loadI rfl rfl ?_
                refine lQ.loadI rfl rfl ?_
                refine lQ.push rfl ?_
                refine lQ.binI rfl ?_
                obtain ⟨x5, hx, hy9⟩ := bindC hy9
                refine lQ.callVI (F := (fun y A => x5.1 = y ∧ A = tp ad x5.2 A0)) (G := fun _ _ => False) (args := [.ref (adr ad 1), .int ((42 * p20.2.2) + p26.2.2), .int (((42 * p20.2.2) + p26.2.2) + 42)]) (r := [.int (p26.2.1 ||| v57.2)]) hR rfl rfl rfl (Nat.le_of_ble_eq_true rfl) (Nat.le_of_ble_eq_true rfl) rfl (tk_1 hn rfl) (ts_690 hR hn hx (cI_mk ⟨rfl, rfl⟩)) ?_ (fun _ _ _ z => z.elim)
                rintro _ _ ⟨rfl, rfl⟩
                rcases iteC hy9 with ⟨hc, hy9⟩ | ⟨hc, hy9⟩
                · refine lQ.ifT rfl (decide_eq_true hc) ?_
                  refine lQ.push rfl ?_
                  obtain rfl := Option.some.inj hy9
                  exact lQ.sub (lSb rfl (lSb rfl (lSb rfl lSb0))) hJ9
                · refine lQ.ifF rfl (decide_eq_false hc) ?_
                  refine lQ.push rfl ?_
                  refine lQ.goto rfl ?_
                  obtain rfl := Option.some.inj hy9
                  exact lQ.sub (lSb rfl (lSb rfl (lSb rfl lSb0))) hJ9
              · refine lQ.ifT rfl (decide_eq_true hc) ?_
                refine lQ.push rfl ?_
                obtain rfl := Option.some.inj hy9
                exact lQ.sub (lSb rfl (lSb rfl (lSb rfl lSb0))) hJ9
            · refine lQ.cmpT rfl (decide_eq_true (Int32.not_lt.mp hc)) ?_
              refine lQ.push rfl ?_
              obtain rfl := Option.some.inj hy9
              exact lQ.sub (lSb rfl (lSb rfl (lSb rfl lSb0))) hJ9
          rcases iteC hy8 with ⟨hc, hy8⟩ | ⟨hc, hy8⟩
          · refine lQ.cmpF rfl (decide_eq_false (Int32.not_le.mpr hc)) ?_
            refine lQ.loadN rfl rfl ?_
            refine lQ.loadI rfl rfl ?_
            refine lQ.loadI rfl rfl ?_
            refine lQ.push rfl ?_
            obtain ⟨x2, hx, hy8⟩ := bindC hy8
            refine lQ.callVI (F := (fun y A => x2 = y ∧ A = tp ad p26.1 A0)) (G := fun _ _ => False) (args := [.ref (adr ad 1), .int p26.2.2, .int p20.2.2, .int 1]) (r := [.int p26.2.1]) hR rfl rfl rfl (Nat.le_of_ble_eq_true rfl) (Nat.le_of_ble_eq_true rfl) rfl (tk_1 hn rfl) (ts_689 hR hn hx (cI_mk ⟨rfl, rfl⟩)) ?_ (fun _ _ _ z => z.elim)
            rintro _ _ ⟨rfl, rfl⟩
            rcases iteC hy8 with ⟨hc, hy8⟩ | ⟨hc, hy8⟩
            · refine lQ.ifF rfl (decide_eq_false (fun z => z hc)) ?_
              refine lQ.loadN rfl rfl ?_
              refine lQ.loadI rfl rfl ?_
              refine lQ.loadI rfl rfl ?_
              refine lQ.push rfl ?_
              refine lQ.binI rfl ?_
              obtain ⟨x3, hx, hy8⟩ := bindC hy8
              refine lQ.callVI (F := (fun y A => x3.1 = y ∧ A = tp ad x3.2 A0)) (G := fun _ _ => False) (args := [.ref (adr ad 1), .int ((42 * p20.2.2) + p26.2.2), .int (((42 * p20.2.2) + p26.2.2) + 1)]) (r := [.int p26.2.1]) hR rfl rfl rfl (Nat.le_of_ble_eq_true rfl) (Nat.le_of_ble_eq_true rfl) rfl (tk_1 hn rfl) (ts_690 hR hn hx (cI_mk ⟨rfl, rfl⟩)) ?_ (fun _ _ _ z => z.elim)
              rintro _ _ ⟨rfl, rfl⟩
              rcases iteC hy8 with ⟨hc, hy8⟩ | ⟨hc, hy8⟩
              · refine lQ.ifT rfl (decide_eq_true hc) ?_
                refine lQ.push rfl ?_
                obtain rfl := Option.some.inj hy8
                exact lQ.sub (lSb rfl (lSb rfl (lSb rfl (lSb rfl lSb0)))) hJ8
              · refine lQ.ifF rfl (decide_eq_false hc) ?_
                refine lQ.push rfl ?_
                refine lQ.goto rfl ?_
                obtain rfl := Option.some.inj hy8
                exact lQ.sub (lSb rfl (lSb rfl (lSb rfl (lSb rfl lSb0)))) hJ8
            · refine lQ.ifT rfl (decide_eq_true hc) ?_
              refine lQ.push rfl ?_
              obtain rfl := Option.some.inj hy8
              exact lQ.sub (lSb rfl (lSb rfl (lSb rfl (lSb rfl lSb0)))) hJ8
          · refine lQ.cmpT rfl (decide_eq_true (Int32.not_lt.mp hc)) ?_
            refine lQ.push rfl ?_
            obtain rfl := Option.some.inj hy8
            exact lQ.sub (lSb rfl (lSb rfl (lSb rfl (lSb rfl lSb0)))) hJ8
  refine lQ.sub (lSb rfl (lSb rfl lSb0)) (wh_run (P := fun p2 => lQ R E 2 cd_688 2 [(0, .ref (adr ad 1)), (1, .int p2.2)] [] (tp ad p2.1 A0) Z) hy1 ?_)
  intro p2 r10 hb10 hI10 hX10
  refine lQ.loadI rfl rfl ?_
  refine lQ.push rfl ?_
  rcases iteC hb10 with ⟨hc, hb10⟩ | ⟨hc, hb10⟩
  · refine lQ.cmpF rfl (decide_eq_false (Int32.not_le.mpr hc)) ?_
    refine lQ.loadN rfl rfl ?_
    refine lQ.get hR rfl (tf_1_16 hn) ?_
    refine lQ.loadI rfl rfl ?_
    refine lQ.loadI rfl rfl ?_
    obtain ⟨s1, hx, hb10⟩ := bindC hb10
    refine lQ.ast hR rfl (tw_60 hn hx) ?_
    rintro _ rfl
    refine lQ.inc rfl rfl (lN2s rfl rfl) ?_
    refine lQ.goto rfl ?_
    obtain rfl := Option.some.inj hb10
    exact lQ.sub (lSb rfl (lSb rfl lSb0)) (hI10 _ rfl)
  · refine lQ.cmpT rfl (decide_eq_true (Int32.not_lt.mp hc)) ?_
    obtain rfl := Option.some.inj hb10
    obtain rfl := hX10 _ rfl
    exact lQ.sub (lSb rfl lSb0) hJ1
theorem ts_693 {R : lAR} (hR : lRok R) {E : lE} {ad : List Nat} (hn : tOk ad) {v1 : Int32} {v2 : Int32} {s : TS} {A0 : lMem} {x : Int32} (h : t_693 v1 v2 s = some x) {Z : lZ} (hz : Z (.inl (some (.int x))) (tp ad s A0)) : lSQ R E 1 693 [.ref (adr ad 1), .int v1, .int v2] (tp ad s A0) Z := by
  refine lQ.sq pg_693 (Nat.le_of_ble_eq_true rfl) rfl ?_
  unfold t_693 at h
  refine lQ.push rfl ?_
  refine lQ.stI rfl (lN2s rfl rfl) ?_
  obtain ⟨v20, hy1, h1⟩ := bindC h
  have hJ1 : lQ R E 0 cd_693 20 [(3, .int v20)] [] (tp ad s A0) Z := by
    refine lQ.loadI rfl rfl ?_
    obtain rfl := Option.some.inj h1
    exact lQ.retI rfl rfl hz
  refine lQ.sub (lSb rfl (lSb rfl (lSb rfl (lSb rfl lSb0)))) (wh_run (P := fun p2 => lQ R E 0 cd_693 2 [(0, .ref (adr ad 1)), (1, .int v1), (2, .int v2), (3, .int p2)] [] (tp ad s A0) Z) hy1 ?_)
  intro p2 r2 hb2 hI2 hX2
  refine lQ.loadI rfl rfl ?_
  refine lQ.loadN rfl rfl ?_
  refine lQ.get hR rfl (tf_1_27 hn) ?_
  rcases iteC hb2 with ⟨hc, hb2⟩ | ⟨hc, hb2⟩
  · refine lQ.cmpF rfl (decide_eq_false (Int32.not_le.mpr hc)) ?_
    refine lQ.loadN rfl rfl ?_
    refine lQ.get hR rfl (tf_1_28 hn) ?_
    refine lQ.loadI rfl rfl ?_
    obtain ⟨x1, hx, hb2⟩ := bindC hb2
    refine lQ.ald hR rfl (ta_66 hn hx) ?_
    refine lQ.loadI rfl rfl ?_
    obtain ⟨y3, hy3, h3⟩ := bindC hb2
    have hJ3 : ∀ v18, y3 = .inl v18 → lQ R E 0 cd_693 18 [(0, .ref (adr ad 1)), (1, .int v1), (2, .int v2), (3, .int p2)] [] (tp ad s A0) Z := by
      rintro v18 rfl
      have h3 := elimC h3
      refine lQ.inc rfl rfl (lN2s rfl rfl) ?_
      refine lQ.goto rfl ?_
      obtain rfl := Option.some.inj h3
      exact lQ.sub (lSb rfl (lSb rfl (lSb rfl (lSb rfl lSb0)))) (hI2 _ rfl)
    rcases iteC hy3 with ⟨hc, hy3⟩ | ⟨hc, hy3⟩
    · refine lQ.cmpF rfl (decide_eq_false (fun z => z hc)) ?_
      refine lQ.loadN rfl rfl ?_
      refine lQ.get hR rfl (tf_1_29 hn) ?_
      refine lQ.loadI rfl rfl ?_
      obtain ⟨x2, hx, hy3⟩ := bindC hy3
      refine lQ.ald hR rfl (ta_67 hn hx) ?_
      refine lQ.loadI rfl rfl ?_
      rcases iteC hy3 with ⟨hc, hy3⟩ | ⟨hc, hy3⟩
      · refine lQ.cmpT rfl (decide_eq_true hc) ?_
        obtain rfl := Option.some.inj hy3
        obtain rfl := elimD h3
        obtain rfl := hX2 _ rfl
        exact lQ.sub (lSb rfl lSb0) hJ1
      · refine lQ.cmpF rfl (decide_eq_false hc) ?_
        obtain rfl := Option.some.inj hy3
        exact lQ.sub (lSb rfl (lSb rfl (lSb rfl (lSb rfl lSb0)))) (hJ3 _ rfl)
    · refine lQ.cmpT rfl (decide_eq_true hc) ?_
      obtain rfl := Option.some.inj hy3
      exact lQ.sub (lSb rfl (lSb rfl (lSb rfl (lSb rfl lSb0)))) (hJ3 _ rfl)
  · refine lQ.cmpT rfl (decide_eq_true (Int32.not_lt.mp hc)) ?_
    obtain rfl := Option.some.inj hb2
    obtain rfl := hX2 _ rfl
    exact lQ.sub (lSb rfl lSb0) hJ1
theorem ts_692 {R : lAR} (hR : lRok R) {E : lE} {ad : List Nat} (hn : tOk ad) {v1 : Int32} {v2 : Int32} {s : TS} {A0 : lMem} {x : TS} (h : t_692 v1 v2 s = some x) {Z : lZ} (hz : Z (.inl none) (tp ad x A0)) : lSQ R E 2 692 [.ref (adr ad 1), .int v1, .int v2] (tp ad s A0) Z := by
  refine lQ.sq pg_692 (Nat.le_of_ble_eq_true rfl) rfl ?_
  unfold t_692 at h
  refine lQ.loadN rfl rfl ?_
  refine lQ.loadI rfl rfl ?_
  refine lQ.loadI rfl rfl ?_
  obtain ⟨x1, hx, h⟩ := bindC h
  refine lQ.callVI (F := (fun y A => x1 = y ∧ A = tp ad s A0)) (G := fun _ _ => False) (args := [.ref (adr ad 1), .int v1, .int v2]) (r := []) hR rfl rfl rfl (Nat.le_of_ble_eq_true rfl) (Nat.le_of_ble_eq_true rfl) rfl (tk_1 hn rfl) (ts_693 hR hn hx (cI_mk ⟨rfl, rfl⟩)) ?_ (fun _ _ _ z => z.elim)
  rintro _ _ ⟨rfl, rfl⟩
  refine lQ.loadN rfl rfl ?_
  refine lQ.get hR rfl (tf_1_27 hn) ?_
  rcases iteC h with ⟨hc, h⟩ | ⟨hc, h⟩
  · refine lQ.cmpF rfl (decide_eq_false (Int32.not_le.mpr hc)) ?_
    obtain rfl := Option.some.inj h
    exact lQ.retV rfl hz
  · refine lQ.cmpT rfl (decide_eq_true (Int32.not_lt.mp hc)) ?_
    refine lQ.loadN rfl rfl ?_
    refine lQ.get hR rfl (tf_1_27 hn) ?_
    refine lQ.stI rfl (lN2s rfl rfl) ?_
    obtain ⟨v59, hy1, h1⟩ := bindC h
    have hJ1 : lQ R E 1 cd_692 59 [(0, .ref (adr ad 1)), (1, .int v1), (2, .int v2), (3, .int v59.2)] [] (tp ad v59.1 A0) Z := by
      refine lQ.loadN rfl rfl ?_
      refine lQ.get hR rfl (tf_1_28 hn) ?_
      refine lQ.loadI rfl rfl ?_
      refine lQ.loadI rfl rfl ?_
      obtain ⟨s9, hx, h1⟩ := bindC h1
      refine lQ.ast hR rfl (tw_66 hn hx) ?_
      rintro _ rfl
      refine lQ.loadN rfl rfl ?_
      refine lQ.get hR rfl (tf_1_29 hn) ?_
      refine lQ.loadI rfl rfl ?_
      refine lQ.loadI rfl rfl ?_
      obtain ⟨s10, hx, h1⟩ := bindC h1
      refine lQ.ast hR rfl (tw_67 hn hx) ?_
      rintro _ rfl
      refine lQ.loadN rfl rfl ?_
      refine lQ.dupN rfl ?_
      refine lQ.get hR rfl (tf_1_27 hn) ?_
      refine lQ.push rfl ?_
      refine lQ.binI rfl ?_
      obtain ⟨s11, hx, h1⟩ := bindC h1
      refine lQ.put hR rfl rfl (tq_1_27 hn hx) ?_
      rintro _ rfl
      obtain rfl := Option.some.inj h1
      exact lQ.retV rfl hz
    refine lQ.sub (lSb rfl (lSb rfl (lSb rfl (lSb rfl lSb0)))) (wh_run (P := fun p11 => lQ R E 1 cd_692 11 [(0, .ref (adr ad 1)), (1, .int v1), (2, .int v2), (3, .int p11.2)] [] (tp ad p11.1 A0) Z) hy1 ?_)
    intro p11 r2 hb2 hI2 hX2
    refine lQ.loadI rfl rfl ?_
    rcases iteC hb2 with ⟨hc, hb2⟩ | ⟨hc, hb2⟩
    · refine lQ.ifF rfl (decide_eq_false (Int32.not_le.mpr hc)) ?_
      refine lQ.loadN rfl rfl ?_
      refine lQ.get hR rfl (tf_1_28 hn) ?_
      refine lQ.loadI rfl rfl ?_
      refine lQ.push rfl ?_
      refine lQ.binI rfl ?_
      obtain ⟨x2, hx, hb2⟩ := bindC hb2
      refine lQ.ald hR rfl (ta_66 hn hx) ?_
      refine lQ.loadI rfl rfl ?_
      obtain ⟨y3, hy3, h3⟩ := bindC hb2
      have hJ3 : ∀ v37, y3 = .inl v37 → lQ R E 1 cd_692 37 [(0, .ref (adr ad 1)), (1, .int v1), (2, .int v2), (3, .int p11.2)] [] (tp ad p11.1 A0) Z := by
        rintro v37 rfl
        have h3 := elimC h3
        refine lQ.loadN rfl rfl ?_
        refine lQ.get hR rfl (tf_1_28 hn) ?_
        refine lQ.loadI rfl rfl ?_
        refine lQ.loadN rfl rfl ?_
        refine lQ.get hR rfl (tf_1_28 hn) ?_
        refine lQ.loadI rfl rfl ?_
        refine lQ.push rfl ?_
        refine lQ.binI rfl ?_
        obtain ⟨x5, hx, h3⟩ := bindC h3
        refine lQ.ald hR rfl (ta_66 hn hx) ?_
        obtain ⟨s6, hx, h3⟩ := bindC h3
        refine lQ.ast hR rfl (tw_66 hn hx) ?_
        rintro _ rfl
        refine lQ.loadN rfl rfl ?_
        refine lQ.get hR rfl (tf_1_29 hn) ?_
        refine lQ.loadI rfl rfl ?_
        refine lQ.loadN rfl rfl ?_
        refine lQ.get hR rfl (tf_1_29 hn) ?_
        refine lQ.loadI rfl rfl ?_
        refine lQ.push rfl ?_
        refine lQ.binI rfl ?_
        obtain ⟨x7, hx, h3⟩ := bindC h3
        refine lQ.ald hR rfl (ta_67 hn hx) ?_
        obtain ⟨s8, hx, h3⟩ := bindC h3
        refine lQ.ast hR rfl (tw_67 hn hx) ?_
        rintro _ rfl
        refine lQ.dec rfl rfl (Int32.sub_eq_add_neg p11.2 1).symm (lN2s rfl rfl) ?_
        refine lQ.goto rfl ?_
        obtain rfl := Option.some.inj h3
        exact lQ.sub (lSb rfl (lSb rfl (lSb rfl (lSb rfl lSb0)))) (hI2 _ rfl)
      rcases iteC hy3 with ⟨hc, hy3⟩ | ⟨hc, hy3⟩
      · refine lQ.cmpT rfl (decide_eq_true hc) ?_
        obtain rfl := Option.some.inj hy3
        exact lQ.sub (lSb rfl (lSb rfl (lSb rfl (lSb rfl lSb0)))) (hJ3 _ rfl)
      · refine lQ.cmpF rfl (decide_eq_false hc) ?_
        refine lQ.loadN rfl rfl ?_
        refine lQ.get hR rfl (tf_1_28 hn) ?_
        refine lQ.loadI rfl rfl ?_
        refine lQ.push rfl ?_
        refine lQ.binI rfl ?_
        obtain ⟨x3, hx, hy3⟩ := bindC hy3
        refine lQ.ald hR rfl (ta_66 hn hx) ?_
        refine lQ.loadI rfl rfl ?_
        rcases iteC hy3 with ⟨hc, hy3⟩ | ⟨hc, hy3⟩
        · refine lQ.cmpF rfl (decide_eq_false (fun z => z hc)) ?_
          refine lQ.loadN rfl rfl ?_
          refine lQ.get hR rfl (tf_1_29 hn) ?_
          refine lQ.loadI rfl rfl ?_
          refine lQ.push rfl ?_
          refine lQ.binI rfl ?_
          obtain ⟨x4, hx, hy3⟩ := bindC hy3
          refine lQ.ald hR rfl (ta_67 hn hx) ?_
          refine lQ.loadI rfl rfl ?_
          rcases iteC hy3 with ⟨hc, hy3⟩ | ⟨hc, hy3⟩
          · refine lQ.cmpF rfl (decide_eq_false (Int32.not_le.mpr hc)) ?_
            obtain rfl := Option.some.inj hy3
            exact lQ.sub (lSb rfl (lSb rfl (lSb rfl (lSb rfl lSb0)))) (hJ3 _ rfl)
          · refine lQ.cmpT rfl (decide_eq_true (Int32.not_lt.mp hc)) ?_
            obtain rfl := Option.some.inj hy3
            obtain rfl := elimD h3
            obtain rfl := hX2 _ rfl
            exact lQ.sub (lSb rfl (lSb rfl (lSb rfl (lSb rfl lSb0)))) hJ1
        · refine lQ.cmpT rfl (decide_eq_true hc) ?_
          obtain rfl := Option.some.inj hy3
          obtain rfl := elimD h3
          obtain rfl := hX2 _ rfl
          exact lQ.sub (lSb rfl (lSb rfl (lSb rfl (lSb rfl lSb0)))) hJ1
    · refine lQ.ifT rfl (decide_eq_true (Int32.not_lt.mp hc)) ?_
      obtain rfl := Option.some.inj hb2
      obtain rfl := hX2 _ rfl
      exact lQ.sub (lSb rfl (lSb rfl (lSb rfl (lSb rfl lSb0)))) hJ1
theorem ts_694 {R : lAR} (hR : lRok R) {E : lE} {ad : List Nat} (hn : tOk ad) {v1 : Int32} {v2 : Int32} {v3 : Int32} {s : TS} {A0 : lMem} {x : Int32} (h : t_694 v1 v2 v3 s = some x) {Z : lZ} (hz : Z (.inl (some (.int x))) (tp ad s A0)) : lSQ R E 2 694 [.ref (adr ad 1), .int v1, .int v2, .int v3] (tp ad s A0) Z := by
  refine lQ.sq pg_694 (Nat.le_of_ble_eq_true rfl) rfl ?_
  unfold t_694 at h
  refine lQ.loadI rfl rfl ?_
  refine lQ.loadN rfl rfl ?_
  refine lQ.get hR rfl (tf_1_1 hn) ?_
  refine lQ.loadI rfl rfl ?_
  obtain ⟨x1, hx, h⟩ := bindC h
  refine lQ.ald hR rfl (ta_50 hn hx) ?_
  rcases iteC h with ⟨hc, h⟩ | ⟨hc, h⟩
  · refine lQ.cmpT rfl (decide_eq_true hc) ?_
    refine lQ.push rfl ?_
    obtain rfl := Option.some.inj h
    exact lQ.retI rfl rfl hz
  · refine lQ.cmpF rfl (decide_eq_false hc) ?_
    refine lQ.loadI rfl rfl ?_
    refine lQ.loadN rfl rfl ?_
    refine lQ.loadI rfl rfl ?_
    obtain ⟨x2, hx, h⟩ := bindC h
    refine lQ.callVI (F := (fun y A => x2 = y ∧ A = tp ad s A0)) (G := fun _ _ => False) (args := [.ref (adr ad 1), .int v1]) (r := [.int v2]) hR rfl rfl rfl (Nat.le_of_ble_eq_true rfl) (Nat.le_of_ble_eq_true rfl) rfl (tk_1 hn rfl) (ts_679 hR hn hx (cI_mk ⟨rfl, rfl⟩)) ?_ (fun _ _ _ z => z.elim)
    rintro _ _ ⟨rfl, rfl⟩
    rcases iteC h with ⟨hc, h⟩ | ⟨hc, h⟩
    · refine lQ.cmpT rfl (decide_eq_true hc) ?_
      refine lQ.push rfl ?_
      obtain rfl := Option.some.inj h
      exact lQ.retI rfl rfl hz
    · refine lQ.cmpF rfl (decide_eq_false hc) ?_
      refine lQ.loadI rfl rfl ?_
      refine lQ.loadN rfl rfl ?_
      refine lQ.get hR rfl (tf_1_2 hn) ?_
      refine lQ.loadI rfl rfl ?_
      obtain ⟨x3, hx, h⟩ := bindC h
      refine lQ.ald hR rfl (ta_51 hn hx) ?_
      rcases iteC h with ⟨hc, h⟩ | ⟨hc, h⟩
      · refine lQ.cmpT rfl (decide_eq_true hc) ?_
        refine lQ.push rfl ?_
        obtain rfl := Option.some.inj h
        exact lQ.retI rfl rfl hz
      · refine lQ.cmpF rfl (decide_eq_false hc) ?_
        refine lQ.loadI rfl rfl ?_
        refine lQ.loadN rfl rfl ?_
        refine lQ.loadI rfl rfl ?_
        obtain ⟨x4, hx, h⟩ := bindC h
        refine lQ.callVI (F := (fun y A => x4 = y ∧ A = tp ad s A0)) (G := fun _ _ => False) (args := [.ref (adr ad 1), .int v1]) (r := [.int v3]) hR rfl rfl rfl (Nat.le_of_ble_eq_true rfl) (Nat.le_of_ble_eq_true rfl) rfl (tk_1 hn rfl) (ts_680 hR hn hx (cI_mk ⟨rfl, rfl⟩)) ?_ (fun _ _ _ z => z.elim)
        rintro _ _ ⟨rfl, rfl⟩
        rcases iteC h with ⟨hc, h⟩ | ⟨hc, h⟩
        · refine lQ.cmpT rfl (decide_eq_true hc) ?_
          refine lQ.push rfl ?_
          obtain rfl := Option.some.inj h
          exact lQ.retI rfl rfl hz
        · refine lQ.cmpF rfl (decide_eq_false hc) ?_
          refine lQ.push rfl ?_
          refine lQ.goto rfl ?_
          obtain rfl := Option.some.inj h
          exact lQ.retI rfl rfl hz
theorem ts_691 {R : lAR} (hR : lRok R) {E : lE} {ad : List Nat} (hn : tOk ad) {s : TS} {A0 : lMem} {x : TS} (h : t_691 s = some x) {Z : lZ} (hz : Z (.inl none) (tp ad x A0)) : lSQ R E 3 691 [.ref (adr ad 1)] (tp ad s A0) Z := by
  refine lQ.sq pg_691 (Nat.le_of_ble_eq_true rfl) rfl ?_
  unfold t_691 at h
  refine lQ.loadN rfl rfl ?_
  refine lQ.push rfl ?_
  obtain ⟨s1, hx, h⟩ := bindC h
  refine lQ.put hR rfl rfl (tq_1_27 hn hx) ?_
  rintro _ rfl
  refine lQ.push rfl ?_
  refine lQ.stI rfl (lN2s rfl rfl) ?_
  obtain ⟨v81, hy1, h1⟩ := bindC h
  have hJ1 : lQ R E 2 cd_691 81 [(0, .ref (adr ad 1))] [] (tp ad v81 A0) Z := by
    refine lQ.loadN rfl rfl ?_
    refine lQ.push rfl ?_
    obtain ⟨s19, hx, h1⟩ := bindC h1
    refine lQ.put hR rfl rfl (tq_1_30 hn hx) ?_
    rintro _ rfl
    refine lQ.push rfl ?_
    refine lQ.stI rfl (lN2s rfl rfl) ?_
    obtain ⟨v142, hy2, h2⟩ := bindC h1
    have hJ2 : lQ R E 2 cd_691 142 [] [] (tp ad v142 A0) Z := by
      obtain rfl := Option.some.inj h2
      exact lQ.retV rfl hz
    refine lQ.sub (lSb rfl (lSb rfl lSb0)) (wh_run (P := fun p86 => lQ R E 2 cd_691 86 [(0, .ref (adr ad 1)), (1, .int p86.2)] [] (tp ad p86.1 A0) Z) hy2 ?_)
    intro p86 r3 hb3 hI3 hX3
    refine lQ.loadI rfl rfl ?_
    refine lQ.loadN rfl rfl ?_
    refine lQ.get hR rfl (tf_1_0 hn) ?_
    rcases iteC hb3 with ⟨hc, hb3⟩ | ⟨hc, hb3⟩
    · refine lQ.cmpF rfl (decide_eq_false (Int32.not_le.mpr hc)) ?_
      refine lQ.push rfl ?_
      refine lQ.stI rfl (lN2s rfl rfl) ?_
      refine lQ.push rfl ?_
      refine lQ.stI rfl (lN2s rfl rfl) ?_
      obtain ⟨v140, hy4, h4⟩ := bindC hb3
      have hJ4 : lQ R E 2 cd_691 140 [(0, .ref (adr ad 1)), (1, .int p86.2)] [] (tp ad v140 A0) Z := by
        refine lQ.inc rfl rfl (lN2s rfl rfl) ?_
        refine lQ.goto rfl ?_
        obtain rfl := Option.some.inj h4
        exact lQ.sub (lSb rfl (lSb rfl lSb0)) (hI3 _ rfl)
      refine lQ.sub (lSb rfl (lSb rfl (lSb rfl (lSb rfl lSb0)))) (wh_run (P := fun p94 => lQ R E 2 cd_691 94 [(0, .ref (adr ad 1)), (1, .int p86.2), (2, .int p94.2.1), (3, .int p94.2.2)] [] (tp ad p94.1 A0) Z) hy4 ?_)
      intro p94 r5 hb5 hI5 hX5
      refine lQ.loadI rfl rfl ?_
      refine lQ.loadN rfl rfl ?_
      refine lQ.get hR rfl (tf_1_27 hn) ?_
      rcases iteC hb5 with ⟨hc, hb5⟩ | ⟨hc, hb5⟩
      · refine lQ.cmpF rfl (decide_eq_false (Int32.not_le.mpr hc)) ?_
        refine lQ.loadN rfl rfl ?_
        refine lQ.loadI rfl rfl ?_
        refine lQ.loadN rfl rfl ?_
        refine lQ.get hR rfl (tf_1_28 hn) ?_
        refine lQ.loadI rfl rfl ?_
        obtain ⟨x20, hx, hb5⟩ := bindC hb5
        refine lQ.ald hR rfl (ta_66 hn hx) ?_
        refine lQ.loadN rfl rfl ?_
        refine lQ.get hR rfl (tf_1_29 hn) ?_
        refine lQ.loadI rfl rfl ?_
        obtain ⟨x21, hx, hb5⟩ := bindC hb5
        refine lQ.ald hR rfl (ta_67 hn hx) ?_
        obtain ⟨x22, hx, hb5⟩ := bindC hb5
        refine lQ.callVI (F := (fun y A => x22 = y ∧ A = tp ad p94.1 A0)) (G := fun _ _ => False) (args := [.ref (adr ad 1), .int p86.2, .int x20, .int x21]) (r := []) hR rfl rfl rfl (Nat.le_of_ble_eq_true rfl) (Nat.le_of_ble_eq_true rfl) rfl (tk_1 hn rfl) (ts_694 hR hn hx (cI_mk ⟨rfl, rfl⟩)) ?_ (fun _ _ _ z => z.elim)
        rintro _ _ ⟨rfl, rfl⟩
        obtain ⟨v138, hy6, h6⟩ := bindC hb5
        have hJ6 : lQ R E 2 cd_691 138 [(0, .ref (adr ad 1)), (1, .int p86.2), (2, .int v138.2), (3, .int p94.2.2)] [] (tp ad v138.1 A0) Z := by
          refine lQ.inc rfl rfl (lN2s rfl rfl) ?_
          refine lQ.goto rfl ?_
          obtain rfl := Option.some.inj h6
          exact lQ.sub (lSb rfl (lSb rfl (lSb rfl (lSb rfl lSb0)))) (hI5 _ rfl)
        rcases iteC hy6 with ⟨hc, hy6⟩ | ⟨hc, hy6⟩
        · refine lQ.ifT rfl (decide_eq_true hc) ?_
          obtain rfl := Option.some.inj hy6
          exact lQ.sub (lSb rfl (lSb rfl (lSb rfl (lSb rfl lSb0)))) hJ6
        · refine lQ.ifF rfl (decide_eq_false hc) ?_
          refine lQ.loadI rfl rfl ?_
          obtain ⟨v136, hy7, h7⟩ := bindC hy6
          have hJ7 : lQ R E 2 cd_691 136 [(0, .ref (adr ad 1)), (1, .int p86.2), (3, .int p94.2.2)] [] (tp ad v136 A0) Z := by
            refine lQ.loadI rfl rfl ?_
            refine lQ.stI rfl (lN2s rfl rfl) ?_
            obtain rfl := Option.some.inj h7
            exact lQ.sub (lSb rfl (lSb rfl (lSb rfl (lSb rfl lSb0)))) hJ6
          rcases iteC hy7 with ⟨hc, hy7⟩ | ⟨hc, hy7⟩
          · refine lQ.ifT rfl (decide_eq_true hc) ?_
            obtain rfl := Option.some.inj hy7
            exact lQ.sub (lSb rfl (lSb rfl (lSb rfl lSb0))) hJ7
          · refine lQ.ifF rfl (decide_eq_false hc) ?_
            refine lQ.loadN rfl rfl ?_
            refine lQ.get hR rfl (tf_1_31 hn) ?_
            refine lQ.loadN rfl rfl ?_
            refine lQ.get hR rfl (tf_1_30 hn) ?_
            refine lQ.loadI rfl rfl ?_
            obtain ⟨s23, hx, hy7⟩ := bindC hy7
            refine lQ.ast hR rfl (tw_68 hn hx) ?_
            rintro _ rfl
            refine lQ.loadN rfl rfl ?_
            refine lQ.get hR rfl (tf_1_32 hn) ?_
            refine lQ.loadN rfl rfl ?_
            refine lQ.get hR rfl (tf_1_30 hn) ?_
            refine lQ.loadI rfl rfl ?_
            obtain ⟨s24, hx, hy7⟩ := bindC hy7
            refine lQ.ast hR rfl (tw_69 hn hx) ?_
            rintro _ rfl
            refine lQ.loadN rfl rfl ?_
            refine lQ.get hR rfl (tf_1_33 hn) ?_
            refine lQ.loadN rfl rfl ?_
            refine lQ.get hR rfl (tf_1_30 hn) ?_
            refine lQ.loadI rfl rfl ?_
            obtain ⟨s25, hx, hy7⟩ := bindC hy7
            refine lQ.ast hR rfl (tw_70 hn hx) ?_
            rintro _ rfl
            refine lQ.loadN rfl rfl ?_
            refine lQ.dupN rfl ?_
            refine lQ.get hR rfl (tf_1_30 hn) ?_
            refine lQ.push rfl ?_
            refine lQ.binI rfl ?_
            obtain ⟨s26, hx, hy7⟩ := bindC hy7
            refine lQ.put hR rfl rfl (tq_1_30 hn hx) ?_
            rintro _ rfl
            obtain rfl := Option.some.inj hy7
            exact lQ.sub (lSb rfl (lSb rfl (lSb rfl lSb0))) hJ7
      · refine lQ.cmpT rfl (decide_eq_true (Int32.not_lt.mp hc)) ?_
        obtain rfl := Option.some.inj hb5
        obtain rfl := hX5 _ rfl
        exact lQ.sub (lSb rfl (lSb rfl lSb0)) hJ4
    · refine lQ.cmpT rfl (decide_eq_true (Int32.not_lt.mp hc)) ?_
      obtain rfl := Option.some.inj hb3
      obtain rfl := hX3 _ rfl
      exact lQ.sub lSb0 hJ2
  refine lQ.sub (lSb rfl (lSb rfl lSb0)) (wh_run (P := fun p5 => lQ R E 2 cd_691 5 [(0, .ref (adr ad 1)), (1, .int p5.2)] [] (tp ad p5.1 A0) Z) hy1 ?_)
  intro p5 r8 hb8 hI8 hX8
  refine lQ.loadI rfl rfl ?_
  refine lQ.loadN rfl rfl ?_
  refine lQ.get hR rfl (tf_1_0 hn) ?_
  rcases iteC hb8 with ⟨hc, hb8⟩ | ⟨hc, hb8⟩
  · refine lQ.cmpF rfl (decide_eq_false (Int32.not_le.mpr hc)) ?_
    refine lQ.loadN rfl rfl ?_
    refine lQ.loadN rfl rfl ?_
    refine lQ.get hR rfl (tf_1_1 hn) ?_
    refine lQ.loadI rfl rfl ?_
    obtain ⟨x2, hx, hb8⟩ := bindC hb8
    refine lQ.ald hR rfl (ta_50 hn hx) ?_
    refine lQ.loadN rfl rfl ?_
    refine lQ.get hR rfl (tf_1_2 hn) ?_
    refine lQ.loadI rfl rfl ?_
    obtain ⟨x3, hx, hb8⟩ := bindC hb8
    refine lQ.ald hR rfl (ta_51 hn hx) ?_
    obtain ⟨x4, hx, hb8⟩ := bindC hb8
    refine lQ.callVV (F := (fun A => A = tp ad x4 A0)) (G := fun _ _ => False) (args := [.ref (adr ad 1), .int x2, .int x3]) (r := []) hR rfl rfl rfl (Nat.le_of_ble_eq_true rfl) (Nat.le_of_ble_eq_true rfl) rfl (tk_1 hn rfl) (ts_692 hR hn hx (cV_mk rfl)) ?_ (fun _ _ _ z => z.elim)
    rintro _ rfl
    refine lQ.loadN rfl rfl ?_
    refine lQ.loadN rfl rfl ?_
    refine lQ.loadI rfl rfl ?_
    obtain ⟨x5, hx, hb8⟩ := bindC hb8
    refine lQ.callVI (F := (fun y A => x5 = y ∧ A = tp ad x4 A0)) (G := fun _ _ => False) (args := [.ref (adr ad 1), .int p5.2]) (r := [.ref (adr ad 1)]) hR rfl rfl rfl (Nat.le_of_ble_eq_true rfl) (Nat.le_of_ble_eq_true rfl) rfl (tk_1 hn rfl) (ts_679 hR hn hx (cI_mk ⟨rfl, rfl⟩)) ?_ (fun _ _ _ z => z.elim)
    rintro _ _ ⟨rfl, rfl⟩
    refine lQ.loadN rfl rfl ?_
    refine lQ.loadI rfl rfl ?_
    obtain ⟨x6, hx, hb8⟩ := bindC hb8
    refine lQ.callVI (F := (fun y A => x6 = y ∧ A = tp ad x4 A0)) (G := fun _ _ => False) (args := [.ref (adr ad 1), .int p5.2]) (r := [.int x5, .ref (adr ad 1)]) hR rfl rfl rfl (Nat.le_of_ble_eq_true rfl) (Nat.le_of_ble_eq_true rfl) rfl (tk_1 hn rfl) (ts_680 hR hn hx (cI_mk ⟨rfl, rfl⟩)) ?_ (fun _ _ _ z => z.elim)
    rintro _ _ ⟨rfl, rfl⟩
    obtain ⟨x7, hx, hb8⟩ := bindC hb8
    refine lQ.callVV (F := (fun A => A = tp ad x7 A0)) (G := fun _ _ => False) (args := [.ref (adr ad 1), .int x5, .int x6]) (r := []) hR rfl rfl rfl (Nat.le_of_ble_eq_true rfl) (Nat.le_of_ble_eq_true rfl) rfl (tk_1 hn rfl) (ts_692 hR hn hx (cV_mk rfl)) ?_ (fun _ _ _ z => z.elim)
    rintro _ rfl
    refine lQ.push rfl ?_
    refine lQ.stI rfl (lN2s rfl rfl) ?_
    obtain ⟨v79, hy9, h9⟩ := bindC hb8
    have hJ9 : lQ R E 2 cd_691 79 [(0, .ref (adr ad 1)), (1, .int p5.2)] [] (tp ad v79 A0) Z := by
      refine lQ.inc rfl rfl (lN2s rfl rfl) ?_
      refine lQ.goto rfl ?_
      obtain rfl := Option.some.inj h9
      exact lQ.sub (lSb rfl (lSb rfl lSb0)) (hI8 _ rfl)
    refine lQ.sub (lSb rfl (lSb rfl (lSb rfl lSb0))) (wh_run (P := fun p29 => lQ R E 2 cd_691 29 [(0, .ref (adr ad 1)), (1, .int p5.2), (2, .int p29.2)] [] (tp ad p29.1 A0) Z) hy9 ?_)
    intro p29 r10 hb10 hI10 hX10
    refine lQ.loadI rfl rfl ?_
    refine lQ.loadN rfl rfl ?_
    refine lQ.get hR rfl (tf_1_0 hn) ?_
    rcases iteC hb10 with ⟨hc, hb10⟩ | ⟨hc, hb10⟩
    · refine lQ.cmpF rfl (decide_eq_false (Int32.not_le.mpr hc)) ?_
      refine lQ.loadN rfl rfl ?_
      refine lQ.get hR rfl (tf_1_3 hn) ?_
      refine lQ.loadI rfl rfl ?_
      obtain ⟨x8, hx, hb10⟩ := bindC hb10
      refine lQ.ald hR rfl (ta_52 hn hx) ?_
      obtain ⟨v77, hy11, h11⟩ := bindC hb10
      have hJ11 : lQ R E 2 cd_691 77 [(0, .ref (adr ad 1)), (1, .int p5.2), (2, .int p29.2)] [] (tp ad v77 A0) Z := by
        refine lQ.inc rfl rfl (lN2s rfl rfl) ?_
        refine lQ.goto rfl ?_
        obtain rfl := Option.some.inj h11
        exact lQ.sub (lSb rfl (lSb rfl (lSb rfl lSb0))) (hI10 _ rfl)
      rcases iteC hy11 with ⟨hc, hy11⟩ | ⟨hc, hy11⟩
      · refine lQ.ifT rfl (decide_eq_true hc) ?_
        obtain rfl := Option.some.inj hy11
        exact lQ.sub (lSb rfl (lSb rfl (lSb rfl lSb0))) hJ11
      · refine lQ.ifF rfl (decide_eq_false hc) ?_
        refine lQ.loadN rfl rfl ?_
        refine lQ.get hR rfl (tf_1_3 hn) ?_
        refine lQ.loadI rfl rfl ?_
        obtain ⟨x9, hx, hy11⟩ := bindC hy11
        refine lQ.ald hR rfl (ta_52 hn hx) ?_
        rcases iteC hy11 with ⟨hc, hy11⟩ | ⟨hc, hy11⟩
        · refine lQ.ifF rfl (decide_eq_false (fun z => z hc)) ?_
          refine lQ.loadN rfl rfl ?_
          refine lQ.loadI rfl rfl ?_
          refine lQ.loadN rfl rfl ?_
          refine lQ.get hR rfl (tf_1_1 hn) ?_
          refine lQ.loadI rfl rfl ?_
          obtain ⟨x10, hx, hy11⟩ := bindC hy11
          refine lQ.ald hR rfl (ta_50 hn hx) ?_
          refine lQ.loadN rfl rfl ?_
          refine lQ.get hR rfl (tf_1_2 hn) ?_
          refine lQ.loadI rfl rfl ?_
          obtain ⟨x11, hx, hy11⟩ := bindC hy11
          refine lQ.ald hR rfl (ta_51 hn hx) ?_
          obtain ⟨x12, hx, hy11⟩ := bindC hy11
          refine lQ.callVI (F := (fun y A => x12 = y ∧ A = tp ad p29.1 A0)) (G := fun _ _ => False) (args := [.ref (adr ad 1), .int p5.2, .int x10, .int x11]) (r := []) hR rfl rfl rfl (Nat.le_of_ble_eq_true rfl) (Nat.le_of_ble_eq_true rfl) rfl (tk_1 hn rfl) (ts_694 hR hn hx (cI_mk ⟨rfl, rfl⟩)) ?_ (fun _ _ _ z => z.elim)
          rintro _ _ ⟨rfl, rfl⟩
          rcases iteC hy11 with ⟨hc, hy11⟩ | ⟨hc, hy11⟩
          · refine lQ.ifT rfl (decide_eq_true hc) ?_
            obtain rfl := Option.some.inj hy11
            exact lQ.sub (lSb rfl (lSb rfl (lSb rfl lSb0))) hJ11
          · refine lQ.ifF rfl (decide_eq_false hc) ?_
            refine lQ.loadN rfl rfl ?_
            refine lQ.loadI rfl rfl ?_
            refine lQ.loadN rfl rfl ?_
            refine lQ.get hR rfl (tf_1_1 hn) ?_
            refine lQ.loadI rfl rfl ?_
            obtain ⟨x13, hx, hy11⟩ := bindC hy11
            refine lQ.ald hR rfl (ta_50 hn hx) ?_
            refine lQ.loadN rfl rfl ?_
            refine lQ.get hR rfl (tf_1_2 hn) ?_
            refine lQ.loadI rfl rfl ?_
            obtain ⟨x14, hx, hy11⟩ := bindC hy11
            refine lQ.ald hR rfl (ta_51 hn hx) ?_
            obtain ⟨x15, hx, hy11⟩ := bindC hy11
            refine lQ.callVI (F := (fun y A => x15 = y ∧ A = tp ad p29.1 A0)) (G := fun _ _ => False) (args := [.ref (adr ad 1), .int p29.2, .int x13, .int x14]) (r := []) hR rfl rfl rfl (Nat.le_of_ble_eq_true rfl) (Nat.le_of_ble_eq_true rfl) rfl (tk_1 hn rfl) (ts_694 hR hn hx (cI_mk ⟨rfl, rfl⟩)) ?_ (fun _ _ _ z => z.elim)
            rintro _ _ ⟨rfl, rfl⟩
            rcases iteC hy11 with ⟨hc, hy11⟩ | ⟨hc, hy11⟩
            · refine lQ.ifT rfl (decide_eq_true hc) ?_
              obtain rfl := Option.some.inj hy11
              exact lQ.sub (lSb rfl (lSb rfl (lSb rfl lSb0))) hJ11
            · refine lQ.ifF rfl (decide_eq_false hc) ?_
              refine lQ.loadN rfl rfl ?_
              refine lQ.loadN rfl rfl ?_
              refine lQ.get hR rfl (tf_1_1 hn) ?_
              refine lQ.loadI rfl rfl ?_
              obtain ⟨x16, hx, hy11⟩ := bindC hy11
              refine lQ.ald hR rfl (ta_50 hn hx) ?_
              refine lQ.loadN rfl rfl ?_
              refine lQ.get hR rfl (tf_1_2 hn) ?_
              refine lQ.loadI rfl rfl ?_
              obtain ⟨x17, hx, hy11⟩ := bindC hy11
              refine lQ.ald hR rfl (ta_51 hn hx) ?_
              obtain ⟨x18, hx, hy11⟩ := bindC hy11
              refine lQ.callVV (F := (fun A => A = tp ad x18 A0)) (G := fun _ _ => False) (args := [.ref (adr ad 1), .int x16, .int x17]) (r := []) hR rfl rfl rfl (Nat.le_of_ble_eq_true rfl) (Nat.le_of_ble_eq_true rfl) rfl (tk_1 hn rfl) (ts_692 hR hn hx (cV_mk rfl)) ?_ (fun _ _ _ z => z.elim)
              rintro _ rfl
              obtain rfl := Option.some.inj hy11
              exact lQ.sub (lSb rfl (lSb rfl (lSb rfl lSb0))) hJ11
        · refine lQ.ifT rfl (decide_eq_true hc) ?_
          obtain rfl := Option.some.inj hy11
          exact lQ.sub (lSb rfl (lSb rfl (lSb rfl lSb0))) hJ11
    · refine lQ.cmpT rfl (decide_eq_true (Int32.not_lt.mp hc)) ?_
      obtain rfl := Option.some.inj hb10
      obtain rfl := hX10 _ rfl
      exact lQ.sub (lSb rfl (lSb rfl lSb0)) hJ9
  · refine lQ.cmpT rfl (decide_eq_true (Int32.not_lt.mp hc)) ?_
    obtain rfl := Option.some.inj hb8
    obtain rfl := hX8 _ rfl
    exact lQ.sub (lSb rfl lSb0) hJ1
theorem ts_697 {R : lAR} (hR : lRok R) {E : lE} {ad : List Nat} (hn : tOk ad) {v1 : Int32} {s : TS} {A0 : lMem} {x : Int32} (h : t_697 v1 s = some x) {Z : lZ} (hz : Z (.inl (some (.int x))) (tp ad s A0)) : lSQ R E 1 697 [.ref (adr ad 1), .int v1] (tp ad s A0) Z := by
  refine lQ.sq pg_697 (Nat.le_of_ble_eq_true rfl) rfl ?_
  unfold t_697 at h
  refine lQ.loadI rfl rfl ?_
  refine lQ.push rfl ?_
  refine lQ.divI rfl (by decide) ?_
  rcases iteC h with ⟨hc, h⟩ | ⟨hc, h⟩
  · refine lQ.ifF rfl (decide_eq_false (fun z => z hc)) ?_
    refine lQ.loadN rfl rfl ?_
    refine lQ.get hR rfl (tf_1_32 hn) ?_
    refine lQ.loadI rfl rfl ?_
    refine lQ.push rfl ?_
    refine lQ.divI rfl (by decide) ?_
    obtain ⟨x2, hx, h⟩ := bindC h
    refine lQ.ald hR rfl (ta_69 hn hx) ?_
    refine lQ.goto rfl ?_
    obtain rfl := Option.some.inj h
    exact lQ.retI rfl rfl hz
  · refine lQ.ifT rfl (decide_eq_true hc) ?_
    refine lQ.loadN rfl rfl ?_
    refine lQ.get hR rfl (tf_1_33 hn) ?_
    refine lQ.loadI rfl rfl ?_
    refine lQ.push rfl ?_
    refine lQ.divI rfl (by decide) ?_
    obtain ⟨x1, hx, h⟩ := bindC h
    refine lQ.ald hR rfl (ta_70 hn hx) ?_
    obtain rfl := Option.some.inj h
    exact lQ.retI rfl rfl hz
theorem ts_698 {R : lAR} (hR : lRok R) {E : lE} {ad : List Nat} (hn : tOk ad) {v1 : Int32} {s : TS} {A0 : lMem} {x : Int32} (h : t_698 v1 s = some x) {Z : lZ} (hz : Z (.inl (some (.int x))) (tp ad s A0)) : lSQ R E 1 698 [.ref (adr ad 1), .int v1] (tp ad s A0) Z := by
  refine lQ.sq pg_698 (Nat.le_of_ble_eq_true rfl) rfl ?_
  unfold t_698 at h
  refine lQ.loadN rfl rfl ?_
  refine lQ.get hR rfl (tf_1_3 hn) ?_
  refine lQ.loadN rfl rfl ?_
  refine lQ.get hR rfl (tf_1_31 hn) ?_
  refine lQ.loadI rfl rfl ?_
  refine lQ.push rfl ?_
  refine lQ.divI rfl (by decide) ?_
  obtain ⟨x1, hx, h⟩ := bindC h
  refine lQ.ald hR rfl (ta_68 hn hx) ?_
  obtain ⟨x2, hx, h⟩ := bindC h
  refine lQ.ald hR rfl (ta_52 hn hx) ?_
  obtain ⟨v13, hy1, h1⟩ := bindC h
  have hJ1 : lQ R E 0 cd_698 13 [(1, .int v1)] [.int v13] (tp ad s A0) Z := by
    refine lQ.push rfl ?_
    refine lQ.loadI rfl rfl ?_
    refine lQ.push rfl ?_
    refine lQ.divI rfl (by decide) ?_
    refine lQ.binI rfl ?_
    refine lQ.binI rfl ?_
    obtain rfl := Option.some.inj h1
    exact lQ.retI rfl rfl hz
  rcases iteC hy1 with ⟨hc, hy1⟩ | ⟨hc, hy1⟩
  · refine lQ.ifT rfl (decide_eq_true hc) ?_
    refine lQ.push rfl ?_
    obtain rfl := Option.some.inj hy1
    exact lQ.sub (lSb rfl lSb0) hJ1
  · refine lQ.ifF rfl (decide_eq_false hc) ?_
    refine lQ.push rfl ?_
    refine lQ.goto rfl ?_
    obtain rfl := Option.some.inj hy1
    exact lQ.sub (lSb rfl lSb0) hJ1
theorem ts_696 {R : lAR} (hR : lRok R) {E : lE} {ad : List Nat} (hn : tOk ad) {v1 : Int32} {v2 : Int32} {s : TS} {A0 : lMem} {x : Int32} (h : t_696 v1 v2 s = some x) {Z : lZ} (hz : Z (.inl (some (.int x))) (tp ad s A0)) : lSQ R E 2 696 [.ref (adr ad 1), .int v1, .int v2] (tp ad s A0) Z := by
  refine lQ.sq pg_696 (Nat.le_of_ble_eq_true rfl) rfl ?_
  unfold t_696 at h
  refine lQ.push rfl ?_
  refine lQ.stI rfl (lN2s rfl rfl) ?_
  refine lQ.push rfl ?_
  refine lQ.stI rfl (lN2s rfl rfl) ?_
  obtain ⟨v26, hy1, h1⟩ := bindC h
  have hJ1 : lQ R E 1 cd_696 26 [(3, .int v26)] [] (tp ad s A0) Z := by
    refine lQ.loadI rfl rfl ?_
    obtain rfl := Option.some.inj h1
    exact lQ.retI rfl rfl hz
  refine lQ.sub (lSb rfl (lSb rfl (lSb rfl (lSb rfl (lSb rfl lSb0))))) (wh_run (P := fun p4 => lQ R E 1 cd_696 4 [(0, .ref (adr ad 1)), (1, .int v1), (2, .int v2), (3, .int p4.1), (4, .int p4.2)] [] (tp ad s A0) Z) hy1 ?_)
  intro p4 r2 hb2 hI2 hX2
  refine lQ.loadI rfl rfl ?_
  refine lQ.push rfl ?_
  refine lQ.loadN rfl rfl ?_
  refine lQ.get hR rfl (tf_1_30 hn) ?_
  refine lQ.binI rfl ?_
  rcases iteC hb2 with ⟨hc, hb2⟩ | ⟨hc, hb2⟩
  · refine lQ.cmpF rfl (decide_eq_false (Int32.not_le.mpr hc)) ?_
    refine lQ.loadN rfl rfl ?_
    refine lQ.loadI rfl rfl ?_
    obtain ⟨x1, hx, hb2⟩ := bindC hb2
    refine lQ.callVI (F := (fun y A => x1 = y ∧ A = tp ad s A0)) (G := fun _ _ => False) (args := [.ref (adr ad 1), .int p4.2]) (r := []) hR rfl rfl rfl (Nat.le_of_ble_eq_true rfl) (Nat.le_of_ble_eq_true rfl) rfl (tk_1 hn rfl) (ts_697 hR hn hx (cI_mk ⟨rfl, rfl⟩)) ?_ (fun _ _ _ z => z.elim)
    rintro _ _ ⟨rfl, rfl⟩
    refine lQ.loadI rfl rfl ?_
    obtain ⟨v23, hy3, h3⟩ := bindC hb2
    have hJ3 : lQ R E 1 cd_696 23 [(0, .ref (adr ad 1)), (1, .int v1), (2, .int v2), (4, .int p4.2)] [.int v23] (tp ad s A0) Z := by
      refine lQ.stI rfl (lN2s rfl rfl) ?_
      refine lQ.inc rfl rfl (lN2s rfl rfl) ?_
      refine lQ.goto rfl ?_
      obtain rfl := Option.some.inj h3
      exact lQ.sub (lSb rfl (lSb rfl (lSb rfl (lSb rfl (lSb rfl lSb0))))) (hI2 _ rfl)
    obtain ⟨y4, hy4, h4⟩ := bindC hy3
    have hJ4 : ∀ v22, y4 = .inl v22 → lQ R E 1 cd_696 22 [(0, .ref (adr ad 1)), (1, .int v1), (2, .int v2), (3, .int p4.1), (4, .int p4.2)] [] (tp ad s A0) Z := by
      rintro v22 rfl
      have h4 := elimC h4
      refine lQ.loadI rfl rfl ?_
      obtain rfl := Option.some.inj h4
      exact lQ.sub (lSb rfl (lSb rfl (lSb rfl (lSb rfl lSb0)))) hJ3
    rcases iteC hy4 with ⟨hc, hy4⟩ | ⟨hc, hy4⟩
    · refine lQ.cmpF rfl (decide_eq_false (fun z => z hc)) ?_
      refine lQ.loadN rfl rfl ?_
      refine lQ.loadI rfl rfl ?_
      obtain ⟨x2, hx, hy4⟩ := bindC hy4
      refine lQ.callVI (F := (fun y A => x2 = y ∧ A = tp ad s A0)) (G := fun _ _ => False) (args := [.ref (adr ad 1), .int p4.2]) (r := []) hR rfl rfl rfl (Nat.le_of_ble_eq_true rfl) (Nat.le_of_ble_eq_true rfl) rfl (tk_1 hn rfl) (ts_698 hR hn hx (cI_mk ⟨rfl, rfl⟩)) ?_ (fun _ _ _ z => z.elim)
      rintro _ _ ⟨rfl, rfl⟩
      refine lQ.loadI rfl rfl ?_
      rcases iteC hy4 with ⟨hc, hy4⟩ | ⟨hc, hy4⟩
      · refine lQ.cmpF rfl (decide_eq_false (fun z => z hc)) ?_
        refine lQ.loadI rfl rfl ?_
        refine lQ.goto rfl ?_
        obtain rfl := Option.some.inj hy4
        obtain rfl := elimD h4
        exact lQ.sub (lSb rfl (lSb rfl (lSb rfl (lSb rfl lSb0)))) hJ3
      · refine lQ.cmpT rfl (decide_eq_true hc) ?_
        obtain rfl := Option.some.inj hy4
        exact lQ.sub (lSb rfl (lSb rfl (lSb rfl (lSb rfl (lSb rfl lSb0))))) (hJ4 _ rfl)
    · refine lQ.cmpT rfl (decide_eq_true hc) ?_
      obtain rfl := Option.some.inj hy4
      exact lQ.sub (lSb rfl (lSb rfl (lSb rfl (lSb rfl (lSb rfl lSb0))))) (hJ4 _ rfl)
  · refine lQ.cmpT rfl (decide_eq_true (Int32.not_lt.mp hc)) ?_
    obtain rfl := Option.some.inj hb2
    obtain rfl := hX2 _ rfl
    exact lQ.sub (lSb rfl lSb0) hJ1
theorem ts_700 {R : lAR} (hR : lRok R) {E : lE} {ad : List Nat} (hn : tOk ad) {v1 : Int32} {s : TS} {A0 : lMem} {x : Int32} (h : t_700 v1 s = some x) {Z : lZ} (hz : Z (.inl (some (.int x))) (tp ad s A0)) : lSQ R E 1 700 [.ref (adr ad 1), .int v1] (tp ad s A0) Z := by
  refine lQ.sq pg_700 (Nat.le_of_ble_eq_true rfl) rfl ?_
  unfold t_700 at h
  refine lQ.loadI rfl rfl ?_
  refine lQ.push rfl ?_
  refine lQ.divI rfl (by decide) ?_
  rcases iteC h with ⟨hc, h⟩ | ⟨hc, h⟩
  · refine lQ.ifF rfl (decide_eq_false (fun z => z hc)) ?_
    refine lQ.loadN rfl rfl ?_
    refine lQ.get hR rfl (tf_1_33 hn) ?_
    refine lQ.loadI rfl rfl ?_
    refine lQ.push rfl ?_
    refine lQ.divI rfl (by decide) ?_
    obtain ⟨x2, hx, h⟩ := bindC h
    refine lQ.ald hR rfl (ta_70 hn hx) ?_
    refine lQ.goto rfl ?_
    obtain rfl := Option.some.inj h
    exact lQ.retI rfl rfl hz
  · refine lQ.ifT rfl (decide_eq_true hc) ?_
    refine lQ.loadN rfl rfl ?_
    refine lQ.get hR rfl (tf_1_32 hn) ?_
    refine lQ.loadI rfl rfl ?_
    refine lQ.push rfl ?_
    refine lQ.divI rfl (by decide) ?_
    obtain ⟨x1, hx, h⟩ := bindC h
    refine lQ.ald hR rfl (ta_69 hn hx) ?_
    obtain rfl := Option.some.inj h
    exact lQ.retI rfl rfl hz
theorem ts_699 {R : lAR} (hR : lRok R) {E : lE} {ad : List Nat} (hn : tOk ad) {v1 : Int32} {s : TS} {A0 : lMem} {x : Int32} (h : t_699 v1 s = some x) {Z : lZ} (hz : Z (.inl (some (.int x))) (tp ad s A0)) : lSQ R E 3 699 [.ref (adr ad 1), .int v1] (tp ad s A0) Z := by
  refine lQ.sq pg_699 (Nat.le_of_ble_eq_true rfl) rfl ?_
  unfold t_699 at h
  refine lQ.push rfl ?_
  refine lQ.stI rfl (lN2s rfl rfl) ?_
  refine lQ.push rfl ?_
  refine lQ.stI rfl (lN2s rfl rfl) ?_
  obtain ⟨v26, hy1, h1⟩ := bindC h
  have hJ1 : lQ R E 2 cd_699 26 [(2, .int v26)] [] (tp ad s A0) Z := by
    refine lQ.loadI rfl rfl ?_
    obtain rfl := Option.some.inj h1
    exact lQ.retI rfl rfl hz
  refine lQ.sub (lSb rfl (lSb rfl (lSb rfl (lSb rfl lSb0)))) (wh_run (P := fun p4 => lQ R E 2 cd_699 4 [(0, .ref (adr ad 1)), (1, .int v1), (2, .int p4.1), (3, .int p4.2)] [] (tp ad s A0) Z) hy1 ?_)
  intro p4 r2 hb2 hI2 hX2
  refine lQ.loadI rfl rfl ?_
  refine lQ.push rfl ?_
  rcases iteC hb2 with ⟨hc, hb2⟩ | ⟨hc, hb2⟩
  · refine lQ.cmpF rfl (decide_eq_false (Int32.not_le.mpr hc)) ?_
    refine lQ.loadI rfl rfl ?_
    rcases iteC hb2 with ⟨hc, hb2⟩ | ⟨hc, hb2⟩
    · refine lQ.ifF rfl (decide_eq_false (Int32.not_le.mpr hc)) ?_
      refine lQ.loadN rfl rfl ?_
      refine lQ.loadN rfl rfl ?_
      refine lQ.loadI rfl rfl ?_
      obtain ⟨x1, hx, hb2⟩ := bindC hb2
      refine lQ.callVI (F := (fun y A => x1 = y ∧ A = tp ad s A0)) (G := fun _ _ => False) (args := [.ref (adr ad 1), .int v1]) (r := [.ref (adr ad 1)]) hR rfl rfl rfl (Nat.le_of_ble_eq_true rfl) (Nat.le_of_ble_eq_true rfl) rfl (tk_1 hn rfl) (ts_700 hR hn hx (cI_mk ⟨rfl, rfl⟩)) ?_ (fun _ _ _ z => z.elim)
      rintro _ _ ⟨rfl, rfl⟩
      refine lQ.loadN rfl rfl ?_
      refine lQ.loadI rfl rfl ?_
      obtain ⟨x2, hx, hb2⟩ := bindC hb2
      refine lQ.callVI (F := (fun y A => x2 = y ∧ A = tp ad s A0)) (G := fun _ _ => False) (args := [.ref (adr ad 1), .int v1]) (r := [.int x1, .ref (adr ad 1)]) hR rfl rfl rfl (Nat.le_of_ble_eq_true rfl) (Nat.le_of_ble_eq_true rfl) rfl (tk_1 hn rfl) (ts_698 hR hn hx (cI_mk ⟨rfl, rfl⟩)) ?_ (fun _ _ _ z => z.elim)
      rintro _ _ ⟨rfl, rfl⟩
      refine lQ.loadI rfl rfl ?_
      refine lQ.binI rfl ?_
      refine lQ.push rfl ?_
      refine lQ.binI rfl ?_
      refine lQ.push rfl ?_
      refine lQ.divI rfl (by decide) ?_
      obtain ⟨x3, hx, hb2⟩ := bindC hb2
      refine lQ.callVI (F := (fun y A => x3 = y ∧ A = tp ad s A0)) (G := fun _ _ => False) (args := [.ref (adr ad 1), .int x1, .int (((x2 + p4.2) + 4) - ((x2 + p4.2) + 4) / (4 : Int32) * (4 : Int32))]) (r := []) hR rfl rfl rfl (Nat.le_of_ble_eq_true rfl) (Nat.le_of_ble_eq_true rfl) rfl (tk_1 hn rfl) (ts_696 hR hn hx (cI_mk ⟨rfl, rfl⟩)) ?_ (fun _ _ _ z => z.elim)
      rintro _ _ ⟨rfl, rfl⟩
      refine lQ.stI rfl (lN2s rfl rfl) ?_
      refine lQ.dec rfl rfl (Int32.sub_eq_add_neg p4.2 1).symm (lN2s rfl rfl) ?_
      refine lQ.goto rfl ?_
      obtain rfl := Option.some.inj hb2
      exact lQ.sub (lSb rfl (lSb rfl (lSb rfl (lSb rfl lSb0)))) (hI2 _ rfl)
    · refine lQ.ifT rfl (decide_eq_true (Int32.not_lt.mp hc)) ?_
      obtain rfl := Option.some.inj hb2
      obtain rfl := hX2 _ rfl
      exact lQ.sub (lSb rfl lSb0) hJ1
  · refine lQ.cmpT rfl (decide_eq_true (Int32.not_lt.mp hc)) ?_
    obtain rfl := Option.some.inj hb2
    obtain rfl := hX2 _ rfl
    exact lQ.sub (lSb rfl lSb0) hJ1
