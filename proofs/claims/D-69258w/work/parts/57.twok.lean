set_option maxRecDepth 100000
theorem ts_834 {R : lAR} (hR : lRok R) {E : lE} {ad : List Nat} (hn : tOk ad) {v1 : Int32} {s : TS} {A0 : lMem} {x : Int32} (h : t_834 v1 s = some x) {Z : lZ} (hz : Z (.inl (some (.int x))) (tp ad s A0)) : lSQ R E 4 834 [.ref (adr ad 5), .int v1] (tp ad s A0) Z := by
  refine lQ.sq pg_834 (Nat.le_of_ble_eq_true rfl) rfl ?_
  unfold t_834 at h
  refine lQ.loadN rfl rfl ?_
  refine lQ.get hR rfl (tf_5_9 hn) ?_
  refine lQ.loadI rfl rfl ?_
  obtain ⟨x1, hx, h⟩ := bindC h
  refine lQ.ald hR rfl (ta_148 hn hx) ?_
  obtain ⟨v16, hy1, h1⟩ := bindC h
  have hJ1 : lQ R E 3 cd_834 16 [(0, .ref (adr ad 5)), (1, .int v1)] [.int v16] (tp ad s A0) Z := by
    refine lQ.stI rfl (lN2s rfl rfl) ?_
    refine lQ.loadI rfl rfl ?_
    rcases iteC h1 with ⟨hc, h1⟩ | ⟨hc, h1⟩
    · refine lQ.ifT rfl (decide_eq_true hc) ?_
      refine lQ.push rfl ?_
      obtain rfl := Option.some.inj h1
      exact lQ.retI rfl rfl hz
    · refine lQ.ifF rfl (decide_eq_false hc) ?_
      refine lQ.loadN rfl rfl ?_
      refine lQ.get hR rfl (tf_5_11 hn) ?_
      refine lQ.loadI rfl rfl ?_
      obtain ⟨x4, hx, h1⟩ := bindC h1
      refine lQ.ald hR rfl (ta_150 hn hx) ?_
      rcases iteC h1 with ⟨hc, h1⟩ | ⟨hc, h1⟩
      · refine lQ.ifT rfl (decide_eq_true hc) ?_
        refine lQ.push rfl ?_
        refine lQ.goto rfl ?_
        obtain rfl := Option.some.inj h1
        exact lQ.retI rfl rfl hz
      · refine lQ.ifF rfl (decide_eq_false hc) ?_
        refine lQ.loadN rfl rfl ?_
        refine lQ.get hR rfl (tf_5_11 hn) ?_
        refine lQ.loadI rfl rfl ?_
        obtain ⟨x5, hx, h1⟩ := bindC h1
        refine lQ.ald hR rfl (ta_150 hn hx) ?_
        refine lQ.loadN rfl rfl ?_
        refine lQ.get hR rfl (tf_5_12 hn) ?_
        refine lQ.loadI rfl rfl ?_
        obtain ⟨x6, hx, h1⟩ := bindC h1
        refine lQ.ald hR rfl (ta_151 hn hx) ?_
        obtain ⟨x7, hx, h1⟩ := bindC h1
        refine lQ.callI (F := (fun y A => x7 = y ∧ A = tp ad s A0)) (G := fun _ _ => False) (args := [.int x5, .int x6]) (r := []) hR rfl rfl rfl (Nat.le_of_ble_eq_true rfl) (Nat.le_of_ble_eq_true rfl) (ts_836 hR hn hx (cI_mk ⟨rfl, rfl⟩)) ?_ (fun _ _ _ z => z.elim)
        rintro _ _ ⟨rfl, rfl⟩
        rcases iteC h1 with ⟨hc, h1⟩ | ⟨hc, h1⟩
        · refine lQ.ifT rfl (decide_eq_true hc) ?_
          refine lQ.push rfl ?_
          obtain rfl := Option.some.inj h1
          exact lQ.retI rfl rfl hz
        · refine lQ.ifF rfl (decide_eq_false hc) ?_
          refine lQ.push rfl ?_
          refine lQ.goto rfl ?_
          obtain rfl := Option.some.inj h1
          exact lQ.retI rfl rfl hz
  rcases iteC hy1 with ⟨hc, hy1⟩ | ⟨hc, hy1⟩
  · refine lQ.ifT rfl (decide_eq_true hc) ?_
    refine lQ.push rfl ?_
    refine lQ.goto rfl ?_
    obtain rfl := Option.some.inj hy1
    exact lQ.sub (lSb rfl (lSb rfl lSb0)) hJ1
  · refine lQ.ifF rfl (decide_eq_false hc) ?_
    refine lQ.loadN rfl rfl ?_
    refine lQ.loadI rfl rfl ?_
    refine lQ.loadN rfl rfl ?_
    refine lQ.get hR rfl (tf_5_9 hn) ?_
    refine lQ.loadI rfl rfl ?_
    obtain ⟨x2, hx, hy1⟩ := bindC hy1
    refine lQ.ald hR rfl (ta_148 hn hx) ?_
    obtain ⟨x3, hx, hy1⟩ := bindC hy1
    refine lQ.callVI (F := (fun y A => x3 = y ∧ A = tp ad s A0)) (G := fun _ _ => False) (args := [.ref (adr ad 5), .int v1, .int x2]) (r := []) hR rfl rfl rfl (Nat.le_of_ble_eq_true rfl) (Nat.le_of_ble_eq_true rfl) rfl (tk_5 hn rfl) (ts_835 hR hn hx (cI_mk ⟨rfl, rfl⟩)) ?_ (fun _ _ _ z => z.elim)
    rintro _ _ ⟨rfl, rfl⟩
    rcases iteC hy1 with ⟨hc, hy1⟩ | ⟨hc, hy1⟩
    · refine lQ.ifT rfl (decide_eq_true hc) ?_
      refine lQ.push rfl ?_
      obtain rfl := Option.some.inj hy1
      exact lQ.sub (lSb rfl (lSb rfl lSb0)) hJ1
    · refine lQ.ifF rfl (decide_eq_false hc) ?_
      refine lQ.push rfl ?_
      refine lQ.goto rfl ?_
      obtain rfl := Option.some.inj hy1
      exact lQ.sub (lSb rfl (lSb rfl lSb0)) hJ1
theorem ts_838 {R : lAR} (hR : lRok R) {E : lE} {ad : List Nat} (hn : tOk ad) {v1 : Int32} {s : TS} {A0 : lMem} {x : TS} (h : t_838 v1 s = some x) {Z : lZ} (hz : Z (.inl none) (tp ad x A0)) : lSQ R E 4 838 [.ref (adr ad 5), .int v1] (tp ad s A0) Z := by
  refine lQ.sq pg_838 (Nat.le_of_ble_eq_true rfl) rfl ?_
  unfold t_838 at h
  refine lQ.loadN rfl rfl ?_
  refine lQ.get hR rfl (tf_5_11 hn) ?_
  refine lQ.loadI rfl rfl ?_
  obtain ⟨x1, hx, h⟩ := bindC h
  refine lQ.ald hR rfl (ta_150 hn hx) ?_
  obtain ⟨v29, hy1, h1⟩ := bindC h
  have hJ1 : lQ R E 3 cd_838 29 [(0, .ref (adr ad 5)), (1, .int v1)] [] (tp ad v29 A0) Z := by
    refine lQ.loadN rfl rfl ?_
    refine lQ.get hR rfl (tf_5_9 hn) ?_
    refine lQ.loadI rfl rfl ?_
    obtain ⟨x7, hx, h1⟩ := bindC h1
    refine lQ.ald hR rfl (ta_148 hn hx) ?_
    rcases iteC h1 with ⟨hc, h1⟩ | ⟨hc, h1⟩
    · refine lQ.ifF rfl (decide_eq_false (Int32.not_le.mpr hc)) ?_
      obtain rfl := Option.some.inj h1
      exact lQ.retV rfl hz
    · refine lQ.ifT rfl (decide_eq_true (Int32.not_lt.mp hc)) ?_
      refine lQ.push rfl ?_
      refine lQ.loadI rfl rfl ?_
      refine lQ.binI rfl ?_
      refine lQ.stI rfl (lN2s rfl rfl) ?_
      refine lQ.loadN rfl rfl ?_
      refine lQ.loadI rfl rfl ?_
      refine lQ.loadN rfl rfl ?_
      refine lQ.get hR rfl (tf_5_9 hn) ?_
      refine lQ.loadI rfl rfl ?_
      obtain ⟨x8, hx, h1⟩ := bindC h1
      refine lQ.ald hR rfl (ta_148 hn hx) ?_
      obtain ⟨x9, hx, h1⟩ := bindC h1
      refine lQ.callVI (F := (fun y A => x9 = y ∧ A = tp ad v29 A0)) (G := fun _ _ => False) (args := [.ref (adr ad 5), .int v1, .int x8]) (r := []) hR rfl rfl rfl (Nat.le_of_ble_eq_true rfl) (Nat.le_of_ble_eq_true rfl) rfl (tk_5 hn rfl) (ts_835 hR hn hx (cI_mk ⟨rfl, rfl⟩)) ?_ (fun _ _ _ z => z.elim)
      rintro _ _ ⟨rfl, rfl⟩
      obtain ⟨y2, hy2, h2⟩ := bindC h1
      have hJ2 : ∀ v67, y2 = .inl v67 → lQ R E 3 cd_838 67 [(0, .ref (adr ad 5)), (1, .int v1), (2, .int (144 * v1))] [] (tp ad v29 A0) Z := by
        rintro v67 rfl
        have h2 := elimC h2
        refine lQ.loadN rfl rfl ?_
        refine lQ.get hR rfl (tf_5_9 hn) ?_
        refine lQ.loadI rfl rfl ?_
        refine lQ.dup2 rfl rfl rfl ?_
        obtain ⟨x14, hx, h2⟩ := bindC h2
        refine lQ.ald hR rfl (ta_148 hn hx) ?_
        refine lQ.push rfl ?_
        refine lQ.binI rfl ?_
        obtain ⟨s15, hx, h2⟩ := bindC h2
        refine lQ.ast hR rfl (tw_148 hn hx) ?_
        rintro _ rfl
        refine lQ.loadN rfl rfl ?_
        refine lQ.get hR rfl (tf_5_9 hn) ?_
        refine lQ.loadI rfl rfl ?_
        obtain ⟨x16, hx, h2⟩ := bindC h2
        refine lQ.ald hR rfl (ta_148 hn hx) ?_
        refine lQ.push rfl ?_
        refine lQ.loadN rfl rfl ?_
        refine lQ.get hR rfl (tf_5_8 hn) ?_
        refine lQ.loadI rfl rfl ?_
        refine lQ.push rfl ?_
        refine lQ.binI rfl ?_
        obtain ⟨x17, hx, h2⟩ := bindC h2
        refine lQ.ald hR rfl (ta_147 hn hx) ?_
        refine lQ.binI rfl ?_
        refine lQ.push rfl ?_
        refine lQ.binI rfl ?_
        rcases iteC h2 with ⟨hc, h2⟩ | ⟨hc, h2⟩
        · refine lQ.cmpF rfl (decide_eq_false (fun z => z hc)) ?_
          refine lQ.loadN rfl rfl ?_
          refine lQ.get hR rfl (tf_5_9 hn) ?_
          refine lQ.loadI rfl rfl ?_
          refine lQ.push rfl ?_
          obtain ⟨s18, hx, h2⟩ := bindC h2
          refine lQ.ast hR rfl (tw_148 hn hx) ?_
          rintro _ rfl
          refine lQ.loadN rfl rfl ?_
          refine lQ.get hR rfl (tf_5_10 hn) ?_
          refine lQ.loadI rfl rfl ?_
          refine lQ.loadN rfl rfl ?_
          refine lQ.get hR rfl (tf_5_0 hn) ?_
          refine lQ.push rfl ?_
          refine lQ.binI rfl ?_
          obtain ⟨s19, hx, h2⟩ := bindC h2
          refine lQ.ast hR rfl (tw_149 hn hx) ?_
          rintro _ rfl
          refine lQ.loadN rfl rfl ?_
          refine lQ.get hR rfl (tf_5_8 hn) ?_
          refine lQ.loadI rfl rfl ?_
          refine lQ.push rfl ?_
          refine lQ.binI rfl ?_
          obtain ⟨x20, hx, h2⟩ := bindC h2
          refine lQ.ald hR rfl (ta_147 hn hx) ?_
          obtain ⟨v121, hy3, h3⟩ := bindC h2
          have hJ3 : lQ R E 3 cd_838 121 [(0, .ref (adr ad 5)), (2, .int (144 * v1))] [] (tp ad v121 A0) Z := by
            refine lQ.loadN rfl rfl ?_
            refine lQ.get hR rfl (tf_5_8 hn) ?_
            refine lQ.loadI rfl rfl ?_
            refine lQ.push rfl ?_
            refine lQ.binI rfl ?_
            refine lQ.dup2 rfl rfl rfl ?_
            obtain ⟨x24, hx, h3⟩ := bindC h3
            refine lQ.ald hR rfl (ta_147 hn hx) ?_
            refine lQ.push rfl ?_
            refine lQ.binI rfl ?_
            obtain ⟨s25, hx, h3⟩ := bindC h3
            refine lQ.ast hR rfl (tw_147 hn hx) ?_
            rintro _ rfl
            obtain rfl := Option.some.inj h3
            exact lQ.retV rfl hz
          rcases iteC hy3 with ⟨hc, hy3⟩ | ⟨hc, hy3⟩
          · refine lQ.ifF rfl (decide_eq_false (fun z => z hc)) ?_
            refine lQ.loadN rfl rfl ?_
            refine lQ.get hR rfl (tf_5_8 hn) ?_
            refine lQ.loadI rfl rfl ?_
            refine lQ.dup2 rfl rfl rfl ?_
            obtain ⟨x21, hx, hy3⟩ := bindC hy3
            refine lQ.ald hR rfl (ta_147 hn hx) ?_
            refine lQ.push rfl ?_
            refine lQ.binI rfl ?_
            obtain ⟨s22, hx, hy3⟩ := bindC hy3
            refine lQ.ast hR rfl (tw_147 hn hx) ?_
            rintro _ rfl
            refine lQ.loadN rfl rfl ?_
            refine lQ.loadI rfl rfl ?_
            obtain ⟨x23, hx, hy3⟩ := bindC hy3
            refine lQ.callVV (F := (fun A => A = tp ad x23 A0)) (G := fun _ _ => False) (args := [.ref (adr ad 5), .int (144 * v1)]) (r := []) hR rfl rfl rfl (Nat.le_of_ble_eq_true rfl) (Nat.le_of_ble_eq_true rfl) rfl (tk_5 hn rfl) (ts_826 hR hn hx (cV_mk rfl)) ?_ (fun _ _ _ z => z.elim)
            rintro _ rfl
            obtain rfl := Option.some.inj hy3
            exact lQ.sub (lSb rfl (lSb rfl lSb0)) hJ3
          · refine lQ.ifT rfl (decide_eq_true hc) ?_
            obtain rfl := Option.some.inj hy3
            exact lQ.sub (lSb rfl (lSb rfl lSb0)) hJ3
        · refine lQ.cmpT rfl (decide_eq_true hc) ?_
          obtain rfl := Option.some.inj h2
          exact lQ.retV rfl hz
      rcases iteC hy2 with ⟨hc, hy2⟩ | ⟨hc, hy2⟩
      · refine lQ.ifT rfl (decide_eq_true hc) ?_
        obtain rfl := Option.some.inj hy2
        exact lQ.sub (lSb rfl (lSb rfl (lSb rfl lSb0))) (hJ2 _ rfl)
      · refine lQ.ifF rfl (decide_eq_false hc) ?_
        refine lQ.loadN rfl rfl ?_
        refine lQ.get hR rfl (tf_5_1 hn) ?_
        refine lQ.loadN rfl rfl ?_
        refine lQ.get hR rfl (tf_5_0 hn) ?_
        obtain ⟨x10, hx, hy2⟩ := bindC hy2
        refine lQ.ald hR rfl (ta_141 hn hx) ?_
        rcases iteC hy2 with ⟨hc, hy2⟩ | ⟨hc, hy2⟩
        · refine lQ.ifF rfl (decide_eq_false (fun z => z hc)) ?_
          refine lQ.loadN rfl rfl ?_
          refine lQ.get hR rfl (tf_5_9 hn) ?_
          refine lQ.loadI rfl rfl ?_
          refine lQ.push rfl ?_
          obtain ⟨s11, hx, hy2⟩ := bindC hy2
          refine lQ.ast hR rfl (tw_148 hn hx) ?_
          rintro _ rfl
          refine lQ.loadN rfl rfl ?_
          refine lQ.get hR rfl (tf_5_15 hn) ?_
          refine lQ.loadI rfl rfl ?_
          refine lQ.dup2 rfl rfl rfl ?_
          obtain ⟨x12, hx, hy2⟩ := bindC hy2
          refine lQ.ald hR rfl (ta_154 hn hx) ?_
          refine lQ.push rfl ?_
          refine lQ.binI rfl ?_
          obtain ⟨s13, hx, hy2⟩ := bindC hy2
          refine lQ.ast hR rfl (tw_154 hn hx) ?_
          rintro _ rfl
          obtain rfl := Option.some.inj hy2
          obtain rfl := elimD h2
          exact lQ.retV rfl hz
        · refine lQ.ifT rfl (decide_eq_true hc) ?_
          obtain rfl := Option.some.inj hy2
          exact lQ.sub (lSb rfl (lSb rfl (lSb rfl lSb0))) (hJ2 _ rfl)
  rcases iteC hy1 with ⟨hc, hy1⟩ | ⟨hc, hy1⟩
  · refine lQ.ifT rfl (decide_eq_true hc) ?_
    obtain rfl := Option.some.inj hy1
    exact lQ.sub (lSb rfl (lSb rfl lSb0)) hJ1
  · refine lQ.ifF rfl (decide_eq_false hc) ?_
    refine lQ.loadN rfl rfl ?_
    refine lQ.get hR rfl (tf_5_12 hn) ?_
    refine lQ.loadI rfl rfl ?_
    refine lQ.dup2 rfl rfl rfl ?_
    obtain ⟨x2, hx, hy1⟩ := bindC hy1
    refine lQ.ald hR rfl (ta_151 hn hx) ?_
    refine lQ.push rfl ?_
    refine lQ.binI rfl ?_
    obtain ⟨s3, hx, hy1⟩ := bindC hy1
    refine lQ.ast hR rfl (tw_151 hn hx) ?_
    rintro _ rfl
    refine lQ.loadN rfl rfl ?_
    refine lQ.get hR rfl (tf_5_11 hn) ?_
    refine lQ.loadI rfl rfl ?_
    refine lQ.loadN rfl rfl ?_
    refine lQ.get hR rfl (tf_5_12 hn) ?_
    refine lQ.loadI rfl rfl ?_
    obtain ⟨x4, hx, hy1⟩ := bindC hy1
    refine lQ.ald hR rfl (ta_151 hn hx) ?_
    refine lQ.push rfl ?_
    obtain ⟨v28, hy4, h4⟩ := bindC hy1
    have hJ4 : lQ R E 3 cd_838 28 [(0, .ref (adr ad 5)), (1, .int v1)] [.int v28, .int v1, .ref (adr ad 150)] (tp ad s3 A0) Z := by
      obtain ⟨s6, hx, h4⟩ := bindC h4
      refine lQ.ast hR rfl (tw_150 hn hx) ?_
      rintro _ rfl
      obtain rfl := Option.some.inj h4
      exact lQ.sub (lSb rfl (lSb rfl lSb0)) hJ1
    rcases iteC hy4 with ⟨hc, hy4⟩ | ⟨hc, hy4⟩
    · refine lQ.cmpF rfl (decide_eq_false (fun z => z hc)) ?_
      refine lQ.push rfl ?_
      refine lQ.goto rfl ?_
      obtain rfl := Option.some.inj hy4
      exact lQ.sub (lSb rfl (lSb rfl lSb0)) hJ4
    · refine lQ.cmpT rfl (decide_eq_true hc) ?_
      refine lQ.loadN rfl rfl ?_
      refine lQ.get hR rfl (tf_5_11 hn) ?_
      refine lQ.loadI rfl rfl ?_
      obtain ⟨x5, hx, hy4⟩ := bindC hy4
      refine lQ.ald hR rfl (ta_150 hn hx) ?_
      obtain rfl := Option.some.inj hy4
      exact lQ.sub (lSb rfl (lSb rfl lSb0)) hJ4
theorem ts_840 {R : lAR} (hR : lRok R) {E : lE} {ad : List Nat} (hn : tOk ad) {s : TS} {A0 : lMem} {x : TS} (h : t_840 s = some x) {Z : lZ} (hz : Z (.inl none) (tp ad x A0)) : lSQ R E 1 840 [.ref (adr ad 5)] (tp ad s A0) Z := by
  refine lQ.sq pg_840 (Nat.le_of_ble_eq_true rfl) rfl ?_
  unfold t_840 at h
  refine lQ.loadN rfl rfl ?_
  refine lQ.loadN rfl rfl ?_
  refine lQ.get hR rfl (tf_5_1 hn) ?_
  refine lQ.loadN rfl rfl ?_
  refine lQ.get hR rfl (tf_5_0 hn) ?_
  obtain ⟨x1, hx, h⟩ := bindC h
  refine lQ.ald hR rfl (ta_141 hn hx) ?_
  obtain ⟨v11, hy1, h1⟩ := bindC h
  have hJ1 : lQ R E 0 cd_840 11 [(0, .ref (adr ad 5))] [.int v11, .ref (adr ad 5)] (tp ad s A0) Z := by
    obtain ⟨s2, hx, h1⟩ := bindC h1
    refine lQ.put hR rfl rfl (tq_5_16 hn hx) ?_
    rintro _ rfl
    refine lQ.loadN rfl rfl ?_
    refine lQ.loadN rfl rfl ?_
    refine lQ.get hR rfl (tf_5_16 hn) ?_
    obtain ⟨s3, hx, h1⟩ := bindC h1
    refine lQ.put hR rfl rfl (tq_5_28 hn hx) ?_
    rintro _ rfl
    refine lQ.loadN rfl rfl ?_
    refine lQ.push rfl ?_
    obtain ⟨s4, hx, h1⟩ := bindC h1
    refine lQ.put hR rfl rfl (tq_5_17 hn hx) ?_
    rintro _ rfl
    refine lQ.loadN rfl rfl ?_
    refine lQ.push rfl ?_
    obtain ⟨s5, hx, h1⟩ := bindC h1
    refine lQ.put hR rfl rfl (tq_5_19 hn hx) ?_
    rintro _ rfl
    obtain rfl := Option.some.inj h1
    exact lQ.retV rfl hz
  rcases iteC hy1 with ⟨hc, hy1⟩ | ⟨hc, hy1⟩
  · refine lQ.ifT rfl (decide_eq_true hc) ?_
    refine lQ.loadN rfl rfl ?_
    refine lQ.get hR rfl (tf_5_0 hn) ?_
    obtain rfl := Option.some.inj hy1
    exact lQ.sub (lSb rfl lSb0) hJ1
  · refine lQ.ifF rfl (decide_eq_false hc) ?_
    refine lQ.push rfl ?_
    refine lQ.goto rfl ?_
    obtain rfl := Option.some.inj hy1
    exact lQ.sub (lSb rfl lSb0) hJ1
theorem ts_841 {R : lAR} (hR : lRok R) {E : lE} {ad : List Nat} (hn : tOk ad) {s : TS} {A0 : lMem} {x : Int32 × TS} (h : t_841 s = some x) {Z : lZ} (hz : Z (.inl (some (.int x.1))) (tp ad x.2 A0)) : lSQ R E 2 841 [.ref (adr ad 5)] (tp ad s A0) Z := by
  refine lQ.sq pg_841 (Nat.le_of_ble_eq_true rfl) rfl ?_
  unfold t_841 at h
  refine lQ.loadN rfl rfl ?_
  refine lQ.get hR rfl (tf_5_28 hn) ?_
  rcases iteC h with ⟨hc, h⟩ | ⟨hc, h⟩
  · refine lQ.ifF rfl (decide_eq_false (Int32.not_le.mpr hc)) ?_
    refine lQ.loadN rfl rfl ?_
    refine lQ.get hR rfl (tf_5_0 hn) ?_
    refine lQ.loadN rfl rfl ?_
    refine lQ.get hR rfl (tf_5_28 hn) ?_
    refine lQ.push rfl ?_
    refine lQ.binI rfl ?_
    rcases iteC h with ⟨hc, h⟩ | ⟨hc, h⟩
    · refine lQ.cmpF rfl (decide_eq_false (fun z => z hc)) ?_
      refine lQ.push rfl ?_
      refine lQ.stI rfl (lN2s rfl rfl) ?_
      refine lQ.push rfl ?_
      refine lQ.stI rfl (lN2s rfl rfl) ?_
      obtain ⟨v34, hy1, h1⟩ := bindC h
      have hJ1 : lQ R E 1 cd_841 34 [(0, .ref (adr ad 5)), (1, .int v34)] [] (tp ad s A0) Z := by
        refine lQ.loadN rfl rfl ?_
        refine lQ.loadN rfl rfl ?_
        refine lQ.get hR rfl (tf_5_19 hn) ?_
        obtain ⟨v64, hy2, h2⟩ := bindC h1
        have hJ2 : lQ R E 1 cd_841 64 [(0, .ref (adr ad 5)), (1, .int v34)] [.int v64, .ref (adr ad 5)] (tp ad s A0) Z := by
          rcases iteC h2 with ⟨hg, h2⟩ | ⟨_, h2⟩
          case inr => cases h2
          obtain ⟨s8, hx, h2⟩ := bindC h2
          refine lQ.put hR rfl (fitB hg) (tq_5_19 hn hx) ?_
          rintro _ rfl
          refine lQ.loadN rfl rfl ?_
          refine lQ.get hR rfl (tf_5_18 hn) ?_
          refine lQ.loadN rfl rfl ?_
          refine lQ.get hR rfl (tf_5_17 hn) ?_
          refine lQ.loadI rfl rfl ?_
          obtain ⟨s9, hx, h2⟩ := bindC h2
          refine lQ.ast hR rfl (tw_155 hn hx) ?_
          rintro _ rfl
          refine lQ.loadN rfl rfl ?_
          refine lQ.dupN rfl ?_
          refine lQ.get hR rfl (tf_5_17 hn) ?_
          refine lQ.push rfl ?_
          refine lQ.binI rfl ?_
          obtain ⟨s10, hx, h2⟩ := bindC h2
          refine lQ.put hR rfl rfl (tq_5_17 hn hx) ?_
          rintro _ rfl
          refine lQ.loadN rfl rfl ?_
          refine lQ.loadN rfl rfl ?_
          refine lQ.get hR rfl (tf_5_0 hn) ?_
          obtain ⟨s11, hx, h2⟩ := bindC h2
          refine lQ.put hR rfl rfl (tq_5_20 hn hx) ?_
          rintro _ rfl
          refine lQ.loadN rfl rfl ?_
          refine lQ.push rfl ?_
          obtain ⟨s12, hx, h2⟩ := bindC h2
          refine lQ.put hR rfl rfl (tq_5_28 hn hx) ?_
          rintro _ rfl
          refine lQ.push rfl ?_
          obtain rfl := Option.some.inj h2
          exact lQ.retI rfl rfl hz
        rcases iteC hy2 with ⟨hc, hy2⟩ | ⟨hc, hy2⟩
        · refine lQ.ifF rfl (decide_eq_false (fun z => z hc)) ?_
          refine lQ.loadN rfl rfl ?_
          refine lQ.get hR rfl (tf_5_1 hn) ?_
          refine lQ.loadN rfl rfl ?_
          refine lQ.get hR rfl (tf_5_0 hn) ?_
          refine lQ.push rfl ?_
          refine lQ.binI rfl ?_
          obtain ⟨x5, hx, hy2⟩ := bindC hy2
          refine lQ.ald hR rfl (ta_141 hn hx) ?_
          refine lQ.loadI rfl rfl ?_
          obtain ⟨x6, hx, hy2⟩ := bindC hy2
          refine lQ.callI (F := (fun y A => x6 = y ∧ A = tp ad s A0)) (G := fun _ _ => False) (args := [.int v34]) (r := [.int x5, .ref (adr ad 5)]) hR rfl rfl rfl (Nat.le_of_ble_eq_true rfl) (Nat.le_of_ble_eq_true rfl) (ts_837 hR hn hx (cI_mk ⟨rfl, rfl⟩)) ?_ (fun _ _ _ z => z.elim)
          rintro _ _ ⟨rfl, rfl⟩
          refine lQ.push rfl ?_
          refine lQ.divI rfl (by decide) ?_
          refine lQ.push rfl ?_
          obtain ⟨v54, hy3, h3⟩ := bindC hy2
          have hJ3 : lQ R E 1 cd_841 54 [(0, .ref (adr ad 5)), (1, .int v34)] [.int v54, .int x5, .ref (adr ad 5)] (tp ad s A0) Z := by
            rcases iteC h3 with ⟨hc, h3⟩ | ⟨hc, h3⟩
            · refine lQ.cmpF rfl (decide_eq_false (fun z => z hc)) ?_
              refine lQ.loadN rfl rfl ?_
              refine lQ.get hR rfl (tf_5_1 hn) ?_
              refine lQ.loadN rfl rfl ?_
              refine lQ.get hR rfl (tf_5_0 hn) ?_
              obtain ⟨x7, hx, h3⟩ := bindC h3
              refine lQ.ald hR rfl (ta_141 hn hx) ?_
              rcases iteC h3 with ⟨hc, h3⟩ | ⟨hc, h3⟩
              · refine lQ.ifF rfl (decide_eq_false (fun z => z hc)) ?_
                refine lQ.push rfl ?_
                refine lQ.goto rfl ?_
                obtain rfl := Option.some.inj h3
                exact lQ.sub (lSb rfl (lSb rfl lSb0)) hJ2
              · refine lQ.ifT rfl (decide_eq_true hc) ?_
                refine lQ.push rfl ?_
                obtain rfl := Option.some.inj h3
                exact lQ.sub (lSb rfl (lSb rfl lSb0)) hJ2
            · refine lQ.cmpT rfl (decide_eq_true hc) ?_
              refine lQ.push rfl ?_
              refine lQ.goto rfl ?_
              obtain rfl := Option.some.inj h3
              exact lQ.sub (lSb rfl (lSb rfl lSb0)) hJ2
          rcases iteC hy3 with ⟨hc, hy3⟩ | ⟨hc, hy3⟩
          · refine lQ.cmpF rfl (decide_eq_false (fun z => z hc)) ?_
            refine lQ.push rfl ?_
            refine lQ.goto rfl ?_
            obtain rfl := Option.some.inj hy3
            exact lQ.sub (lSb rfl (lSb rfl lSb0)) hJ3
          · refine lQ.cmpT rfl (decide_eq_true hc) ?_
            refine lQ.push rfl ?_
            obtain rfl := Option.some.inj hy3
            exact lQ.sub (lSb rfl (lSb rfl lSb0)) hJ3
        · refine lQ.ifT rfl (decide_eq_true hc) ?_
          refine lQ.push rfl ?_
          refine lQ.goto rfl ?_
          obtain rfl := Option.some.inj hy2
          exact lQ.sub (lSb rfl (lSb rfl lSb0)) hJ2
      refine lQ.sub (lSb rfl (lSb rfl (lSb rfl lSb0))) (wh_run (P := fun p14 => lQ R E 1 cd_841 14 [(0, .ref (adr ad 5)), (1, .int p14.1), (2, .int p14.2)] [] (tp ad s A0) Z) hy1 ?_)
      intro p14 r4 hb4 hI4 hX4
      refine lQ.loadI rfl rfl ?_
      rcases iteC hb4 with ⟨hc, hb4⟩ | ⟨hc, hb4⟩
      · refine lQ.ifF rfl (decide_eq_false (Int32.not_le.mpr hc)) ?_
        refine lQ.push rfl ?_
        refine lQ.loadI rfl rfl ?_
        refine lQ.binI rfl ?_
        refine lQ.loadN rfl rfl ?_
        refine lQ.get hR rfl (tf_5_1 hn) ?_
        refine lQ.loadN rfl rfl ?_
        refine lQ.get hR rfl (tf_5_28 hn) ?_
        refine lQ.loadI rfl rfl ?_
        refine lQ.binI rfl ?_
        obtain ⟨x4, hx, hb4⟩ := bindC hb4
        refine lQ.ald hR rfl (ta_141 hn hx) ?_
        obtain ⟨v30, hy5, h5⟩ := bindC hb4
        have hJ5 : lQ R E 1 cd_841 30 [(0, .ref (adr ad 5)), (2, .int p14.2)] [.int v30, .int (2 * p14.1)] (tp ad s A0) Z := by
          refine lQ.binI rfl ?_
          refine lQ.stI rfl (lN2s rfl rfl) ?_
          refine lQ.dec rfl rfl (Int32.sub_eq_add_neg p14.2 1).symm (lN2s rfl rfl) ?_
          refine lQ.goto rfl ?_
          obtain rfl := Option.some.inj h5
          exact lQ.sub (lSb rfl (lSb rfl (lSb rfl lSb0))) (hI4 _ rfl)
        rcases iteC hy5 with ⟨hc, hy5⟩ | ⟨hc, hy5⟩
        · refine lQ.ifT rfl (decide_eq_true hc) ?_
          refine lQ.push rfl ?_
          obtain rfl := Option.some.inj hy5
          exact lQ.sub (lSb rfl (lSb rfl lSb0)) hJ5
        · refine lQ.ifF rfl (decide_eq_false hc) ?_
          refine lQ.push rfl ?_
          refine lQ.goto rfl ?_
          obtain rfl := Option.some.inj hy5
          exact lQ.sub (lSb rfl (lSb rfl lSb0)) hJ5
      · refine lQ.ifT rfl (decide_eq_true (Int32.not_lt.mp hc)) ?_
        obtain rfl := Option.some.inj hb4
        obtain rfl := hX4 _ rfl
        exact lQ.sub (lSb rfl (lSb rfl lSb0)) hJ1
    · refine lQ.cmpT rfl (decide_eq_true hc) ?_
      refine lQ.push rfl ?_
      obtain rfl := Option.some.inj h
      exact lQ.retI rfl rfl hz
  · refine lQ.ifT rfl (decide_eq_true (Int32.not_lt.mp hc)) ?_
    refine lQ.loadN rfl rfl ?_
    refine lQ.get hR rfl (tf_5_0 hn) ?_
    refine lQ.loadN rfl rfl ?_
    refine lQ.get hR rfl (tf_5_20 hn) ?_
    refine lQ.push rfl ?_
    refine lQ.binI rfl ?_
    obtain ⟨y6, hy6, h6⟩ := bindC h
    have hJ6 : ∀ v105, y6 = .inl v105 → lQ R E 1 cd_841 105 [(0, .ref (adr ad 5))] [] (tp ad s A0) Z := by
      rintro v105 rfl
      have h6 := elimC h6
      refine lQ.loadN rfl rfl ?_
      refine lQ.get hR rfl (tf_5_0 hn) ?_
      refine lQ.loadN rfl rfl ?_
      refine lQ.get hR rfl (tf_5_20 hn) ?_
      refine lQ.push rfl ?_
      refine lQ.binI rfl ?_
      rcases iteC h6 with ⟨hc, h6⟩ | ⟨hc, h6⟩
      · refine lQ.cmpT rfl (decide_eq_true hc) ?_
        refine lQ.push rfl ?_
        refine lQ.goto rfl ?_
        obtain rfl := Option.some.inj h6
        exact lQ.retI rfl rfl hz
      · refine lQ.cmpF rfl (decide_eq_false hc) ?_
        refine lQ.loadN rfl rfl ?_
        refine lQ.get hR rfl (tf_5_1 hn) ?_
        refine lQ.loadN rfl rfl ?_
        refine lQ.get hR rfl (tf_5_0 hn) ?_
        obtain ⟨x3, hx, h6⟩ := bindC h6
        refine lQ.ald hR rfl (ta_141 hn hx) ?_
        rcases iteC h6 with ⟨hc, h6⟩ | ⟨hc, h6⟩
        · refine lQ.ifF rfl (decide_eq_false (fun z => z hc)) ?_
          refine lQ.push rfl ?_
          refine lQ.goto rfl ?_
          obtain rfl := Option.some.inj h6
          exact lQ.retI rfl rfl hz
        · refine lQ.ifT rfl (decide_eq_true hc) ?_
          refine lQ.push rfl ?_
          obtain rfl := Option.some.inj h6
          exact lQ.retI rfl rfl hz
    rcases iteC hy6 with ⟨hc, hy6⟩ | ⟨hc, hy6⟩
    · refine lQ.cmpF rfl (decide_eq_false (fun z => z hc)) ?_
      refine lQ.loadN rfl rfl ?_
      refine lQ.get hR rfl (tf_5_1 hn) ?_
      refine lQ.loadN rfl rfl ?_
      refine lQ.get hR rfl (tf_5_0 hn) ?_
      obtain ⟨x1, hx, hy6⟩ := bindC hy6
      refine lQ.ald hR rfl (ta_141 hn hx) ?_
      rcases iteC hy6 with ⟨hc, hy6⟩ | ⟨hc, hy6⟩
      · refine lQ.ifF rfl (decide_eq_false (fun z => z hc)) ?_
        refine lQ.loadN rfl rfl ?_
        refine lQ.loadN rfl rfl ?_
        refine lQ.get hR rfl (tf_5_0 hn) ?_
        obtain ⟨s2, hx, hy6⟩ := bindC hy6
        refine lQ.put hR rfl rfl (tq_5_28 hn hx) ?_
        rintro _ rfl
        refine lQ.push rfl ?_
        obtain rfl := Option.some.inj hy6
        obtain rfl := elimD h6
        exact lQ.retI rfl rfl hz
      · refine lQ.ifT rfl (decide_eq_true hc) ?_
        obtain rfl := Option.some.inj hy6
        exact lQ.sub (lSb rfl lSb0) (hJ6 _ rfl)
    · refine lQ.cmpT rfl (decide_eq_true hc) ?_
      obtain rfl := Option.some.inj hy6
      exact lQ.sub (lSb rfl lSb0) (hJ6 _ rfl)
theorem ts_839 {R : lAR} (hR : lRok R) {E : lE} {ad : List Nat} (hn : tOk ad) {s : TS} {A0 : lMem} {x : TS} (h : t_839 s = some x) {Z : lZ} (hz : Z (.inl none) (tp ad x A0)) : lSQ R E 3 839 [.ref (adr ad 5)] (tp ad s A0) Z := by
  refine lQ.sq pg_839 (Nat.le_of_ble_eq_true rfl) rfl ?_
  unfold t_839 at h
  refine lQ.loadN rfl rfl ?_
  refine lQ.get hR rfl (tf_5_16 hn) ?_
  rcases iteC h with ⟨hc, h⟩ | ⟨hc, h⟩
  · refine lQ.ifF rfl (decide_eq_false (fun z => z hc)) ?_
    refine lQ.loadN rfl rfl ?_
    obtain ⟨x21, hx, h⟩ := bindC h
    refine lQ.callVV (F := (fun A => A = tp ad x21 A0)) (G := fun _ _ => False) (args := [.ref (adr ad 5)]) (r := []) hR rfl rfl rfl (Nat.le_of_ble_eq_true rfl) (Nat.le_of_ble_eq_true rfl) rfl (tk_5 hn rfl) (ts_840 hR hn hx (cV_mk rfl)) ?_ (fun _ _ _ z => z.elim)
    rintro _ rfl
    obtain rfl := Option.some.inj h
    exact lQ.retV rfl hz
  · refine lQ.ifT rfl (decide_eq_true hc) ?_
    refine lQ.loadN rfl rfl ?_
    obtain ⟨x1, hx, h⟩ := bindC h
    refine lQ.callVI (F := (fun y A => x1.1 = y ∧ A = tp ad x1.2 A0)) (G := fun _ _ => False) (args := [.ref (adr ad 5)]) (r := []) hR rfl rfl rfl (Nat.le_of_ble_eq_true rfl) (Nat.le_of_ble_eq_true rfl) rfl (tk_5 hn rfl) (ts_841 hR hn hx (cI_mk ⟨rfl, rfl⟩)) ?_ (fun _ _ _ z => z.elim)
    rintro _ _ ⟨rfl, rfl⟩
    rcases iteC h with ⟨hc, h⟩ | ⟨hc, h⟩
    · refine lQ.ifF rfl (decide_eq_false (fun z => z hc)) ?_
      obtain rfl := Option.some.inj h
      exact lQ.retV rfl hz
    · refine lQ.ifT rfl (decide_eq_true hc) ?_
      refine lQ.loadN rfl rfl ?_
      refine lQ.get hR rfl (tf_5_17 hn) ?_
      refine lQ.push rfl ?_
      obtain ⟨v149, hy1, h1⟩ := bindC h
      have hJ1 : lQ R E 2 cd_839 149 [(0, .ref (adr ad 5))] [] (tp ad v149 A0) Z := by
        refine lQ.loadN rfl rfl ?_
        obtain ⟨x20, hx, h1⟩ := bindC h1
        refine lQ.callVV (F := (fun A => A = tp ad x20 A0)) (G := fun _ _ => False) (args := [.ref (adr ad 5)]) (r := []) hR rfl rfl rfl (Nat.le_of_ble_eq_true rfl) (Nat.le_of_ble_eq_true rfl) rfl (tk_5 hn rfl) (ts_840 hR hn hx (cV_mk rfl)) ?_ (fun _ _ _ z => z.elim)
        rintro _ rfl
        obtain rfl := Option.some.inj h1
        exact lQ.retV rfl hz
      obtain ⟨y2, hy2, h2⟩ := bindC hy1
      have hJ2 : ∀ v96, y2 = .inl v96 → lQ R E 2 cd_839 96 [(0, .ref (adr ad 5))] [] (tp ad x1.2 A0) Z := by
        rintro v96 rfl
        have h2 := elimC h2
        refine lQ.loadN rfl rfl ?_
        refine lQ.push rfl ?_
        obtain ⟨s15, hx, h2⟩ := bindC h2
        refine lQ.put hR rfl rfl (tq_5_25 hn hx) ?_
        rintro _ rfl
        refine lQ.loadN rfl rfl ?_
        refine lQ.get hR rfl (tf_5_24 hn) ?_
        obtain ⟨v119, hy3, h3⟩ := bindC h2
        have hJ3 : lQ R E 2 cd_839 119 [(0, .ref (adr ad 5))] [.int v119] (tp ad s15 A0) Z := by
          refine lQ.stI rfl (lN2s rfl rfl) ?_
          refine lQ.loadN rfl rfl ?_
          refine lQ.loadI rfl rfl ?_
          obtain ⟨v130, hy4, h4⟩ := bindC h3
          have hJ4 : lQ R E 2 cd_839 130 [(0, .ref (adr ad 5)), (1, .int v119)] [.int v130, .ref (adr ad 5)] (tp ad s15 A0) Z := by
            obtain ⟨s17, hx, h4⟩ := bindC h4
            refine lQ.put hR rfl rfl (tq_5_26 hn hx) ?_
            rintro _ rfl
            refine lQ.loadN rfl rfl ?_
            refine lQ.get hR rfl (tf_5_27 hn) ?_
            refine lQ.loadI rfl rfl ?_
            obtain ⟨v144, hy5, h5⟩ := bindC h4
            have hJ5 : lQ R E 2 cd_839 144 [(0, .ref (adr ad 5))] [.int v144, .ref (adr ad 157)] (tp ad s17 A0) Z := by
              refine lQ.dup2 rfl rfl rfl ?_
              obtain ⟨x18, hx, h5⟩ := bindC h5
              refine lQ.ald hR rfl (ta_157 hn hx) ?_
              refine lQ.push rfl ?_
              refine lQ.binI rfl ?_
              obtain ⟨s19, hx, h5⟩ := bindC h5
              refine lQ.ast hR rfl (tw_157 hn hx) ?_
              rintro _ rfl
              obtain rfl := Option.some.inj h5
              exact lQ.sub (lSb rfl lSb0) hJ1
            rcases iteC hy5 with ⟨hc, hy5⟩ | ⟨hc, hy5⟩
            · refine lQ.ifF rfl (decide_eq_false (fun z => z hc)) ?_
              refine lQ.push rfl ?_
              refine lQ.goto rfl ?_
              obtain rfl := Option.some.inj hy5
              exact lQ.sub (lSb rfl lSb0) hJ5
            · refine lQ.ifT rfl (decide_eq_true hc) ?_
              refine lQ.loadN rfl rfl ?_
              refine lQ.get hR rfl (tf_5_26 hn) ?_
              refine lQ.push rfl ?_
              rcases iteC hy5 with ⟨hc, hy5⟩ | ⟨hc, hy5⟩
              · refine lQ.cmpF rfl (decide_eq_false (fun z => z hc)) ?_
                refine lQ.push rfl ?_
                refine lQ.goto rfl ?_
                obtain rfl := Option.some.inj hy5
                exact lQ.sub (lSb rfl lSb0) hJ5
              · refine lQ.cmpT rfl (decide_eq_true hc) ?_
                refine lQ.push rfl ?_
                obtain rfl := Option.some.inj hy5
                exact lQ.sub (lSb rfl lSb0) hJ5
          rcases iteC hy4 with ⟨hc, hy4⟩ | ⟨hc, hy4⟩
          · refine lQ.ifT rfl (decide_eq_true hc) ?_
            refine lQ.loadN rfl rfl ?_
            refine lQ.get hR rfl (tf_5_26 hn) ?_
            obtain rfl := Option.some.inj hy4
            exact lQ.sub (lSb rfl (lSb rfl lSb0)) hJ4
          · refine lQ.ifF rfl (decide_eq_false hc) ?_
            refine lQ.loadN rfl rfl ?_
            refine lQ.get hR rfl (tf_5_18 hn) ?_
            refine lQ.push rfl ?_
            obtain ⟨x16, hx, hy4⟩ := bindC hy4
            refine lQ.ald hR rfl (ta_155 hn hx) ?_
            refine lQ.goto rfl ?_
            obtain rfl := Option.some.inj hy4
            exact lQ.sub (lSb rfl (lSb rfl lSb0)) hJ4
        rcases iteC hy3 with ⟨hc, hy3⟩ | ⟨hc, hy3⟩
        · refine lQ.ifF rfl (decide_eq_false (Int32.not_le.mpr hc)) ?_
          refine lQ.loadN rfl rfl ?_
          refine lQ.get hR rfl (tf_5_16 hn) ?_
          refine lQ.loadN rfl rfl ?_
          refine lQ.get hR rfl (tf_5_24 hn) ?_
          refine lQ.push rfl ?_
          refine lQ.binI rfl ?_
          rcases iteC hy3 with ⟨hc, hy3⟩ | ⟨hc, hy3⟩
          · refine lQ.cmpF rfl (decide_eq_false (fun z => z hc)) ?_
            refine lQ.loadN rfl rfl ?_
            refine lQ.get hR rfl (tf_5_17 hn) ?_
            refine lQ.push rfl ?_
            rcases iteC hy3 with ⟨hc, hy3⟩ | ⟨hc, hy3⟩
            · refine lQ.cmpF rfl (decide_eq_false (fun z => z hc)) ?_
              refine lQ.loadN rfl rfl ?_
              refine lQ.get hR rfl (tf_5_19 hn) ?_
              rcases iteC hy3 with ⟨hc, hy3⟩ | ⟨hc, hy3⟩
              · refine lQ.ifF rfl (decide_eq_false (fun z => z hc)) ?_
                refine lQ.push rfl ?_
                refine lQ.goto rfl ?_
                obtain rfl := Option.some.inj hy3
                exact lQ.sub (lSb rfl lSb0) hJ3
              · refine lQ.ifT rfl (decide_eq_true hc) ?_
                refine lQ.push rfl ?_
                obtain rfl := Option.some.inj hy3
                exact lQ.sub (lSb rfl lSb0) hJ3
            · refine lQ.cmpT rfl (decide_eq_true hc) ?_
              refine lQ.push rfl ?_
              obtain rfl := Option.some.inj hy3
              exact lQ.sub (lSb rfl lSb0) hJ3
          · refine lQ.cmpT rfl (decide_eq_true hc) ?_
            refine lQ.push rfl ?_
            obtain rfl := Option.some.inj hy3
            exact lQ.sub (lSb rfl lSb0) hJ3
        · refine lQ.ifT rfl (decide_eq_true (Int32.not_lt.mp hc)) ?_
          refine lQ.push rfl ?_
          obtain rfl := Option.some.inj hy3
          exact lQ.sub (lSb rfl lSb0) hJ3
      rcases iteC hy2 with ⟨hc, hy2⟩ | ⟨hc, hy2⟩
      · refine lQ.cmpT rfl (decide_eq_true hc) ?_
        obtain rfl := Option.some.inj hy2
        exact lQ.sub (lSb rfl lSb0) (hJ2 _ rfl)
      · refine lQ.cmpF rfl (decide_eq_false hc) ?_
        refine lQ.loadN rfl rfl ?_
        refine lQ.get hR rfl (tf_5_19 hn) ?_
        rcases iteC hy2 with ⟨hc, hy2⟩ | ⟨hc, hy2⟩
        · refine lQ.ifF rfl (decide_eq_false (fun z => z hc)) ?_
          refine lQ.push rfl ?_
          refine lQ.stI rfl (lN2s rfl rfl) ?_
          refine lQ.push rfl ?_
          refine lQ.stI rfl (lN2s rfl rfl) ?_
          obtain ⟨v42, hy6, h6⟩ := bindC hy2
          have hJ6 : lQ R E 2 cd_839 42 [(0, .ref (adr ad 5)), (1, .int v42.2)] [] (tp ad v42.1 A0) Z := by
            refine lQ.loadN rfl rfl ?_
            refine lQ.loadN rfl rfl ?_
            refine lQ.get hR rfl (tf_5_17 hn) ?_
            obtain ⟨s5, hx, h6⟩ := bindC h6
            refine lQ.put hR rfl rfl (tq_5_21 hn hx) ?_
            rintro _ rfl
            refine lQ.loadN rfl rfl ?_
            refine lQ.loadI rfl rfl ?_
            obtain ⟨v63, hy7, h7⟩ := bindC h6
            have hJ7 : lQ R E 2 cd_839 63 [(0, .ref (adr ad 5))] [.int v63, .ref (adr ad 5)] (tp ad s5 A0) Z := by
              rcases iteC h7 with ⟨hg, h7⟩ | ⟨_, h7⟩
              case inr => cases h7
              obtain ⟨s7, hx, h7⟩ := bindC h7
              refine lQ.put hR rfl (fitB hg) (tq_5_23 hn hx) ?_
              rintro _ rfl
              refine lQ.loadN rfl rfl ?_
              refine lQ.loadN rfl rfl ?_
              refine lQ.get hR rfl (tf_5_20 hn) ?_
              obtain ⟨s8, hx, h7⟩ := bindC h7
              refine lQ.put hR rfl rfl (tq_5_24 hn hx) ?_
              rintro _ rfl
              refine lQ.loadN rfl rfl ?_
              refine lQ.push rfl ?_
              obtain ⟨s9, hx, h7⟩ := bindC h7
              refine lQ.put hR rfl rfl (tq_5_26 hn hx) ?_
              rintro _ rfl
              refine lQ.loadN rfl rfl ?_
              refine lQ.push rfl ?_
              obtain ⟨s10, hx, h7⟩ := bindC h7
              refine lQ.put hR rfl rfl (tq_5_25 hn hx) ?_
              rintro _ rfl
              refine lQ.loadN rfl rfl ?_
              refine lQ.get hR rfl (tf_5_27 hn) ?_
              refine lQ.push rfl ?_
              refine lQ.dup2 rfl rfl rfl ?_
              obtain ⟨x11, hx, h7⟩ := bindC h7
              refine lQ.ald hR rfl (ta_157 hn hx) ?_
              refine lQ.push rfl ?_
              refine lQ.binI rfl ?_
              obtain ⟨s12, hx, h7⟩ := bindC h7
              refine lQ.ast hR rfl (tw_157 hn hx) ?_
              rintro _ rfl
              refine lQ.loadN rfl rfl ?_
              refine lQ.get hR rfl (tf_5_27 hn) ?_
              refine lQ.push rfl ?_
              refine lQ.dup2 rfl rfl rfl ?_
              obtain ⟨x13, hx, h7⟩ := bindC h7
              refine lQ.ald hR rfl (ta_157 hn hx) ?_
              refine lQ.loadN rfl rfl ?_
              refine lQ.get hR rfl (tf_5_23 hn) ?_
              obtain ⟨v93, hy8, h8⟩ := bindC h7
              have hJ8 : lQ R E 2 cd_839 93 [(0, .ref (adr ad 5))] [.int v93, .int x13, .int 1, .ref (adr ad 157)] (tp ad s12 A0) Z := by
                refine lQ.binI rfl ?_
                obtain ⟨s14, hx, h8⟩ := bindC h8
                refine lQ.ast hR rfl (tw_157 hn hx) ?_
                rintro _ rfl
                refine lQ.goto rfl ?_
                obtain rfl := Option.some.inj h8
                obtain rfl := elimD h2
                exact lQ.sub (lSb rfl lSb0) hJ1
              rcases iteC hy8 with ⟨hc, hy8⟩ | ⟨hc, hy8⟩
              · refine lQ.ifT rfl (decide_eq_true hc) ?_
                refine lQ.push rfl ?_
                obtain rfl := Option.some.inj hy8
                exact lQ.sub (lSb rfl lSb0) hJ8
              · refine lQ.ifF rfl (decide_eq_false hc) ?_
                refine lQ.push rfl ?_
                refine lQ.goto rfl ?_
                obtain rfl := Option.some.inj hy8
                exact lQ.sub (lSb rfl lSb0) hJ8
            rcases iteC hy7 with ⟨hc, hy7⟩ | ⟨hc, hy7⟩
            · refine lQ.ifF rfl (decide_eq_false (fun z => z hc)) ?_
              refine lQ.loadN rfl rfl ?_
              refine lQ.get hR rfl (tf_5_21 hn) ?_
              refine lQ.loadN rfl rfl ?_
              refine lQ.get hR rfl (tf_5_22 hn) ?_
              refine lQ.push rfl ?_
              obtain ⟨x6, hx, hy7⟩ := bindC hy7
              refine lQ.ald hR rfl (ta_156 hn hx) ?_
              refine lQ.push rfl ?_
              refine lQ.divI rfl (by decide) ?_
              refine lQ.push rfl ?_
              refine lQ.binI rfl ?_
              rcases iteC hy7 with ⟨hc, hy7⟩ | ⟨hc, hy7⟩
              · refine lQ.cmpF rfl (decide_eq_false (fun z => z hc)) ?_
                refine lQ.push rfl ?_
                refine lQ.goto rfl ?_
                obtain rfl := Option.some.inj hy7
                exact lQ.sub (lSb rfl lSb0) hJ7
              · refine lQ.cmpT rfl (decide_eq_true hc) ?_
                refine lQ.push rfl ?_
                obtain rfl := Option.some.inj hy7
                exact lQ.sub (lSb rfl lSb0) hJ7
            · refine lQ.ifT rfl (decide_eq_true hc) ?_
              refine lQ.push rfl ?_
              obtain rfl := Option.some.inj hy7
              exact lQ.sub (lSb rfl lSb0) hJ7
          refine lQ.sub (lSb rfl (lSb rfl (lSb rfl lSb0))) (wh_run (P := fun p21 => lQ R E 2 cd_839 21 [(0, .ref (adr ad 5)), (1, .int p21.2.1), (2, .int p21.2.2)] [] (tp ad p21.1 A0) Z) hy6 ?_)
          intro p21 r9 hb9 hI9 hX9
          refine lQ.loadI rfl rfl ?_
          refine lQ.loadN rfl rfl ?_
          refine lQ.get hR rfl (tf_5_17 hn) ?_
          rcases iteC hb9 with ⟨hc, hb9⟩ | ⟨hc, hb9⟩
          · refine lQ.cmpF rfl (decide_eq_false (Int32.not_le.mpr hc)) ?_
            refine lQ.loadN rfl rfl ?_
            refine lQ.get hR rfl (tf_5_22 hn) ?_
            refine lQ.loadI rfl rfl ?_
            refine lQ.loadN rfl rfl ?_
            refine lQ.get hR rfl (tf_5_18 hn) ?_
            refine lQ.loadI rfl rfl ?_
            obtain ⟨x2, hx, hb9⟩ := bindC hb9
            refine lQ.ald hR rfl (ta_155 hn hx) ?_
            obtain ⟨s3, hx, hb9⟩ := bindC hb9
            refine lQ.ast hR rfl (tw_156 hn hx) ?_
            rintro _ rfl
            refine lQ.loadI rfl rfl ?_
            refine lQ.loadN rfl rfl ?_
            refine lQ.get hR rfl (tf_5_18 hn) ?_
            refine lQ.loadI rfl rfl ?_
            obtain ⟨x4, hx, hb9⟩ := bindC hb9
            refine lQ.ald hR rfl (ta_155 hn hx) ?_
            refine lQ.binI rfl ?_
            refine lQ.stI rfl (lN2s rfl rfl) ?_
            refine lQ.inc rfl rfl (lN2s rfl rfl) ?_
            refine lQ.goto rfl ?_
            obtain rfl := Option.some.inj hb9
            exact lQ.sub (lSb rfl (lSb rfl (lSb rfl lSb0))) (hI9 _ rfl)
          · refine lQ.cmpT rfl (decide_eq_true (Int32.not_lt.mp hc)) ?_
            obtain rfl := Option.some.inj hb9
            obtain rfl := hX9 _ rfl
            exact lQ.sub (lSb rfl (lSb rfl lSb0)) hJ6
        · refine lQ.ifT rfl (decide_eq_true hc) ?_
          obtain rfl := Option.some.inj hy2
          exact lQ.sub (lSb rfl lSb0) (hJ2 _ rfl)
theorem ts_842 {R : lAR} (hR : lRok R) {E : lE} {ad : List Nat} (hn : tOk ad) {v1 : Int32} {s : TS} {A0 : lMem} {x : TS} (h : t_842 v1 s = some x) {Z : lZ} (hz : Z (.inl none) (tp ad x A0)) : lSQ R E 1 842 [.ref (adr ad 5), .int v1] (tp ad s A0) Z := by
  refine lQ.sq pg_842 (Nat.le_of_ble_eq_true rfl) rfl ?_
  unfold t_842 at h
  refine lQ.loadN rfl rfl ?_
  refine lQ.get hR rfl (tf_5_10 hn) ?_
  refine lQ.loadI rfl rfl ?_
  obtain ⟨x1, hx, h⟩ := bindC h
  refine lQ.ald hR rfl (ta_149 hn hx) ?_
  refine lQ.loadN rfl rfl ?_
  refine lQ.get hR rfl (tf_5_0 hn) ?_
  rcases iteC h with ⟨hc, h⟩ | ⟨hc, h⟩
  · refine lQ.cmpT rfl (decide_eq_true hc) ?_
    refine lQ.loadN rfl rfl ?_
    refine lQ.get hR rfl (tf_5_10 hn) ?_
    refine lQ.loadI rfl rfl ?_
    refine lQ.push rfl ?_
    obtain ⟨s2, hx, h⟩ := bindC h
    refine lQ.ast hR rfl (tw_149 hn hx) ?_
    rintro _ rfl
    refine lQ.loadN rfl rfl ?_
    refine lQ.get hR rfl (tf_5_26 hn) ?_
    refine lQ.push rfl ?_
    obtain ⟨v20, hy1, h1⟩ := bindC h
    have hJ1 : lQ R E 0 cd_842 20 [(0, .ref (adr ad 5)), (1, .int v1)] [.int v20] (tp ad s2 A0) Z := by
      refine lQ.stI rfl (lN2s rfl rfl) ?_
      refine lQ.loadI rfl rfl ?_
      obtain ⟨y2, hy2, h2⟩ := bindC h1
      have hJ2 : ∀ v33, y2 = .inl v33 → lQ R E 0 cd_842 33 [(0, .ref (adr ad 5)), (1, .int v1), (2, .int v20)] [] (tp ad s2 A0) Z := by
        rintro v33 rfl
        have h2 := elimC h2
        refine lQ.loadN rfl rfl ?_
        refine lQ.get hR rfl (tf_5_13 hn) ?_
        refine lQ.loadI rfl rfl ?_
        refine lQ.dup2 rfl rfl rfl ?_
        obtain ⟨x4, hx, h2⟩ := bindC h2
        refine lQ.ald hR rfl (ta_152 hn hx) ?_
        refine lQ.loadI rfl rfl ?_
        obtain ⟨v43, hy3, h3⟩ := bindC h2
        have hJ3 : lQ R E 0 cd_842 43 [(0, .ref (adr ad 5)), (1, .int v1), (2, .int v20)] [.int v43, .int x4, .int v1, .ref (adr ad 152)] (tp ad s2 A0) Z := by
          refine lQ.binI rfl ?_
          obtain ⟨s5, hx, h3⟩ := bindC h3
          refine lQ.ast hR rfl (tw_152 hn hx) ?_
          rintro _ rfl
          refine lQ.loadN rfl rfl ?_
          refine lQ.get hR rfl (tf_5_14 hn) ?_
          refine lQ.loadI rfl rfl ?_
          refine lQ.dup2 rfl rfl rfl ?_
          obtain ⟨x6, hx, h3⟩ := bindC h3
          refine lQ.ald hR rfl (ta_153 hn hx) ?_
          refine lQ.loadI rfl rfl ?_
          obtain ⟨v55, hy4, h4⟩ := bindC h3
          have hJ4 : lQ R E 0 cd_842 55 [(0, .ref (adr ad 5)), (1, .int v1)] [.int v55, .int x6, .int v1, .ref (adr ad 153)] (tp ad s5 A0) Z := by
            refine lQ.binI rfl ?_
            obtain ⟨s7, hx, h4⟩ := bindC h4
            refine lQ.ast hR rfl (tw_153 hn hx) ?_
            rintro _ rfl
            refine lQ.loadN rfl rfl ?_
            refine lQ.get hR rfl (tf_5_7 hn) ?_
            refine lQ.loadI rfl rfl ?_
            refine lQ.dup2 rfl rfl rfl ?_
            obtain ⟨x8, hx, h4⟩ := bindC h4
            refine lQ.ald hR rfl (ta_146 hn hx) ?_
            refine lQ.push rfl ?_
            refine lQ.binI rfl ?_
            obtain ⟨s9, hx, h4⟩ := bindC h4
            refine lQ.ast hR rfl (tw_146 hn hx) ?_
            rintro _ rfl
            refine lQ.push rfl ?_
            refine lQ.loadI rfl rfl ?_
            refine lQ.binI rfl ?_
            refine lQ.stI rfl (lN2n rfl) ?_
            obtain ⟨v93, hy5, h5⟩ := bindC h4
            have hJ5 : lQ R E 0 cd_842 93 [] [] (tp ad v93 A0) Z := by
              obtain rfl := Option.some.inj h5
              exact lQ.retV rfl hz
            refine lQ.sub (lSb rfl (lSb rfl (lSb rfl lSb0))) (wh_run (P := fun p69 => lQ R E 0 cd_842 69 [(0, .ref (adr ad 5)), (1, .int v1), (3, .int p69.2)] [] (tp ad p69.1 A0) Z) hy5 ?_)
            intro p69 r6 hb6 hI6 hX6
            refine lQ.loadI rfl rfl ?_
            refine lQ.push rfl ?_
            refine lQ.loadI rfl rfl ?_
            refine lQ.binI rfl ?_
            refine lQ.push rfl ?_
            refine lQ.loadN rfl rfl ?_
            refine lQ.get hR rfl (tf_5_7 hn) ?_
            refine lQ.loadI rfl rfl ?_
            obtain ⟨x10, hx, hb6⟩ := bindC hb6
            refine lQ.ald hR rfl (ta_146 hn hx) ?_
            refine lQ.binI rfl ?_
            refine lQ.binI rfl ?_
            rcases iteC hb6 with ⟨hc, hb6⟩ | ⟨hc, hb6⟩
            · refine lQ.cmpF rfl (decide_eq_false (Int32.not_le.mpr hc)) ?_
              refine lQ.loadN rfl rfl ?_
              refine lQ.get hR rfl (tf_5_8 hn) ?_
              refine lQ.loadI rfl rfl ?_
              refine lQ.loadN rfl rfl ?_
              refine lQ.get hR rfl (tf_5_8 hn) ?_
              refine lQ.loadI rfl rfl ?_
              refine lQ.push rfl ?_
              refine lQ.binI rfl ?_
              obtain ⟨x11, hx, hb6⟩ := bindC hb6
              refine lQ.ald hR rfl (ta_147 hn hx) ?_
              obtain ⟨s12, hx, hb6⟩ := bindC hb6
              refine lQ.ast hR rfl (tw_147 hn hx) ?_
              rintro _ rfl
              refine lQ.inc rfl rfl (lN2n rfl) ?_
              refine lQ.goto rfl ?_
              obtain rfl := Option.some.inj hb6
              exact lQ.sub (lSb rfl (lSb rfl (lSb rfl lSb0))) (hI6 _ rfl)
            · refine lQ.cmpT rfl (decide_eq_true (Int32.not_lt.mp hc)) ?_
              obtain rfl := Option.some.inj hb6
              obtain rfl := hX6 _ rfl
              exact lQ.sub lSb0 hJ5
          rcases iteC hy4 with ⟨hc, hy4⟩ | ⟨hc, hy4⟩
          · refine lQ.ifT rfl (decide_eq_true hc) ?_
            refine lQ.push rfl ?_
            obtain rfl := Option.some.inj hy4
            exact lQ.sub (lSb rfl (lSb rfl lSb0)) hJ4
          · refine lQ.ifF rfl (decide_eq_false hc) ?_
            refine lQ.push rfl ?_
            refine lQ.goto rfl ?_
            obtain rfl := Option.some.inj hy4
            exact lQ.sub (lSb rfl (lSb rfl lSb0)) hJ4
        rcases iteC hy3 with ⟨hc, hy3⟩ | ⟨hc, hy3⟩
        · refine lQ.ifT rfl (decide_eq_true hc) ?_
          refine lQ.push rfl ?_
          obtain rfl := Option.some.inj hy3
          exact lQ.sub (lSb rfl (lSb rfl (lSb rfl lSb0))) hJ3
        · refine lQ.ifF rfl (decide_eq_false hc) ?_
          refine lQ.push rfl ?_
          refine lQ.goto rfl ?_
          obtain rfl := Option.some.inj hy3
          exact lQ.sub (lSb rfl (lSb rfl (lSb rfl lSb0))) hJ3
      rcases iteC hy2 with ⟨hc, hy2⟩ | ⟨hc, hy2⟩
      · refine lQ.ifF rfl (decide_eq_false (fun z => z hc)) ?_
        refine lQ.loadN rfl rfl ?_
        refine lQ.get hR rfl (tf_5_8 hn) ?_
        refine lQ.push rfl ?_
        refine lQ.loadI rfl rfl ?_
        refine lQ.binI rfl ?_
        refine lQ.push rfl ?_
        refine lQ.binI rfl ?_
        obtain ⟨x3, hx, hy2⟩ := bindC hy2
        refine lQ.ald hR rfl (ta_147 hn hx) ?_
        refine lQ.push rfl ?_
        rcases iteC hy2 with ⟨hc, hy2⟩ | ⟨hc, hy2⟩
        · refine lQ.cmpF rfl (decide_eq_false (fun z => z hc)) ?_
          obtain rfl := Option.some.inj hy2
          exact lQ.sub (lSb rfl (lSb rfl (lSb rfl lSb0))) (hJ2 _ rfl)
        · refine lQ.cmpT rfl (decide_eq_true hc) ?_
          obtain rfl := Option.some.inj hy2
          obtain rfl := elimD h2
          exact lQ.retV rfl hz
      · refine lQ.ifT rfl (decide_eq_true hc) ?_
        obtain rfl := Option.some.inj hy2
        exact lQ.sub (lSb rfl (lSb rfl (lSb rfl lSb0))) (hJ2 _ rfl)
    rcases iteC hy1 with ⟨hc, hy1⟩ | ⟨hc, hy1⟩
    · refine lQ.cmpF rfl (decide_eq_false (fun z => z hc)) ?_
      refine lQ.push rfl ?_
      refine lQ.goto rfl ?_
      obtain rfl := Option.some.inj hy1
      exact lQ.sub (lSb rfl (lSb rfl lSb0)) hJ1
    · refine lQ.cmpT rfl (decide_eq_true hc) ?_
      refine lQ.push rfl ?_
      obtain rfl := Option.some.inj hy1
      exact lQ.sub (lSb rfl (lSb rfl lSb0)) hJ1
  · refine lQ.cmpF rfl (decide_eq_false hc) ?_
    obtain rfl := Option.some.inj h
    exact lQ.retV rfl hz
theorem ts_830 {R : lAR} (hR : lRok R) {E : lE} {ad : List Nat} (hn : tOk ad) {s : TS} {A0 : lMem} {x : TS} (h : t_830 s = some x) {Z : lZ} (hz : Z (.inl none) (tp ad x A0)) : lSQ R E 5 830 [.ref (adr ad 5)] (tp ad s A0) Z := by
  refine lQ.sq pg_830 (Nat.le_of_ble_eq_true rfl) rfl ?_
  unfold t_830 at h
  refine lQ.loadN rfl rfl ?_
  refine lQ.dupN rfl ?_
  refine lQ.get hR rfl (tf_5_0 hn) ?_
  refine lQ.push rfl ?_
  refine lQ.binI rfl ?_
  obtain ⟨s1, hx, h⟩ := bindC h
  refine lQ.put hR rfl rfl (tq_5_0 hn hx) ?_
  rintro _ rfl
  refine lQ.loadN rfl rfl ?_
  obtain ⟨x2, hx, h⟩ := bindC h
  refine lQ.callVI (F := (fun y A => x2 = y ∧ A = tp ad s1 A0)) (G := fun _ _ => False) (args := [.ref (adr ad 5)]) (r := []) hR rfl rfl rfl (Nat.le_of_ble_eq_true rfl) (Nat.le_of_ble_eq_true rfl) rfl (tk_5 hn rfl) (ts_831 hR hn hx (cI_mk ⟨rfl, rfl⟩)) ?_ (fun _ _ _ z => z.elim)
  rintro _ _ ⟨rfl, rfl⟩
  refine lQ.stI rfl (lN2s rfl rfl) ?_
  refine lQ.push rfl ?_
  refine lQ.stI rfl (lN2s rfl rfl) ?_
  obtain ⟨v20, hy1, h1⟩ := bindC h
  have hJ1 : lQ R E 4 cd_830 20 [(0, .ref (adr ad 5))] [] (tp ad v20 A0) Z := by
    refine lQ.loadN rfl rfl ?_
    obtain ⟨x4, hx, h1⟩ := bindC h1
    refine lQ.callVV (F := (fun A => A = tp ad x4 A0)) (G := fun _ _ => False) (args := [.ref (adr ad 5)]) (r := []) hR rfl rfl rfl (Nat.le_of_ble_eq_true rfl) (Nat.le_of_ble_eq_true rfl) rfl (tk_5 hn rfl) (ts_833 hR hn hx (cV_mk rfl)) ?_ (fun _ _ _ z => z.elim)
    rintro _ rfl
    refine lQ.loadN rfl rfl ?_
    refine lQ.get hR rfl (tf_5_2 hn) ?_
    refine lQ.loadN rfl rfl ?_
    refine lQ.get hR rfl (tf_5_0 hn) ?_
    obtain ⟨x5, hx, h1⟩ := bindC h1
    refine lQ.ald hR rfl (ta_142 hn hx) ?_
    obtain ⟨v31, hy2, h2⟩ := bindC h1
    have hJ2 : lQ R E 4 cd_830 31 [(0, .ref (adr ad 5))] [.int v31] (tp ad x4 A0) Z := by
      refine lQ.stI rfl (lN2n rfl) ?_
      refine lQ.loadN rfl rfl ?_
      refine lQ.dupN rfl ?_
      refine lQ.get hR rfl (tf_5_3 hn) ?_
      refine lQ.loadN rfl rfl ?_
      refine lQ.get hR rfl (tf_5_2 hn) ?_
      refine lQ.loadN rfl rfl ?_
      refine lQ.get hR rfl (tf_5_0 hn) ?_
      obtain ⟨x6, hx, h2⟩ := bindC h2
      refine lQ.ald hR rfl (ta_142 hn hx) ?_
      obtain ⟨v44, hy3, h3⟩ := bindC h2
      have hJ3 : lQ R E 4 cd_830 44 [(0, .ref (adr ad 5)), (2, .int v31)] [.int v44, .int (x4.1 503), .ref (adr ad 5)] (tp ad x4 A0) Z := by
        refine lQ.binI rfl ?_
        obtain ⟨s7, hx, h3⟩ := bindC h3
        refine lQ.put hR rfl rfl (tq_5_3 hn hx) ?_
        rintro _ rfl
        refine lQ.push rfl ?_
        refine lQ.stI rfl (lN2s rfl rfl) ?_
        obtain ⟨v63, hy4, h4⟩ := bindC h3
        have hJ4 : lQ R E 4 cd_830 63 [(0, .ref (adr ad 5)), (2, .int v63)] [] (tp ad s7 A0) Z := by
          refine lQ.loadN rfl rfl ?_
          refine lQ.get hR rfl (tf_5_1 hn) ?_
          refine lQ.loadN rfl rfl ?_
          refine lQ.get hR rfl (tf_5_0 hn) ?_
          refine lQ.loadI rfl rfl ?_
          obtain ⟨s9, hx, h4⟩ := bindC h4
          refine lQ.bst hR rfl (tw_141 hn hx) ?_
          rintro _ rfl
          refine lQ.push rfl ?_
          refine lQ.stI rfl (lN2s rfl rfl) ?_
          obtain ⟨v79, hy5, h5⟩ := bindC h4
          have hJ5 : lQ R E 4 cd_830 79 [(0, .ref (adr ad 5))] [] (tp ad v79 A0) Z := by
            refine lQ.loadN rfl rfl ?_
            obtain ⟨x11, hx, h5⟩ := bindC h5
            refine lQ.callVV (F := (fun A => A = tp ad x11 A0)) (G := fun _ _ => False) (args := [.ref (adr ad 5)]) (r := []) hR rfl rfl rfl (Nat.le_of_ble_eq_true rfl) (Nat.le_of_ble_eq_true rfl) rfl (tk_5 hn rfl) (ts_839 hR hn hx (cV_mk rfl)) ?_ (fun _ _ _ z => z.elim)
            rintro _ rfl
            refine lQ.push rfl ?_
            refine lQ.stI rfl (lN2n rfl) ?_
            obtain ⟨v91, hy6, h6⟩ := bindC h5
            have hJ6 : lQ R E 4 cd_830 91 [] [] (tp ad v91 A0) Z := by
              obtain rfl := Option.some.inj h6
              exact lQ.retV rfl hz
            refine lQ.sub (lSb rfl (lSb rfl lSb0)) (wh_run (P := fun p83 => lQ R E 4 cd_830 83 [(0, .ref (adr ad 5)), (3, .int p83.2)] [] (tp ad p83.1 A0) Z) hy6 ?_)
            intro p83 r7 hb7 hI7 hX7
            refine lQ.loadI rfl rfl ?_
            refine lQ.push rfl ?_
            rcases iteC hb7 with ⟨hc, hb7⟩ | ⟨hc, hb7⟩
            · refine lQ.cmpF rfl (decide_eq_false (Int32.not_le.mpr hc)) ?_
              refine lQ.loadN rfl rfl ?_
              refine lQ.loadI rfl rfl ?_
              obtain ⟨x12, hx, hb7⟩ := bindC hb7
              refine lQ.callVV (F := (fun A => A = tp ad x12 A0)) (G := fun _ _ => False) (args := [.ref (adr ad 5), .int p83.2]) (r := []) hR rfl rfl rfl (Nat.le_of_ble_eq_true rfl) (Nat.le_of_ble_eq_true rfl) rfl (tk_5 hn rfl) (ts_842 hR hn hx (cV_mk rfl)) ?_ (fun _ _ _ z => z.elim)
              rintro _ rfl
              refine lQ.inc rfl rfl (lN2n rfl) ?_
              refine lQ.goto rfl ?_
              obtain rfl := Option.some.inj hb7
              exact lQ.sub (lSb rfl (lSb rfl lSb0)) (hI7 _ rfl)
            · refine lQ.cmpT rfl (decide_eq_true (Int32.not_lt.mp hc)) ?_
              obtain rfl := Option.some.inj hb7
              obtain rfl := hX7 _ rfl
              exact lQ.sub lSb0 hJ6
          refine lQ.sub (lSb rfl (lSb rfl lSb0)) (wh_run (P := fun p71 => lQ R E 4 cd_830 71 [(0, .ref (adr ad 5)), (3, .int p71.2)] [] (tp ad p71.1 A0) Z) hy5 ?_)
          intro p71 r8 hb8 hI8 hX8
          refine lQ.loadI rfl rfl ?_
          refine lQ.push rfl ?_
          rcases iteC hb8 with ⟨hc, hb8⟩ | ⟨hc, hb8⟩
          · refine lQ.cmpF rfl (decide_eq_false (Int32.not_le.mpr hc)) ?_
            refine lQ.loadN rfl rfl ?_
            refine lQ.loadI rfl rfl ?_
            obtain ⟨x10, hx, hb8⟩ := bindC hb8
            refine lQ.callVV (F := (fun A => A = tp ad x10 A0)) (G := fun _ _ => False) (args := [.ref (adr ad 5), .int p71.2]) (r := []) hR rfl rfl rfl (Nat.le_of_ble_eq_true rfl) (Nat.le_of_ble_eq_true rfl) rfl (tk_5 hn rfl) (ts_838 hR hn hx (cV_mk rfl)) ?_ (fun _ _ _ z => z.elim)
            rintro _ rfl
            refine lQ.inc rfl rfl (lN2n rfl) ?_
            refine lQ.goto rfl ?_
            obtain rfl := Option.some.inj hb8
            exact lQ.sub (lSb rfl (lSb rfl lSb0)) (hI8 _ rfl)
          · refine lQ.cmpT rfl (decide_eq_true (Int32.not_lt.mp hc)) ?_
            obtain rfl := Option.some.inj hb8
            obtain rfl := hX8 _ rfl
            exact lQ.sub (lSb rfl lSb0) hJ5
        refine lQ.sub (lSb rfl (lSb rfl (lSb rfl lSb0))) (wh_run (P := fun p48 => lQ R E 4 cd_830 48 [(0, .ref (adr ad 5)), (2, .int p48.1), (3, .int p48.2)] [] (tp ad s7 A0) Z) hy4 ?_)
        intro p48 r9 hb9 hI9 hX9
        refine lQ.loadI rfl rfl ?_
        refine lQ.push rfl ?_
        rcases iteC hb9 with ⟨hc, hb9⟩ | ⟨hc, hb9⟩
        · refine lQ.cmpF rfl (decide_eq_false (Int32.not_le.mpr hc)) ?_
          refine lQ.loadI rfl rfl ?_
          obtain ⟨v60, hy10, h10⟩ := bindC hb9
          have hJ10 : lQ R E 4 cd_830 60 [(0, .ref (adr ad 5)), (3, .int p48.2)] [.int v60] (tp ad s7 A0) Z := by
            refine lQ.stI rfl (lN2n rfl) ?_
            refine lQ.inc rfl rfl (lN2s rfl rfl) ?_
            refine lQ.goto rfl ?_
            obtain rfl := Option.some.inj h10
            exact lQ.sub (lSb rfl (lSb rfl (lSb rfl lSb0))) (hI9 _ rfl)
          rcases iteC hy10 with ⟨hc, hy10⟩ | ⟨hc, hy10⟩
          · refine lQ.ifT rfl (decide_eq_true hc) ?_
            refine lQ.push rfl ?_
            obtain rfl := Option.some.inj hy10
            exact lQ.sub (lSb rfl (lSb rfl lSb0)) hJ10
          · refine lQ.ifF rfl (decide_eq_false hc) ?_
            refine lQ.loadN rfl rfl ?_
            refine lQ.loadI rfl rfl ?_
            obtain ⟨x8, hx, hy10⟩ := bindC hy10
            refine lQ.callVI (F := (fun y A => x8 = y ∧ A = tp ad s7 A0)) (G := fun _ _ => False) (args := [.ref (adr ad 5), .int p48.2]) (r := []) hR rfl rfl rfl (Nat.le_of_ble_eq_true rfl) (Nat.le_of_ble_eq_true rfl) rfl (tk_5 hn rfl) (ts_834 hR hn hx (cI_mk ⟨rfl, rfl⟩)) ?_ (fun _ _ _ z => z.elim)
            rintro _ _ ⟨rfl, rfl⟩
            rcases iteC hy10 with ⟨hc, hy10⟩ | ⟨hc, hy10⟩
            · refine lQ.ifT rfl (decide_eq_true hc) ?_
              refine lQ.push rfl ?_
              obtain rfl := Option.some.inj hy10
              exact lQ.sub (lSb rfl (lSb rfl lSb0)) hJ10
            · refine lQ.ifF rfl (decide_eq_false hc) ?_
              refine lQ.push rfl ?_
              refine lQ.goto rfl ?_
              obtain rfl := Option.some.inj hy10
              exact lQ.sub (lSb rfl (lSb rfl lSb0)) hJ10
        · refine lQ.cmpT rfl (decide_eq_true (Int32.not_lt.mp hc)) ?_
          obtain rfl := Option.some.inj hb9
          obtain rfl := hX9 _ rfl
          exact lQ.sub (lSb rfl (lSb rfl lSb0)) hJ4
      rcases iteC hy3 with ⟨hc, hy3⟩ | ⟨hc, hy3⟩
      · refine lQ.ifT rfl (decide_eq_true hc) ?_
        refine lQ.push rfl ?_
        obtain rfl := Option.some.inj hy3
        exact lQ.sub (lSb rfl (lSb rfl lSb0)) hJ3
      · refine lQ.ifF rfl (decide_eq_false hc) ?_
        refine lQ.push rfl ?_
        refine lQ.goto rfl ?_
        obtain rfl := Option.some.inj hy3
        exact lQ.sub (lSb rfl (lSb rfl lSb0)) hJ3
    rcases iteC hy2 with ⟨hc, hy2⟩ | ⟨hc, hy2⟩
    · refine lQ.ifF rfl (decide_eq_false (fun z => z hc)) ?_
      refine lQ.push rfl ?_
      refine lQ.goto rfl ?_
      obtain rfl := Option.some.inj hy2
      exact lQ.sub (lSb rfl lSb0) hJ2
    · refine lQ.ifT rfl (decide_eq_true hc) ?_
      refine lQ.push rfl ?_
      obtain rfl := Option.some.inj hy2
      exact lQ.sub (lSb rfl lSb0) hJ2
  refine lQ.sub (lSb rfl (lSb rfl (lSb rfl lSb0))) (wh_run (P := fun p11 => lQ R E 4 cd_830 11 [(0, .ref (adr ad 5)), (1, .int x2), (2, .int p11.2)] [] (tp ad p11.1 A0) Z) hy1 ?_)
  intro p11 r11 hb11 hI11 hX11
  refine lQ.loadI rfl rfl ?_
  refine lQ.push rfl ?_
  rcases iteC hb11 with ⟨hc, hb11⟩ | ⟨hc, hb11⟩
  · refine lQ.cmpF rfl (decide_eq_false (Int32.not_le.mpr hc)) ?_
    refine lQ.loadN rfl rfl ?_
    refine lQ.loadI rfl rfl ?_
    refine lQ.loadI rfl rfl ?_
    obtain ⟨x3, hx, hb11⟩ := bindC hb11
    refine lQ.callVV (F := (fun A => A = tp ad x3 A0)) (G := fun _ _ => False) (args := [.ref (adr ad 5), .int p11.2, .int x2]) (r := []) hR rfl rfl rfl (Nat.le_of_ble_eq_true rfl) (Nat.le_of_ble_eq_true rfl) rfl (tk_5 hn rfl) (ts_832 hR hn hx (cV_mk rfl)) ?_ (fun _ _ _ z => z.elim)
    rintro _ rfl
    refine lQ.inc rfl rfl (lN2s rfl rfl) ?_
    refine lQ.goto rfl ?_
    obtain rfl := Option.some.inj hb11
    exact lQ.sub (lSb rfl (lSb rfl (lSb rfl lSb0))) (hI11 _ rfl)
  · refine lQ.cmpT rfl (decide_eq_true (Int32.not_lt.mp hc)) ?_
    obtain rfl := Option.some.inj hb11
    obtain rfl := hX11 _ rfl
    exact lQ.sub (lSb rfl lSb0) hJ1
theorem ts_668 {R : lAR} (hR : lRok R) {E : lE} {ad : List Nat} (hn : tOk ad) {s : TS} {A0 : lMem} {x : TS} (h : t_668 s = some x) {Z : lZ} (hz : Z (.inl none) (tp ad x A0)) : lSQ R E 6 668 [.ref (adr ad 0)] (tp ad s A0) Z := by
  refine lQ.sq pg_668 (Nat.le_of_ble_eq_true rfl) rfl ?_
  unfold t_668 at h
  refine lQ.push rfl ?_
  refine lQ.stI rfl (lN2s rfl rfl) ?_
  obtain ⟨v60, hy1, h1⟩ := bindC h
  have hJ1 : lQ R E 5 cd_668 60 [] [] (tp ad v60 A0) Z := by
    obtain rfl := Option.some.inj h1
    exact lQ.retV rfl hz
  refine lQ.sub (lSb rfl (lSb rfl lSb0)) (wh_run (P := fun p2 => lQ R E 5 cd_668 2 [(0, .ref (adr ad 0)), (1, .int p2.2)] [] (tp ad p2.1 A0) Z) hy1 ?_)
  intro p2 r2 hb2 hI2 hX2
  refine lQ.loadI rfl rfl ?_
  refine lQ.push rfl ?_
  rcases iteC hb2 with ⟨hc, hb2⟩ | ⟨hc, hb2⟩
  · refine lQ.cmpF rfl (decide_eq_false (Int32.not_le.mpr hc)) ?_
    refine lQ.loadN rfl rfl ?_
    refine lQ.get hR rfl (tf_0_7 hn) ?_
    refine lQ.get hR rfl (tf_5_27 hn) ?_
    refine lQ.push rfl ?_
    obtain ⟨x1, hx, hb2⟩ := bindC hb2
    refine lQ.ald hR rfl (ta_157 hn hx) ?_
    refine lQ.stI rfl (lN2s rfl rfl) ?_
    refine lQ.loadN rfl rfl ?_
    refine lQ.get hR rfl (tf_0_7 hn) ?_
    obtain ⟨x2, hx, hb2⟩ := bindC hb2
    refine lQ.callVV (F := (fun A => A = tp ad x2 A0)) (G := fun _ _ => False) (args := [.ref (adr ad 5)]) (r := []) hR rfl rfl rfl (Nat.le_of_ble_eq_true rfl) (Nat.le_of_ble_eq_true rfl) rfl (tk_5 hn rfl) (ts_830 hR hn hx (cV_mk rfl)) ?_ (fun _ _ _ z => z.elim)
    rintro _ rfl
    refine lQ.push rfl ?_
    refine lQ.loadN rfl rfl ?_
    refine lQ.get hR rfl (tf_0_7 hn) ?_
    refine lQ.get hR rfl (tf_5_22 hn) ?_
    refine lQ.push rfl ?_
    obtain ⟨x3, hx, hb2⟩ := bindC hb2
    refine lQ.ald hR rfl (ta_156 hn hx) ?_
    refine lQ.binI rfl ?_
    refine lQ.loadN rfl rfl ?_
    refine lQ.get hR rfl (tf_0_7 hn) ?_
    refine lQ.get hR rfl (tf_5_22 hn) ?_
    refine lQ.push rfl ?_
    obtain ⟨x4, hx, hb2⟩ := bindC hb2
    refine lQ.ald hR rfl (ta_156 hn hx) ?_
    refine lQ.binI rfl ?_
    refine lQ.stI rfl (lN2s rfl rfl) ?_
    refine lQ.loadN rfl rfl ?_
    refine lQ.get hR rfl (tf_0_7 hn) ?_
    refine lQ.get hR rfl (tf_5_27 hn) ?_
    refine lQ.push rfl ?_
    obtain ⟨x5, hx, hb2⟩ := bindC hb2
    refine lQ.ald hR rfl (ta_157 hn hx) ?_
    refine lQ.loadI rfl rfl ?_
    obtain ⟨v58, hy3, h3⟩ := bindC hb2
    have hJ3 : lQ R E 5 cd_668 58 [(0, .ref (adr ad 0)), (1, .int p2.2)] [] (tp ad v58 A0) Z := by
      refine lQ.inc rfl rfl (lN2s rfl rfl) ?_
      refine lQ.goto rfl ?_
      obtain rfl := Option.some.inj h3
      exact lQ.sub (lSb rfl (lSb rfl lSb0)) (hI2 _ rfl)
    rcases iteC hy3 with ⟨hc, hy3⟩ | ⟨hc, hy3⟩
    · refine lQ.cmpF rfl (decide_eq_false (Int32.not_le.mpr hc)) ?_
      refine lQ.loadN rfl rfl ?_
      refine lQ.get hR rfl (tf_0_7 hn) ?_
      refine lQ.get hR rfl (tf_5_22 hn) ?_
      refine lQ.push rfl ?_
      obtain ⟨x6, hx, hy3⟩ := bindC hy3
      refine lQ.ald hR rfl (ta_156 hn hx) ?_
      refine lQ.push rfl ?_
      rcases iteC hy3 with ⟨hc, hy3⟩ | ⟨hc, hy3⟩
      · refine lQ.cmpF rfl (decide_eq_false (Int32.not_le.mpr hc)) ?_
        refine lQ.loadI rfl rfl ?_
        refine lQ.push rfl ?_
        rcases iteC hy3 with ⟨hc, hy3⟩ | ⟨hc, hy3⟩
        · refine lQ.cmpF rfl (decide_eq_false (Int32.not_le.mpr hc)) ?_
          refine lQ.loadI rfl rfl ?_
          refine lQ.push rfl ?_
          rcases iteC hy3 with ⟨hc, hy3⟩ | ⟨hc, hy3⟩
          · refine lQ.cmpF rfl (decide_eq_false (Int32.not_le.mpr hc)) ?_
            refine lQ.loadN rfl rfl ?_
            refine lQ.get hR rfl (tf_0_6 hn) ?_
            refine lQ.get hR rfl (tf_4_12 hn) ?_
            refine lQ.loadI rfl rfl ?_
            refine lQ.loadN rfl rfl ?_
            refine lQ.get hR rfl (tf_0_7 hn) ?_
            refine lQ.get hR rfl (tf_5_22 hn) ?_
            refine lQ.push rfl ?_
            obtain ⟨x7, hx, hy3⟩ := bindC hy3
            refine lQ.ald hR rfl (ta_156 hn hx) ?_
            obtain ⟨s8, hx, hy3⟩ := bindC hy3
            refine lQ.ast hR rfl (tw_136 hn hx) ?_
            rintro _ rfl
            obtain rfl := Option.some.inj hy3
            exact lQ.sub (lSb rfl (lSb rfl lSb0)) hJ3
          · refine lQ.cmpT rfl (decide_eq_true (Int32.not_lt.mp hc)) ?_
            obtain rfl := Option.some.inj hy3
            exact lQ.sub (lSb rfl (lSb rfl lSb0)) hJ3
        · refine lQ.cmpT rfl (decide_eq_true (Int32.not_lt.mp hc)) ?_
          obtain rfl := Option.some.inj hy3
          exact lQ.sub (lSb rfl (lSb rfl lSb0)) hJ3
      · refine lQ.cmpT rfl (decide_eq_true (Int32.not_lt.mp hc)) ?_
        obtain rfl := Option.some.inj hy3
        exact lQ.sub (lSb rfl (lSb rfl lSb0)) hJ3
    · refine lQ.cmpT rfl (decide_eq_true (Int32.not_lt.mp hc)) ?_
      obtain rfl := Option.some.inj hy3
      exact lQ.sub (lSb rfl (lSb rfl lSb0)) hJ3
  · refine lQ.cmpT rfl (decide_eq_true (Int32.not_lt.mp hc)) ?_
    obtain rfl := Option.some.inj hb2
    obtain rfl := hX2 _ rfl
    exact lQ.sub lSb0 hJ1
theorem ts_670 {R : lAR} (hR : lRok R) {E : lE} {ad : List Nat} (hn : tOk ad) {s : TS} {A0 : lMem} {x : Int32} (h : t_670 s = some x) {Z : lZ} (hz : Z (.inl (some (.int x))) (tp ad s A0)) : lSQ R E 1 670 [.ref (adr ad 0)] (tp ad s A0) Z := by
  refine lQ.sq pg_670 (Nat.le_of_ble_eq_true rfl) rfl ?_
  unfold t_670 at h
  refine lQ.push rfl ?_
  refine lQ.stI rfl (lN2s rfl rfl) ?_
  refine lQ.push rfl ?_
  refine lQ.stI rfl (lN2s rfl rfl) ?_
  obtain ⟨v84, hy1, h1⟩ := bindC h
  have hJ1 : lQ R E 0 cd_670 84 [(1, .int v84)] [] (tp ad s A0) Z := by
    refine lQ.loadI rfl rfl ?_
    obtain rfl := Option.some.inj h1
    exact lQ.retI rfl rfl hz
  refine lQ.sub (lSb rfl (lSb rfl (lSb rfl lSb0))) (wh_run (P := fun p4 => lQ R E 0 cd_670 4 [(0, .ref (adr ad 0)), (1, .int p4.1), (2, .int p4.2)] [] (tp ad s A0) Z) hy1 ?_)
  intro p4 r2 hb2 hI2 hX2
  refine lQ.loadI rfl rfl ?_
  refine lQ.loadN rfl rfl ?_
  refine lQ.get hR rfl (tf_0_27 hn) ?_
  rcases iteC hb2 with ⟨hc, hb2⟩ | ⟨hc, hb2⟩
  · refine lQ.cmpF rfl (decide_eq_false (Int32.not_le.mpr hc)) ?_
    refine lQ.loadN rfl rfl ?_
    refine lQ.get hR rfl (tf_0_59 hn) ?_
    refine lQ.loadI rfl rfl ?_
    obtain ⟨x1, hx, hb2⟩ := bindC hb2
    refine lQ.ald hR rfl (ta_49 hn hx) ?_
    obtain ⟨v40, hy3, h3⟩ := bindC hb2
    have hJ3 : lQ R E 0 cd_670 40 [(0, .ref (adr ad 0)), (1, .int p4.1), (2, .int p4.2)] [.int v40] (tp ad s A0) Z := by
      refine lQ.stI rfl (lN2s rfl rfl) ?_
      refine lQ.loadI rfl rfl ?_
      obtain ⟨v59, hy4, h4⟩ := bindC h3
      have hJ4 : lQ R E 0 cd_670 59 [(0, .ref (adr ad 0)), (1, .int p4.1), (2, .int p4.2)] [.int v59] (tp ad s A0) Z := by
        refine lQ.stI rfl (lN2n rfl) ?_
        refine lQ.loadI rfl rfl ?_
        obtain ⟨v82, hy5, h5⟩ := bindC h4
        have hJ5 : lQ R E 0 cd_670 82 [(0, .ref (adr ad 0)), (1, .int v82), (2, .int p4.2)] [] (tp ad s A0) Z := by
          refine lQ.inc rfl rfl (lN2s rfl rfl) ?_
          refine lQ.goto rfl ?_
          obtain rfl := Option.some.inj h5
          exact lQ.sub (lSb rfl (lSb rfl (lSb rfl lSb0))) (hI2 _ rfl)
        rcases iteC hy5 with ⟨hc, hy5⟩ | ⟨hc, hy5⟩
        · refine lQ.ifF rfl (decide_eq_false (Int32.not_le.mpr hc)) ?_
          refine lQ.loadI rfl rfl ?_
          obtain ⟨y6, hy6, h6⟩ := bindC hy5
          have hJ6 : ∀ v80, y6 = .inl v80 → lQ R E 0 cd_670 80 [(0, .ref (adr ad 0)), (2, .int p4.2)] [] (tp ad s A0) Z := by
            rintro v80 rfl
            have h6 := elimC h6
            refine lQ.loadI rfl rfl ?_
            refine lQ.stI rfl (lN2s rfl rfl) ?_
            obtain rfl := Option.some.inj h6
            exact lQ.sub (lSb rfl (lSb rfl (lSb rfl lSb0))) hJ5
          rcases iteC hy6 with ⟨hc, hy6⟩ | ⟨hc, hy6⟩
          · refine lQ.ifT rfl (decide_eq_true hc) ?_
            obtain rfl := Option.some.inj hy6
            exact lQ.sub (lSb rfl (lSb rfl lSb0)) (hJ6 _ rfl)
          · refine lQ.ifF rfl (decide_eq_false hc) ?_
            refine lQ.loadI rfl rfl ?_
            refine lQ.loadN rfl rfl ?_
            refine lQ.get hR rfl (tf_0_56 hn) ?_
            refine lQ.push rfl ?_
            refine lQ.loadN rfl rfl ?_
            refine lQ.get hR rfl (tf_0_32 hn) ?_
            refine lQ.loadI rfl rfl ?_
            obtain ⟨x9, hx, hy6⟩ := bindC hy6
            refine lQ.ald hR rfl (ta_26 hn hx) ?_
            refine lQ.binI rfl ?_
            refine lQ.loadN rfl rfl ?_
            refine lQ.get hR rfl (tf_0_31 hn) ?_
            refine lQ.loadI rfl rfl ?_
            obtain ⟨x10, hx, hy6⟩ := bindC hy6
            refine lQ.ald hR rfl (ta_25 hn hx) ?_
            refine lQ.binI rfl ?_
            obtain ⟨x11, hx, hy6⟩ := bindC hy6
            refine lQ.ald hR rfl (ta_46 hn hx) ?_
            rcases iteC hy6 with ⟨hc, hy6⟩ | ⟨hc, hy6⟩
            · refine lQ.cmpF rfl (decide_eq_false (Int32.not_le.mpr hc)) ?_
              obtain rfl := Option.some.inj hy6
              exact lQ.sub (lSb rfl (lSb rfl lSb0)) (hJ6 _ rfl)
            · refine lQ.cmpT rfl (decide_eq_true (Int32.not_lt.mp hc)) ?_
              obtain rfl := Option.some.inj hy6
              obtain rfl := elimD h6
              exact lQ.sub (lSb rfl (lSb rfl (lSb rfl lSb0))) hJ5
        · refine lQ.ifT rfl (decide_eq_true (Int32.not_lt.mp hc)) ?_
          obtain rfl := Option.some.inj hy5
          exact lQ.sub (lSb rfl (lSb rfl (lSb rfl lSb0))) hJ5
      rcases iteC hy4 with ⟨hc, hy4⟩ | ⟨hc, hy4⟩
      · refine lQ.ifT rfl (decide_eq_true hc) ?_
        refine lQ.push rfl ?_
        obtain rfl := Option.some.inj hy4
        exact lQ.sub (lSb rfl (lSb rfl (lSb rfl lSb0))) hJ4
      · refine lQ.ifF rfl (decide_eq_false hc) ?_
        refine lQ.loadN rfl rfl ?_
        refine lQ.get hR rfl (tf_0_56 hn) ?_
        refine lQ.push rfl ?_
        refine lQ.loadN rfl rfl ?_
        refine lQ.get hR rfl (tf_0_32 hn) ?_
        refine lQ.loadI rfl rfl ?_
        obtain ⟨x6, hx, hy4⟩ := bindC hy4
        refine lQ.ald hR rfl (ta_26 hn hx) ?_
        refine lQ.binI rfl ?_
        refine lQ.loadN rfl rfl ?_
        refine lQ.get hR rfl (tf_0_31 hn) ?_
        refine lQ.loadI rfl rfl ?_
        obtain ⟨x7, hx, hy4⟩ := bindC hy4
        refine lQ.ald hR rfl (ta_25 hn hx) ?_
        refine lQ.binI rfl ?_
        obtain ⟨x8, hx, hy4⟩ := bindC hy4
        refine lQ.ald hR rfl (ta_46 hn hx) ?_
        refine lQ.goto rfl ?_
        obtain rfl := Option.some.inj hy4
        exact lQ.sub (lSb rfl (lSb rfl (lSb rfl lSb0))) hJ4
    rcases iteC hy3 with ⟨hc, hy3⟩ | ⟨hc, hy3⟩
    · refine lQ.ifF rfl (decide_eq_false (fun z => z hc)) ?_
      refine lQ.loadN rfl rfl ?_
      refine lQ.get hR rfl (tf_0_30 hn) ?_
      refine lQ.loadI rfl rfl ?_
      obtain ⟨x2, hx, hy3⟩ := bindC hy3
      refine lQ.ald hR rfl (ta_24 hn hx) ?_
      refine lQ.loadN rfl rfl ?_
      refine lQ.get hR rfl (tf_0_9 hn) ?_
      rcases iteC hy3 with ⟨hc, hy3⟩ | ⟨hc, hy3⟩
      · refine lQ.cmpF rfl (decide_eq_false (Int32.not_le.mpr hc)) ?_
        refine lQ.loadN rfl rfl ?_
        refine lQ.get hR rfl (tf_0_33 hn) ?_
        refine lQ.loadI rfl rfl ?_
        obtain ⟨x3, hx, hy3⟩ := bindC hy3
        refine lQ.ald hR rfl (ta_27 hn hx) ?_
        rcases iteC hy3 with ⟨hc, hy3⟩ | ⟨hc, hy3⟩
        · refine lQ.ifF rfl (decide_eq_false (Int32.not_le.mpr hc)) ?_
          refine lQ.loadN rfl rfl ?_
          refine lQ.get hR rfl (tf_0_2 hn) ?_
          refine lQ.loadN rfl rfl ?_
          refine lQ.get hR rfl (tf_0_35 hn) ?_
          refine lQ.loadI rfl rfl ?_
          obtain ⟨x4, hx, hy3⟩ := bindC hy3
          refine lQ.ald hR rfl (ta_29 hn hx) ?_
          refine lQ.binI rfl ?_
          refine lQ.loadN rfl rfl ?_
          refine lQ.get hR rfl (tf_0_29 hn) ?_
          refine lQ.loadI rfl rfl ?_
          obtain ⟨x5, hx, hy3⟩ := bindC hy3
          refine lQ.ald hR rfl (ta_23 hn hx) ?_
          rcases iteC hy3 with ⟨hc, hy3⟩ | ⟨hc, hy3⟩
          · refine lQ.cmpT rfl (decide_eq_true hc) ?_
            refine lQ.push rfl ?_
            obtain rfl := Option.some.inj hy3
            exact lQ.sub (lSb rfl (lSb rfl (lSb rfl lSb0))) hJ3
          · refine lQ.cmpF rfl (decide_eq_false hc) ?_
            refine lQ.push rfl ?_
            refine lQ.goto rfl ?_
            obtain rfl := Option.some.inj hy3
            exact lQ.sub (lSb rfl (lSb rfl (lSb rfl lSb0))) hJ3
        · refine lQ.ifT rfl (decide_eq_true (Int32.not_lt.mp hc)) ?_
          refine lQ.push rfl ?_
          obtain rfl := Option.some.inj hy3
          exact lQ.sub (lSb rfl (lSb rfl (lSb rfl lSb0))) hJ3
      · refine lQ.cmpT rfl (decide_eq_true (Int32.not_lt.mp hc)) ?_
        refine lQ.push rfl ?_
        obtain rfl := Option.some.inj hy3
        exact lQ.sub (lSb rfl (lSb rfl (lSb rfl lSb0))) hJ3
    · refine lQ.ifT rfl (decide_eq_true hc) ?_
      refine lQ.push rfl ?_
      obtain rfl := Option.some.inj hy3
      exact lQ.sub (lSb rfl (lSb rfl (lSb rfl lSb0))) hJ3
  · refine lQ.cmpT rfl (decide_eq_true (Int32.not_lt.mp hc)) ?_
    obtain rfl := Option.some.inj hb2
    obtain rfl := hX2 _ rfl
    exact lQ.sub (lSb rfl lSb0) hJ1
theorem ts_672 {R : lAR} (hR : lRok R) {E : lE} {ad : List Nat} (hn : tOk ad) {v1 : Int32} {v2 : Int32} {v3 : Int32} {s : TS} {A0 : lMem} {x : Int32 × TS} (h : t_672 v1 v2 v3 s = some x) {Z : lZ} (hz : Z (.inl (some (.int x.1))) (tp ad x.2 A0)) : lSQ R E 3 672 [.ref (adr ad 0), .int v1, .int v2, .int v3] (tp ad s A0) Z := by
  refine lQ.sq pg_672 (Nat.le_of_ble_eq_true rfl) rfl ?_
  unfold t_672 at h
  refine lQ.loadN rfl rfl ?_
  refine lQ.get hR rfl (tf_0_3 hn) ?_
  refine lQ.loadI rfl rfl ?_
  refine lQ.loadI rfl rfl ?_
  refine lQ.loadI rfl rfl ?_
  obtain ⟨x1, hx, h⟩ := bindC h
  refine lQ.callVI (F := (fun y A => x1 = y ∧ A = tp ad s A0)) (G := fun _ _ => False) (args := [.ref (adr ad 1), .int v1, .int v2, .int v3]) (r := []) hR rfl rfl rfl (Nat.le_of_ble_eq_true rfl) (Nat.le_of_ble_eq_true rfl) rfl (tk_1 hn rfl) (ts_726 hR hn hx (cI_mk ⟨rfl, rfl⟩)) ?_ (fun _ _ _ z => z.elim)
  rintro _ _ ⟨rfl, rfl⟩
  refine lQ.stI rfl (lN2s rfl rfl) ?_
  refine lQ.push rfl ?_
  refine lQ.stI rfl (lN2s rfl rfl) ?_
  obtain ⟨y1, hy1, h1⟩ := bindC h
  have hJ1 : ∀ v60, y1 = .inl v60 → lQ R E 2 cd_672 60 [(4, .int x1)] [] (tp ad s A0) Z := by
    rintro v60 rfl
    have h1 := elimC h1
    refine lQ.loadI rfl rfl ?_
    rcases iteC h1 with ⟨hc, h1⟩ | ⟨hc, h1⟩
    · refine lQ.ifF rfl (decide_eq_false (Int32.not_le.mpr hc)) ?_
      refine lQ.push rfl ?_
      refine lQ.goto rfl ?_
      obtain rfl := Option.some.inj h1
      exact lQ.retI rfl rfl hz
    · refine lQ.ifT rfl (decide_eq_true (Int32.not_lt.mp hc)) ?_
      refine lQ.push rfl ?_
      obtain rfl := Option.some.inj h1
      exact lQ.retI rfl rfl hz
  obtain ⟨y2, hy2, h2⟩ := bindC hy1
  have hJ2 : ∀ v44, y2 = .inl v44 → lQ R E 2 cd_672 44 [(0, .ref (adr ad 0)), (4, .int x1), (5, .int v44)] [] (tp ad s A0) Z := by
    rintro v44 rfl
    have h2 := elimC h2
    refine lQ.loadN rfl rfl ?_
    refine lQ.get hR rfl (tf_0_58 hn) ?_
    refine lQ.push rfl ?_
    refine lQ.loadI rfl rfl ?_
    refine lQ.binI rfl ?_
    refine lQ.loadI rfl rfl ?_
    refine lQ.binI rfl ?_
    refine lQ.dup2 rfl rfl rfl ?_
    obtain ⟨x6, hx, h2⟩ := bindC h2
    refine lQ.ald hR rfl (ta_48 hn hx) ?_
    refine lQ.push rfl ?_
    refine lQ.binI rfl ?_
    obtain ⟨s7, hx, h2⟩ := bindC h2
    refine lQ.ast hR rfl (tw_48 hn hx) ?_
    rintro _ rfl
    refine lQ.push rfl ?_
    obtain rfl := Option.some.inj h2
    obtain rfl := elimD h1
    exact lQ.retI rfl rfl hz
  refine lQ.sub (lSb rfl (lSb rfl (lSb rfl (lSb rfl (lSb rfl lSb0))))) (wh_run (P := fun p9 => lQ R E 2 cd_672 9 [(0, .ref (adr ad 0)), (1, .int v1), (2, .int v2), (4, .int x1), (5, .int p9)] [] (tp ad s A0) Z) hy2 ?_)
  intro p9 r3 hb3 hI3 hX3
  refine lQ.loadI rfl rfl ?_
  rcases iteC hb3 with ⟨hc, hb3⟩ | ⟨hc, hb3⟩
  · refine lQ.ifT rfl (decide_eq_true hc) ?_
    obtain rfl := Option.some.inj hb3
    obtain rfl := hX3 _ rfl
    obtain rfl := elimD h2
    exact lQ.sub (lSb rfl lSb0) (hJ1 _ rfl)
  · refine lQ.ifF rfl (decide_eq_false hc) ?_
    refine lQ.loadI rfl rfl ?_
    refine lQ.loadN rfl rfl ?_
    refine lQ.get hR rfl (tf_0_3 hn) ?_
    refine lQ.get hR rfl (tf_1_5 hn) ?_
    refine lQ.loadI rfl rfl ?_
    obtain ⟨x2, hx, hb3⟩ := bindC hb3
    refine lQ.ald hR rfl (ta_54 hn hx) ?_
    rcases iteC hb3 with ⟨hc, hb3⟩ | ⟨hc, hb3⟩
    · refine lQ.cmpF rfl (decide_eq_false (Int32.not_le.mpr hc)) ?_
      refine lQ.loadN rfl rfl ?_
      refine lQ.get hR rfl (tf_0_3 hn) ?_
      refine lQ.loadI rfl rfl ?_
      refine lQ.loadI rfl rfl ?_
      refine lQ.loadI rfl rfl ?_
      refine lQ.loadI rfl rfl ?_
      obtain ⟨x3, hx, hb3⟩ := bindC hb3
      refine lQ.callVI (F := (fun y A => x3 = y ∧ A = tp ad s A0)) (G := fun _ _ => False) (args := [.ref (adr ad 1), .int x1, .int p9, .int v1, .int v2]) (r := []) hR rfl rfl rfl (Nat.le_of_ble_eq_true rfl) (Nat.le_of_ble_eq_true rfl) rfl (tk_1 hn rfl) (ts_727 hR hn hx (cI_mk ⟨rfl, rfl⟩)) ?_ (fun _ _ _ z => z.elim)
      rintro _ _ ⟨rfl, rfl⟩
      obtain ⟨y4, hy4, h4⟩ := bindC hb3
      have hJ4 : ∀ v58, y4 = .inl v58 → lQ R E 2 cd_672 58 [(0, .ref (adr ad 0)), (1, .int v1), (2, .int v2), (4, .int x1), (5, .int p9)] [] (tp ad s A0) Z := by
        rintro v58 rfl
        have h4 := elimC h4
        refine lQ.inc rfl rfl (lN2s rfl rfl) ?_
        refine lQ.goto rfl ?_
        obtain rfl := Option.some.inj h4
        exact lQ.sub (lSb rfl (lSb rfl (lSb rfl (lSb rfl (lSb rfl lSb0))))) (hI3 _ rfl)
      rcases iteC hy4 with ⟨hc, hy4⟩ | ⟨hc, hy4⟩
      · refine lQ.ifT rfl (decide_eq_true hc) ?_
        obtain rfl := Option.some.inj hy4
        exact lQ.sub (lSb rfl (lSb rfl (lSb rfl (lSb rfl (lSb rfl lSb0))))) (hJ4 _ rfl)
      · refine lQ.ifF rfl (decide_eq_false hc) ?_
        refine lQ.loadN rfl rfl ?_
        refine lQ.get hR rfl (tf_0_58 hn) ?_
        refine lQ.push rfl ?_
        refine lQ.loadI rfl rfl ?_
        refine lQ.binI rfl ?_
        refine lQ.loadI rfl rfl ?_
        refine lQ.binI rfl ?_
        obtain ⟨x4, hx, hy4⟩ := bindC hy4
        refine lQ.ald hR rfl (ta_48 hn hx) ?_
        refine lQ.loadN rfl rfl ?_
        refine lQ.get hR rfl (tf_0_3 hn) ?_
        refine lQ.get hR rfl (tf_1_8 hn) ?_
        refine lQ.push rfl ?_
        refine lQ.loadI rfl rfl ?_
        refine lQ.binI rfl ?_
        refine lQ.loadI rfl rfl ?_
        refine lQ.binI rfl ?_
        obtain ⟨x5, hx, hy4⟩ := bindC hy4
        refine lQ.ald hR rfl (ta_57 hn hx) ?_
        rcases iteC hy4 with ⟨hc, hy4⟩ | ⟨hc, hy4⟩
        · refine lQ.cmpF rfl (decide_eq_false (Int32.not_le.mpr hc)) ?_
          obtain rfl := Option.some.inj hy4
          obtain rfl := elimD h4
          obtain rfl := hX3 _ rfl
          exact lQ.sub (lSb rfl (lSb rfl (lSb rfl lSb0))) (hJ2 _ rfl)
        · refine lQ.cmpT rfl (decide_eq_true (Int32.not_lt.mp hc)) ?_
          obtain rfl := Option.some.inj hy4
          exact lQ.sub (lSb rfl (lSb rfl (lSb rfl (lSb rfl (lSb rfl lSb0))))) (hJ4 _ rfl)
    · refine lQ.cmpT rfl (decide_eq_true (Int32.not_lt.mp hc)) ?_
      obtain rfl := Option.some.inj hb3
      obtain rfl := hX3 _ rfl
      obtain rfl := elimD h2
      exact lQ.sub (lSb rfl lSb0) (hJ1 _ rfl)
theorem ts_671 {R : lAR} (hR : lRok R) {E : lE} {ad : List Nat} (hn : tOk ad) {v1 : Int32} {s : TS} {A0 : lMem} {x : TS} (h : t_671 v1 s = some x) {Z : lZ} (hz : Z (.inl none) (tp ad x A0)) : lSQ R E 4 671 [.ref (adr ad 0), .int v1] (tp ad s A0) Z := by
  refine lQ.sq pg_671 (Nat.le_of_ble_eq_true rfl) rfl ?_
  unfold t_671 at h
  refine lQ.loadN rfl rfl ?_
  refine lQ.get hR rfl (tf_0_56 hn) ?_
  refine lQ.push rfl ?_
  refine lQ.loadN rfl rfl ?_
  refine lQ.get hR rfl (tf_0_32 hn) ?_
  refine lQ.loadI rfl rfl ?_
  obtain ⟨x1, hx, h⟩ := bindC h
  refine lQ.ald hR rfl (ta_26 hn hx) ?_
  refine lQ.binI rfl ?_
  refine lQ.loadN rfl rfl ?_
  refine lQ.get hR rfl (tf_0_31 hn) ?_
  refine lQ.loadI rfl rfl ?_
  obtain ⟨x2, hx, h⟩ := bindC h
  refine lQ.ald hR rfl (ta_25 hn hx) ?_
  refine lQ.binI rfl ?_
  obtain ⟨x3, hx, h⟩ := bindC h
  refine lQ.ald hR rfl (ta_46 hn hx) ?_
  refine lQ.stI rfl (lN2s rfl rfl) ?_
  refine lQ.push rfl ?_
  refine lQ.stI rfl (lN2s rfl rfl) ?_
  obtain ⟨y1, hy1, h1⟩ := bindC h
  have hJ1 : ∀ v151, y1 = .inl v151 → lQ R E 3 cd_671 151 [] [] (tp ad v151 A0) Z := by
    rintro v151 rfl
    have h1 := elimC h1
    obtain rfl := Option.some.inj h1
    exact lQ.retV rfl hz
  obtain ⟨y2, hy2, h2⟩ := bindC hy1
  have hJ2 : ∀ v99, y2 = .inl v99 → lQ R E 3 cd_671 99 [(0, .ref (adr ad 0)), (1, .int v1), (4, .int v99.2.1), (5, .int v99.2.2.1), (6, .int v99.2.2.2)] [] (tp ad v99.1 A0) Z := by
    rintro v99 rfl
    have h2 := elimC h2
    refine lQ.loadN rfl rfl ?_
    refine lQ.get hR rfl (tf_0_30 hn) ?_
    refine lQ.loadI rfl rfl ?_
    refine lQ.loadI rfl rfl ?_
    obtain ⟨v115, hy3, h3⟩ := bindC h2
    have hJ3 : lQ R E 3 cd_671 115 [(0, .ref (adr ad 0)), (1, .int v1), (4, .int v99.2.1), (5, .int v99.2.2.1), (6, .int v99.2.2.2)] [.int v115, .int v1, .ref (adr ad 24)] (tp ad v99.1 A0) Z := by
      obtain ⟨s16, hx, h3⟩ := bindC h3
      refine lQ.ast hR rfl (tw_24 hn hx) ?_
      rintro _ rfl
      refine lQ.loadN rfl rfl ?_
      refine lQ.get hR rfl (tf_0_31 hn) ?_
      refine lQ.loadI rfl rfl ?_
      refine lQ.loadI rfl rfl ?_
      obtain ⟨v124, hy4, h4⟩ := bindC h3
      have hJ4 : lQ R E 3 cd_671 124 [(0, .ref (adr ad 0)), (1, .int v1), (5, .int v99.2.2.1), (6, .int v99.2.2.2)] [.int v124, .int v1, .ref (adr ad 25)] (tp ad s16 A0) Z := by
        obtain ⟨s17, hx, h4⟩ := bindC h4
        refine lQ.ast hR rfl (tw_25 hn hx) ?_
        rintro _ rfl
        refine lQ.loadN rfl rfl ?_
        refine lQ.get hR rfl (tf_0_32 hn) ?_
        refine lQ.loadI rfl rfl ?_
        refine lQ.loadI rfl rfl ?_
        obtain ⟨v133, hy5, h5⟩ := bindC h4
        have hJ5 : lQ R E 3 cd_671 133 [(0, .ref (adr ad 0)), (1, .int v1)] [.int v133, .int v1, .ref (adr ad 26)] (tp ad s17 A0) Z := by
          obtain ⟨s18, hx, h5⟩ := bindC h5
          refine lQ.ast hR rfl (tw_26 hn hx) ?_
          rintro _ rfl
          refine lQ.loadN rfl rfl ?_
          refine lQ.get hR rfl (tf_0_34 hn) ?_
          refine lQ.loadI rfl rfl ?_
          refine lQ.dup2 rfl rfl rfl ?_
          obtain ⟨x19, hx, h5⟩ := bindC h5
          refine lQ.ald hR rfl (ta_28 hn hx) ?_
          refine lQ.push rfl ?_
          refine lQ.binI rfl ?_
          obtain ⟨s20, hx, h5⟩ := bindC h5
          refine lQ.ast hR rfl (tw_28 hn hx) ?_
          rintro _ rfl
          refine lQ.loadN rfl rfl ?_
          refine lQ.get hR rfl (tf_0_35 hn) ?_
          refine lQ.loadI rfl rfl ?_
          refine lQ.loadN rfl rfl ?_
          refine lQ.get hR rfl (tf_0_2 hn) ?_
          obtain ⟨s21, hx, h5⟩ := bindC h5
          refine lQ.ast hR rfl (tw_29 hn hx) ?_
          rintro _ rfl
          obtain rfl := Option.some.inj h5
          obtain rfl := elimD h1
          exact lQ.retV rfl hz
        rcases iteC hy5 with ⟨hc, hy5⟩ | ⟨hc, hy5⟩
        · refine lQ.ifT rfl (decide_eq_true hc) ?_
          refine lQ.loadI rfl rfl ?_
          obtain rfl := Option.some.inj hy5
          exact lQ.sub (lSb rfl (lSb rfl lSb0)) hJ5
        · refine lQ.ifF rfl (decide_eq_false hc) ?_
          refine lQ.push rfl ?_
          refine lQ.goto rfl ?_
          obtain rfl := Option.some.inj hy5
          exact lQ.sub (lSb rfl (lSb rfl lSb0)) hJ5
      rcases iteC hy4 with ⟨hc, hy4⟩ | ⟨hc, hy4⟩
      · refine lQ.ifT rfl (decide_eq_true hc) ?_
        refine lQ.loadI rfl rfl ?_
        obtain rfl := Option.some.inj hy4
        exact lQ.sub (lSb rfl (lSb rfl (lSb rfl (lSb rfl lSb0)))) hJ4
      · refine lQ.ifF rfl (decide_eq_false hc) ?_
        refine lQ.push rfl ?_
        refine lQ.goto rfl ?_
        obtain rfl := Option.some.inj hy4
        exact lQ.sub (lSb rfl (lSb rfl (lSb rfl (lSb rfl lSb0)))) hJ4
    rcases iteC hy3 with ⟨hc, hy3⟩ | ⟨hc, hy3⟩
    · refine lQ.ifT rfl (decide_eq_true hc) ?_
      refine lQ.loadN rfl rfl ?_
      refine lQ.get hR rfl (tf_0_57 hn) ?_
      refine lQ.push rfl ?_
      refine lQ.loadI rfl rfl ?_
      refine lQ.binI rfl ?_
      refine lQ.loadI rfl rfl ?_
      refine lQ.binI rfl ?_
      obtain ⟨x15, hx, hy3⟩ := bindC hy3
      refine lQ.ald hR rfl (ta_47 hn hx) ?_
      obtain rfl := Option.some.inj hy3
      exact lQ.sub (lSb rfl (lSb rfl (lSb rfl (lSb rfl (lSb rfl lSb0))))) hJ3
    · refine lQ.ifF rfl (decide_eq_false hc) ?_
      refine lQ.loadN rfl rfl ?_
      refine lQ.get hR rfl (tf_0_9 hn) ?_
      refine lQ.goto rfl ?_
      obtain rfl := Option.some.inj hy3
      exact lQ.sub (lSb rfl (lSb rfl (lSb rfl (lSb rfl (lSb rfl lSb0))))) hJ3
  refine lQ.sub (lSb rfl (lSb rfl (lSb rfl (lSb rfl lSb0)))) (wh_run (P := fun p17 => lQ R E 3 cd_671 17 [(0, .ref (adr ad 0)), (1, .int v1), (2, .int x3), (3, .int p17.2)] [] (tp ad p17.1 A0) Z) hy2 ?_)
  intro p17 r6 hb6 hI6 hX6
  refine lQ.loadI rfl rfl ?_
  refine lQ.push rfl ?_
  rcases iteC hb6 with ⟨hc, hb6⟩ | ⟨hc, hb6⟩
  · refine lQ.cmpF rfl (decide_eq_false (Int32.not_le.mpr hc)) ?_
    refine lQ.loadI rfl rfl ?_
    rcases iteC hb6 with ⟨hc, hb6⟩ | ⟨hc, hb6⟩
    · refine lQ.ifF rfl (decide_eq_false (Int32.not_le.mpr hc)) ?_
      refine lQ.loadN rfl rfl ?_
      refine lQ.get hR rfl (tf_0_31 hn) ?_
      refine lQ.loadI rfl rfl ?_
      obtain ⟨x4, hx, hb6⟩ := bindC hb6
      refine lQ.ald hR rfl (ta_25 hn hx) ?_
      refine lQ.loadI rfl rfl ?_
      obtain ⟨x5, hx, hb6⟩ := bindC hb6
      refine lQ.callI (F := (fun y A => x5 = y ∧ A = tp ad p17.1 A0)) (G := fun _ _ => False) (args := [.int x4, .int p17.2]) (r := []) hR rfl rfl rfl (Nat.le_of_ble_eq_true rfl) (Nat.le_of_ble_eq_true rfl) (ts_589 hR hn hx (cI_mk ⟨rfl, rfl⟩)) ?_ (fun _ _ _ z => z.elim)
      rintro _ _ ⟨rfl, rfl⟩
      refine lQ.stI rfl (lN2s rfl rfl) ?_
      refine lQ.loadN rfl rfl ?_
      refine lQ.get hR rfl (tf_0_32 hn) ?_
      refine lQ.loadI rfl rfl ?_
      obtain ⟨x6, hx, hb6⟩ := bindC hb6
      refine lQ.ald hR rfl (ta_26 hn hx) ?_
      refine lQ.loadI rfl rfl ?_
      obtain ⟨x7, hx, hb6⟩ := bindC hb6
      refine lQ.callI (F := (fun y A => x7 = y ∧ A = tp ad p17.1 A0)) (G := fun _ _ => False) (args := [.int x6, .int p17.2]) (r := []) hR rfl rfl rfl (Nat.le_of_ble_eq_true rfl) (Nat.le_of_ble_eq_true rfl) (ts_590 hR hn hx (cI_mk ⟨rfl, rfl⟩)) ?_ (fun _ _ _ z => z.elim)
      rintro _ _ ⟨rfl, rfl⟩
      refine lQ.stI rfl (lN2s rfl rfl) ?_
      refine lQ.loadN rfl rfl ?_
      refine lQ.loadI rfl rfl ?_
      refine lQ.loadI rfl rfl ?_
      obtain ⟨x8, hx, hb6⟩ := bindC hb6
      refine lQ.callVI (F := (fun y A => x8 = y ∧ A = tp ad p17.1 A0)) (G := fun _ _ => False) (args := [.ref (adr ad 0), .int x5, .int x7]) (r := []) hR rfl rfl rfl (Nat.le_of_ble_eq_true rfl) (Nat.le_of_ble_eq_true rfl) rfl (tk_0 hn rfl) (ts_588 hR hn hx (cI_mk ⟨rfl, rfl⟩)) ?_ (fun _ _ _ z => z.elim)
      rintro _ _ ⟨rfl, rfl⟩
      refine lQ.stI rfl (lN2s rfl rfl) ?_
      refine lQ.loadI rfl rfl ?_
      obtain ⟨v53, hy7, h7⟩ := bindC hb6
      have hJ7 : lQ R E 3 cd_671 53 [(0, .ref (adr ad 0)), (1, .int v1), (2, .int x3), (3, .int p17.2), (4, .int x5), (5, .int x7), (6, .int x8)] [.int v53] (tp ad p17.1 A0) Z := by
        refine lQ.stI rfl (lN2s rfl rfl) ?_
        refine lQ.loadI rfl rfl ?_
        obtain ⟨v71, hy8, h8⟩ := bindC h7
        have hJ8 : lQ R E 3 cd_671 71 [(0, .ref (adr ad 0)), (1, .int v1), (2, .int x3), (3, .int p17.2), (4, .int x5), (5, .int x7), (6, .int x8)] [.int v71] (tp ad p17.1 A0) Z := by
          refine lQ.stI rfl (lN2n rfl) ?_
          refine lQ.loadI rfl rfl ?_
          obtain ⟨y9, hy9, h9⟩ := bindC h8
          have hJ9 : ∀ v149, y9 = .inl v149 → lQ R E 3 cd_671 149 [(0, .ref (adr ad 0)), (1, .int v1), (2, .int x3), (3, .int p17.2)] [] (tp ad v149 A0) Z := by
            rintro v149 rfl
            have h9 := elimC h9
            refine lQ.inc rfl rfl (lN2s rfl rfl) ?_
            refine lQ.goto rfl ?_
            obtain rfl := Option.some.inj h9
            exact lQ.sub (lSb rfl (lSb rfl (lSb rfl (lSb rfl lSb0)))) (hI6 _ rfl)
          rcases iteC hy9 with ⟨hc, hy9⟩ | ⟨hc, hy9⟩
          · refine lQ.ifT rfl (decide_eq_true hc) ?_
            obtain rfl := Option.some.inj hy9
            exact lQ.sub (lSb rfl (lSb rfl (lSb rfl (lSb rfl lSb0)))) (hJ9 _ rfl)
          · refine lQ.ifF rfl (decide_eq_false hc) ?_
            refine lQ.loadI rfl rfl ?_
            refine lQ.loadI rfl rfl ?_
            obtain ⟨x10, hx, hy9⟩ := bindC hy9
            refine lQ.callI (F := (fun y A => x10 = y ∧ A = tp ad p17.1 A0)) (G := fun _ _ => False) (args := [.int x5, .int x7]) (r := []) hR rfl rfl rfl (Nat.le_of_ble_eq_true rfl) (Nat.le_of_ble_eq_true rfl) (ts_569 hR hn hx (cI_mk ⟨rfl, rfl⟩)) ?_ (fun _ _ _ z => z.elim)
            rintro _ _ ⟨rfl, rfl⟩
            obtain ⟨y10, hy10, h10⟩ := bindC hy9
            have hJ10 : ∀ v87, y10 = .inl v87 → lQ R E 3 cd_671 87 [(0, .ref (adr ad 0)), (1, .int v1), (2, .int x3), (3, .int p17.2), (4, .int x5), (5, .int x7), (6, .int x8)] [] (tp ad p17.1 A0) Z := by
              rintro v87 rfl
              have h10 := elimC h10
              refine lQ.loadN rfl rfl ?_
              refine lQ.loadN rfl rfl ?_
              refine lQ.get hR rfl (tf_0_31 hn) ?_
              refine lQ.loadI rfl rfl ?_
              obtain ⟨x12, hx, h10⟩ := bindC h10
              refine lQ.ald hR rfl (ta_25 hn hx) ?_
              refine lQ.loadN rfl rfl ?_
              refine lQ.get hR rfl (tf_0_32 hn) ?_
              refine lQ.loadI rfl rfl ?_
              obtain ⟨x13, hx, h10⟩ := bindC h10
              refine lQ.ald hR rfl (ta_26 hn hx) ?_
              refine lQ.loadI rfl rfl ?_
              obtain ⟨x14, hx, h10⟩ := bindC h10
              refine lQ.callVI (F := (fun y A => x14.1 = y ∧ A = tp ad x14.2 A0)) (G := fun _ _ => False) (args := [.ref (adr ad 0), .int x12, .int x13, .int p17.2]) (r := []) hR rfl rfl rfl (Nat.le_of_ble_eq_true rfl) (Nat.le_of_ble_eq_true rfl) rfl (tk_0 hn rfl) (ts_672 hR hn hx (cI_mk ⟨rfl, rfl⟩)) ?_ (fun _ _ _ z => z.elim)
              rintro _ _ ⟨rfl, rfl⟩
              rcases iteC h10 with ⟨hc, h10⟩ | ⟨hc, h10⟩
              · refine lQ.ifT rfl (decide_eq_true hc) ?_
                obtain rfl := Option.some.inj h10
                exact lQ.sub (lSb rfl (lSb rfl (lSb rfl (lSb rfl lSb0)))) (hJ9 _ rfl)
              · refine lQ.ifF rfl (decide_eq_false hc) ?_
                obtain rfl := Option.some.inj h10
                obtain rfl := elimD h9
                obtain rfl := hX6 _ rfl
                exact lQ.sub (lSb rfl (lSb rfl (lSb rfl (lSb rfl (lSb rfl lSb0))))) (hJ2 _ rfl)
            rcases iteC hy10 with ⟨hc, hy10⟩ | ⟨hc, hy10⟩
            · refine lQ.ifT rfl (decide_eq_true hc) ?_
              obtain rfl := Option.some.inj hy10
              exact lQ.sub (lSb rfl (lSb rfl (lSb rfl (lSb rfl (lSb rfl (lSb rfl (lSb rfl lSb0))))))) (hJ10 _ rfl)
            · refine lQ.ifF rfl (decide_eq_false hc) ?_
              refine lQ.loadN rfl rfl ?_
              refine lQ.get hR rfl (tf_0_54 hn) ?_
              refine lQ.push rfl ?_
              refine lQ.loadI rfl rfl ?_
              refine lQ.binI rfl ?_
              refine lQ.loadI rfl rfl ?_
              refine lQ.binI rfl ?_
              obtain ⟨x11, hx, hy10⟩ := bindC hy10
              refine lQ.ald hR rfl (ta_44 hn hx) ?_
              rcases iteC hy10 with ⟨hc, hy10⟩ | ⟨hc, hy10⟩
              · refine lQ.ifF rfl (decide_eq_false (fun z => z hc)) ?_
                obtain rfl := Option.some.inj hy10
                exact lQ.sub (lSb rfl (lSb rfl (lSb rfl (lSb rfl (lSb rfl (lSb rfl (lSb rfl lSb0))))))) (hJ10 _ rfl)
              · refine lQ.ifT rfl (decide_eq_true hc) ?_
                obtain rfl := Option.some.inj hy10
                obtain rfl := elimD h10
                exact lQ.sub (lSb rfl (lSb rfl (lSb rfl (lSb rfl lSb0)))) (hJ9 _ rfl)
        rcases iteC hy8 with ⟨hc, hy8⟩ | ⟨hc, hy8⟩
        · refine lQ.ifT rfl (decide_eq_true hc) ?_
          refine lQ.loadI rfl rfl ?_
          rcases iteC hy8 with ⟨hc, hy8⟩ | ⟨hc, hy8⟩
          · refine lQ.ifF rfl (decide_eq_false (Int32.not_le.mpr hc)) ?_
            refine lQ.loadI rfl rfl ?_
            refine lQ.loadI rfl rfl ?_
            rcases iteC hy8 with ⟨hc, hy8⟩ | ⟨hc, hy8⟩
            · refine lQ.cmpF rfl (decide_eq_false (Int32.not_le.mpr hc)) ?_
              refine lQ.push rfl ?_
              refine lQ.goto rfl ?_
              obtain rfl := Option.some.inj hy8
              exact lQ.sub (lSb rfl (lSb rfl (lSb rfl (lSb rfl (lSb rfl (lSb rfl (lSb rfl lSb0))))))) hJ8
            · refine lQ.cmpT rfl (decide_eq_true (Int32.not_lt.mp hc)) ?_
              refine lQ.push rfl ?_
              obtain rfl := Option.some.inj hy8
              exact lQ.sub (lSb rfl (lSb rfl (lSb rfl (lSb rfl (lSb rfl (lSb rfl (lSb rfl lSb0))))))) hJ8
          · refine lQ.ifT rfl (decide_eq_true (Int32.not_lt.mp hc)) ?_
            refine lQ.push rfl ?_
            obtain rfl := Option.some.inj hy8
            exact lQ.sub (lSb rfl (lSb rfl (lSb rfl (lSb rfl (lSb rfl (lSb rfl (lSb rfl lSb0))))))) hJ8
        · refine lQ.ifF rfl (decide_eq_false hc) ?_
          refine lQ.loadI rfl rfl ?_
          refine lQ.push rfl ?_
          rcases iteC hy8 with ⟨hc, hy8⟩ | ⟨hc, hy8⟩
          · refine lQ.cmpF rfl (decide_eq_false (fun z => z hc)) ?_
            refine lQ.push rfl ?_
            refine lQ.goto rfl ?_
            obtain rfl := Option.some.inj hy8
            exact lQ.sub (lSb rfl (lSb rfl (lSb rfl (lSb rfl (lSb rfl (lSb rfl (lSb rfl lSb0))))))) hJ8
          · refine lQ.cmpT rfl (decide_eq_true hc) ?_
            refine lQ.push rfl ?_
            refine lQ.goto rfl ?_
            obtain rfl := Option.some.inj hy8
            exact lQ.sub (lSb rfl (lSb rfl (lSb rfl (lSb rfl (lSb rfl (lSb rfl (lSb rfl lSb0))))))) hJ8
      rcases iteC hy7 with ⟨hc, hy7⟩ | ⟨hc, hy7⟩
      · refine lQ.ifT rfl (decide_eq_true hc) ?_
        refine lQ.loadN rfl rfl ?_
        refine lQ.get hR rfl (tf_0_56 hn) ?_
        refine lQ.push rfl ?_
        refine lQ.loadI rfl rfl ?_
        refine lQ.binI rfl ?_
        refine lQ.loadI rfl rfl ?_
        refine lQ.binI rfl ?_
        obtain ⟨x9, hx, hy7⟩ := bindC hy7
        refine lQ.ald hR rfl (ta_46 hn hx) ?_
        obtain rfl := Option.some.inj hy7
        exact lQ.sub (lSb rfl (lSb rfl (lSb rfl (lSb rfl (lSb rfl (lSb rfl (lSb rfl lSb0))))))) hJ7
      · refine lQ.ifF rfl (decide_eq_false hc) ?_
        refine lQ.push rfl ?_
        refine lQ.goto rfl ?_
        obtain rfl := Option.some.inj hy7
        exact lQ.sub (lSb rfl (lSb rfl (lSb rfl (lSb rfl (lSb rfl (lSb rfl (lSb rfl lSb0))))))) hJ7
    · refine lQ.ifT rfl (decide_eq_true (Int32.not_lt.mp hc)) ?_
      obtain rfl := Option.some.inj hb6
      obtain rfl := hX6 _ rfl
      obtain rfl := elimD h2
      exact lQ.sub lSb0 (hJ1 _ rfl)
  · refine lQ.cmpT rfl (decide_eq_true (Int32.not_lt.mp hc)) ?_
    obtain rfl := Option.some.inj hb6
    obtain rfl := hX6 _ rfl
    obtain rfl := elimD h2
    exact lQ.sub lSb0 (hJ1 _ rfl)
theorem ts_669 {R : lAR} (hR : lRok R) {E : lE} {ad : List Nat} (hn : tOk ad) {s : TS} {A0 : lMem} {x : TS} (h : t_669 s = some x) {Z : lZ} (hz : Z (.inl none) (tp ad x A0)) : lSQ R E 5 669 [.ref (adr ad 0)] (tp ad s A0) Z := by
  refine lQ.sq pg_669 (Nat.le_of_ble_eq_true rfl) rfl ?_
  unfold t_669 at h
  refine lQ.push rfl ?_
  refine lQ.stI rfl (lN2s rfl rfl) ?_
  obtain ⟨v12, hy1, h1⟩ := bindC h
  have hJ1 : lQ R E 4 cd_669 12 [(0, .ref (adr ad 0))] [] (tp ad v12 A0) Z := by
    refine lQ.push rfl ?_
    refine lQ.stI rfl (lN2s rfl rfl) ?_
    obtain ⟨v25, hy2, h2⟩ := bindC h1
    have hJ2 : lQ R E 4 cd_669 25 [(0, .ref (adr ad 0))] [] (tp ad v25 A0) Z := by
      refine lQ.loadN rfl rfl ?_
      obtain ⟨x3, hx, h2⟩ := bindC h2
      refine lQ.callVI (F := (fun y A => x3 = y ∧ A = tp ad v25 A0)) (G := fun _ _ => False) (args := [.ref (adr ad 0)]) (r := []) hR rfl rfl rfl (Nat.le_of_ble_eq_true rfl) (Nat.le_of_ble_eq_true rfl) rfl (tk_0 hn rfl) (ts_670 hR hn hx (cI_mk ⟨rfl, rfl⟩)) ?_ (fun _ _ _ z => z.elim)
      rintro _ _ ⟨rfl, rfl⟩
      refine lQ.stI rfl (lN2s rfl rfl) ?_
      obtain ⟨v42, hy3, h3⟩ := bindC h2
      have hJ3 : lQ R E 4 cd_669 42 [] [] (tp ad v42 A0) Z := by
        obtain rfl := Option.some.inj h3
        exact lQ.retV rfl hz
      refine lQ.sub (lSb rfl (lSb rfl lSb0)) (wh_run (P := fun p28 => lQ R E 4 cd_669 28 [(0, .ref (adr ad 0)), (1, .int p28.2)] [] (tp ad p28.1 A0) Z) hy3 ?_)
      intro p28 r4 hb4 hI4 hX4
      refine lQ.loadI rfl rfl ?_
      rcases iteC hb4 with ⟨hc, hb4⟩ | ⟨hc, hb4⟩
      · refine lQ.ifT rfl (decide_eq_true hc) ?_
        obtain rfl := Option.some.inj hb4
        obtain rfl := hX4 _ rfl
        exact lQ.sub lSb0 hJ3
      · refine lQ.ifF rfl (decide_eq_false hc) ?_
        refine lQ.loadN rfl rfl ?_
        refine lQ.get hR rfl (tf_0_59 hn) ?_
        refine lQ.loadI rfl rfl ?_
        refine lQ.push rfl ?_
        obtain ⟨s4, hx, hb4⟩ := bindC hb4
        refine lQ.bst hR rfl (tw_49 hn hx) ?_
        rintro _ rfl
        refine lQ.loadN rfl rfl ?_
        refine lQ.loadI rfl rfl ?_
        obtain ⟨x5, hx, hb4⟩ := bindC hb4
        refine lQ.callVV (F := (fun A => A = tp ad x5 A0)) (G := fun _ _ => False) (args := [.ref (adr ad 0), .int p28.2]) (r := []) hR rfl rfl rfl (Nat.le_of_ble_eq_true rfl) (Nat.le_of_ble_eq_true rfl) rfl (tk_0 hn rfl) (ts_671 hR hn hx (cV_mk rfl)) ?_ (fun _ _ _ z => z.elim)
        rintro _ rfl
        refine lQ.loadN rfl rfl ?_
        obtain ⟨x6, hx, hb4⟩ := bindC hb4
        refine lQ.callVI (F := (fun y A => x6 = y ∧ A = tp ad x5 A0)) (G := fun _ _ => False) (args := [.ref (adr ad 0)]) (r := []) hR rfl rfl rfl (Nat.le_of_ble_eq_true rfl) (Nat.le_of_ble_eq_true rfl) rfl (tk_0 hn rfl) (ts_670 hR hn hx (cI_mk ⟨rfl, rfl⟩)) ?_ (fun _ _ _ z => z.elim)
        rintro _ _ ⟨rfl, rfl⟩
        refine lQ.stI rfl (lN2s rfl rfl) ?_
        refine lQ.goto rfl ?_
        obtain rfl := Option.some.inj hb4
        exact lQ.sub (lSb rfl (lSb rfl lSb0)) (hI4 _ rfl)
    refine lQ.sub (lSb rfl (lSb rfl lSb0)) (wh_run (P := fun p14 => lQ R E 4 cd_669 14 [(0, .ref (adr ad 0)), (1, .int p14.2)] [] (tp ad p14.1 A0) Z) hy2 ?_)
    intro p14 r5 hb5 hI5 hX5
    refine lQ.loadI rfl rfl ?_
    refine lQ.loadN rfl rfl ?_
    refine lQ.get hR rfl (tf_0_27 hn) ?_
    rcases iteC hb5 with ⟨hc, hb5⟩ | ⟨hc, hb5⟩
    · refine lQ.cmpF rfl (decide_eq_false (Int32.not_le.mpr hc)) ?_
      refine lQ.loadN rfl rfl ?_
      refine lQ.get hR rfl (tf_0_59 hn) ?_
      refine lQ.loadI rfl rfl ?_
      refine lQ.push rfl ?_
      obtain ⟨s2, hx, hb5⟩ := bindC hb5
      refine lQ.bst hR rfl (tw_49 hn hx) ?_
      rintro _ rfl
      refine lQ.inc rfl rfl (lN2s rfl rfl) ?_
      refine lQ.goto rfl ?_
      obtain rfl := Option.some.inj hb5
      exact lQ.sub (lSb rfl (lSb rfl lSb0)) (hI5 _ rfl)
    · refine lQ.cmpT rfl (decide_eq_true (Int32.not_lt.mp hc)) ?_
      obtain rfl := Option.some.inj hb5
      obtain rfl := hX5 _ rfl
      exact lQ.sub (lSb rfl lSb0) hJ2
  refine lQ.sub (lSb rfl (lSb rfl lSb0)) (wh_run (P := fun p2 => lQ R E 4 cd_669 2 [(0, .ref (adr ad 0)), (1, .int p2.2)] [] (tp ad p2.1 A0) Z) hy1 ?_)
  intro p2 r6 hb6 hI6 hX6
  refine lQ.loadI rfl rfl ?_
  refine lQ.push rfl ?_
  rcases iteC hb6 with ⟨hc, hb6⟩ | ⟨hc, hb6⟩
  · refine lQ.cmpF rfl (decide_eq_false (Int32.not_le.mpr hc)) ?_
    refine lQ.loadN rfl rfl ?_
    refine lQ.get hR rfl (tf_0_58 hn) ?_
    refine lQ.loadI rfl rfl ?_
    refine lQ.push rfl ?_
    obtain ⟨s1, hx, hb6⟩ := bindC hb6
    refine lQ.ast hR rfl (tw_48 hn hx) ?_
    rintro _ rfl
    refine lQ.inc rfl rfl (lN2s rfl rfl) ?_
    refine lQ.goto rfl ?_
    obtain rfl := Option.some.inj hb6
    exact lQ.sub (lSb rfl (lSb rfl lSb0)) (hI6 _ rfl)
  · refine lQ.cmpT rfl (decide_eq_true (Int32.not_lt.mp hc)) ?_
    obtain rfl := Option.some.inj hb6
    obtain rfl := hX6 _ rfl
    exact lQ.sub (lSb rfl lSb0) hJ1
theorem ts_663 {R : lAR} (hR : lRok R) {E : lE} {ad : List Nat} (hn : tOk ad) {s : TS} {A0 : lMem} {x : TS} (h : t_663 s = some x) {Z : lZ} (hz : Z (.inl none) (tp ad x A0)) : lSQ R E 7 663 [.ref (adr ad 0)] (tp ad s A0) Z := by
  refine lQ.sq pg_663 (Nat.le_of_ble_eq_true rfl) rfl ?_
  unfold t_663 at h
  refine lQ.loadN rfl rfl ?_
  refine lQ.dupN rfl ?_
  refine lQ.get hR rfl (tf_0_2 hn) ?_
  refine lQ.push rfl ?_
  refine lQ.binI rfl ?_
  obtain ⟨s1, hx, h⟩ := bindC h
  refine lQ.put hR rfl rfl (tq_0_2 hn hx) ?_
  rintro _ rfl
  refine lQ.loadN rfl rfl ?_
  refine lQ.get hR rfl (tf_0_5 hn) ?_
  refine lQ.loadN rfl rfl ?_
  refine lQ.get hR rfl (tf_0_2 hn) ?_
  obtain ⟨s2, hx, h⟩ := bindC h
  refine lQ.put hR rfl rfl (tq_3_1 hn hx) ?_
  rintro _ rfl
  refine lQ.loadN rfl rfl ?_
  refine lQ.get hR rfl (tf_0_8 hn) ?_
  refine lQ.loadN rfl rfl ?_
  refine lQ.get hR rfl (tf_0_2 hn) ?_
  obtain ⟨s3, hx, h⟩ := bindC h
  refine lQ.put hR rfl rfl (tq_6_12 hn hx) ?_
  rintro _ rfl
  refine lQ.loadN rfl rfl ?_
  refine lQ.get hR rfl (tf_0_2 hn) ?_
  refine lQ.push rfl ?_
  refine lQ.divI rfl (by decide) ?_
  obtain ⟨v23, hy1, h1⟩ := bindC h
  have hJ1 : lQ R E 6 cd_663 23 [(0, .ref (adr ad 0))] [] (tp ad v23 A0) Z := by
    refine lQ.loadN rfl rfl ?_
    obtain ⟨x5, hx, h1⟩ := bindC h1
    refine lQ.callVV (F := (fun A => A = tp ad x5 A0)) (G := fun _ _ => False) (args := [.ref (adr ad 0)]) (r := []) hR rfl rfl rfl (Nat.le_of_ble_eq_true rfl) (Nat.le_of_ble_eq_true rfl) rfl (tk_0 hn rfl) (ts_665 hR hn hx (cV_mk rfl)) ?_ (fun _ _ _ z => z.elim)
    rintro _ rfl
    refine lQ.loadN rfl rfl ?_
    refine lQ.get hR rfl (tf_0_5 hn) ?_
    refine lQ.push rfl ?_
    obtain ⟨x6, hx, h1⟩ := bindC h1
    refine lQ.callVI (F := (fun y A => x6 = y ∧ A = tp ad x5 A0)) (G := fun _ _ => False) (args := [.ref (adr ad 3), .int 0]) (r := []) hR rfl rfl rfl (Nat.le_of_ble_eq_true rfl) (Nat.le_of_ble_eq_true rfl) rfl (tk_3 hn rfl) (ts_793 hR hn hx (cI_mk ⟨rfl, rfl⟩)) ?_ (fun _ _ _ z => z.elim)
    rintro _ _ ⟨rfl, rfl⟩
    refine lQ.stI rfl (lN2s rfl rfl) ?_
    refine lQ.push rfl ?_
    refine lQ.stI rfl (lN2s rfl rfl) ?_
    obtain ⟨v52, hy2, h2⟩ := bindC h1
    have hJ2 : lQ R E 6 cd_663 52 [(0, .ref (adr ad 0))] [] (tp ad v52 A0) Z := by
      refine lQ.loadN rfl rfl ?_
      refine lQ.get hR rfl (tf_0_6 hn) ?_
      refine lQ.get hR rfl (tf_4_12 hn) ?_
      refine lQ.push rfl ?_
      refine lQ.loadN rfl rfl ?_
      obtain ⟨x10, hx, h2⟩ := bindC h2
      refine lQ.callVI (F := (fun y A => x10 = y ∧ A = tp ad v52 A0)) (G := fun _ _ => False) (args := [.ref (adr ad 0)]) (r := [.int 0, .ref (adr ad 136)]) hR rfl rfl rfl (Nat.le_of_ble_eq_true rfl) (Nat.le_of_ble_eq_true rfl) rfl (tk_0 hn rfl) (ts_667 hR hn hx (cI_mk ⟨rfl, rfl⟩)) ?_ (fun _ _ _ z => z.elim)
      rintro _ _ ⟨rfl, rfl⟩
      obtain ⟨s11, hx, h2⟩ := bindC h2
      refine lQ.ast hR rfl (tw_136 hn hx) ?_
      rintro _ rfl
      refine lQ.loadN rfl rfl ?_
      refine lQ.get hR rfl (tf_0_6 hn) ?_
      refine lQ.get hR rfl (tf_4_12 hn) ?_
      refine lQ.push rfl ?_
      refine lQ.loadN rfl rfl ?_
      refine lQ.get hR rfl (tf_0_5 hn) ?_
      refine lQ.push rfl ?_
      obtain ⟨x12, hx, h2⟩ := bindC h2
      refine lQ.callVI (F := (fun y A => x12 = y ∧ A = tp ad s11 A0)) (G := fun _ _ => False) (args := [.ref (adr ad 3), .int (-1)]) (r := [.int 1, .ref (adr ad 136)]) hR rfl rfl rfl (Nat.le_of_ble_eq_true rfl) (Nat.le_of_ble_eq_true rfl) rfl (tk_3 hn rfl) (ts_763 hR hn hx (cI_mk ⟨rfl, rfl⟩)) ?_ (fun _ _ _ z => z.elim)
      rintro _ _ ⟨rfl, rfl⟩
      obtain ⟨s13, hx, h2⟩ := bindC h2
      refine lQ.ast hR rfl (tw_136 hn hx) ?_
      rintro _ rfl
      refine lQ.loadN rfl rfl ?_
      refine lQ.get hR rfl (tf_0_6 hn) ?_
      refine lQ.get hR rfl (tf_4_12 hn) ?_
      refine lQ.push rfl ?_
      refine lQ.loadN rfl rfl ?_
      refine lQ.push rfl ?_
      obtain ⟨x14, hx, h2⟩ := bindC h2
      refine lQ.callVI (F := (fun y A => x14 = y ∧ A = tp ad s13 A0)) (G := fun _ _ => False) (args := [.ref (adr ad 0), .int (-1)]) (r := [.int 2, .ref (adr ad 136)]) hR rfl rfl rfl (Nat.le_of_ble_eq_true rfl) (Nat.le_of_ble_eq_true rfl) rfl (tk_0 hn rfl) (ts_666 hR hn hx (cI_mk ⟨rfl, rfl⟩)) ?_ (fun _ _ _ z => z.elim)
      rintro _ _ ⟨rfl, rfl⟩
      obtain ⟨s15, hx, h2⟩ := bindC h2
      refine lQ.ast hR rfl (tw_136 hn hx) ?_
      rintro _ rfl
      refine lQ.loadN rfl rfl ?_
      refine lQ.get hR rfl (tf_0_6 hn) ?_
      refine lQ.get hR rfl (tf_4_12 hn) ?_
      refine lQ.push rfl ?_
      refine lQ.loadN rfl rfl ?_
      refine lQ.get hR rfl (tf_0_8 hn) ?_
      obtain ⟨x16, hx, h2⟩ := bindC h2
      refine lQ.callVI (F := (fun y A => x16 = y ∧ A = tp ad s15 A0)) (G := fun _ _ => False) (args := [.ref (adr ad 6)]) (r := [.int 3, .ref (adr ad 136)]) hR rfl rfl rfl (Nat.le_of_ble_eq_true rfl) (Nat.le_of_ble_eq_true rfl) rfl (tk_6 hn rfl) (ts_846 hR hn hx (cI_mk ⟨rfl, rfl⟩)) ?_ (fun _ _ _ z => z.elim)
      rintro _ _ ⟨rfl, rfl⟩
      obtain ⟨s17, hx, h2⟩ := bindC h2
      refine lQ.ast hR rfl (tw_136 hn hx) ?_
      rintro _ rfl
      refine lQ.loadN rfl rfl ?_
      refine lQ.get hR rfl (tf_0_6 hn) ?_
      refine lQ.loadN rfl rfl ?_
      refine lQ.get hR rfl (tf_0_2 hn) ?_
      refine lQ.push rfl ?_
      refine lQ.divI rfl (by decide) ?_
      obtain ⟨s18, hx, h2⟩ := bindC h2
      refine lQ.put hR rfl rfl (tq_4_14 hn hx) ?_
      rintro _ rfl
      refine lQ.loadN rfl rfl ?_
      refine lQ.get hR rfl (tf_0_6 hn) ?_
      obtain ⟨x19, hx, h2⟩ := bindC h2
      refine lQ.callVV (F := (fun A => A = tp ad x19 A0)) (G := fun _ _ => False) (args := [.ref (adr ad 4)]) (r := []) hR rfl rfl rfl (Nat.le_of_ble_eq_true rfl) (Nat.le_of_ble_eq_true rfl) rfl (tk_4 hn rfl) (ts_811 hR hn hx (cV_mk rfl)) ?_ (fun _ _ _ z => z.elim)
      rintro _ rfl
      refine lQ.loadN rfl rfl ?_
      obtain ⟨x20, hx, h2⟩ := bindC h2
      refine lQ.callVV (F := (fun A => A = tp ad x20 A0)) (G := fun _ _ => False) (args := [.ref (adr ad 0)]) (r := []) hR rfl rfl rfl (Nat.le_of_ble_eq_true rfl) (Nat.le_of_ble_eq_true rfl) rfl (tk_0 hn rfl) (ts_668 hR hn hx (cV_mk rfl)) ?_ (fun _ _ _ z => z.elim)
      rintro _ rfl
      refine lQ.push rfl ?_
      refine lQ.stI rfl (lN2n rfl) ?_
      obtain ⟨v137, hy3, h3⟩ := bindC h2
      have hJ3 : lQ R E 6 cd_663 137 [(0, .ref (adr ad 0))] [] (tp ad v137 A0) Z := by
        refine lQ.loadN rfl rfl ?_
        refine lQ.get hR rfl (tf_0_5 hn) ?_
        refine lQ.push rfl ?_
        obtain ⟨x27, hx, h3⟩ := bindC h3
        refine lQ.callVI (F := (fun y A => x27 = y ∧ A = tp ad v137 A0)) (G := fun _ _ => False) (args := [.ref (adr ad 3), .int 4]) (r := []) hR rfl rfl rfl (Nat.le_of_ble_eq_true rfl) (Nat.le_of_ble_eq_true rfl) rfl (tk_3 hn rfl) (ts_763 hR hn hx (cI_mk ⟨rfl, rfl⟩)) ?_ (fun _ _ _ z => z.elim)
        rintro _ _ ⟨rfl, rfl⟩
        rcases iteC h3 with ⟨hc, h3⟩ | ⟨hc, h3⟩
        · refine lQ.ifF rfl (decide_eq_false (Int32.not_le.mpr hc)) ?_
          refine lQ.loadN rfl rfl ?_
          obtain ⟨x28, hx, h3⟩ := bindC h3
          refine lQ.callVV (F := (fun A => A = tp ad x28 A0)) (G := fun _ _ => False) (args := [.ref (adr ad 0)]) (r := []) hR rfl rfl rfl (Nat.le_of_ble_eq_true rfl) (Nat.le_of_ble_eq_true rfl) rfl (tk_0 hn rfl) (ts_669 hR hn hx (cV_mk rfl)) ?_ (fun _ _ _ z => z.elim)
          rintro _ rfl
          obtain rfl := Option.some.inj h3
          exact lQ.retV rfl hz
        · refine lQ.ifT rfl (decide_eq_true (Int32.not_lt.mp hc)) ?_
          obtain rfl := Option.some.inj h3
          exact lQ.retV rfl hz
      refine lQ.sub (lSb rfl (lSb rfl lSb0)) (wh_run (P := fun p98 => lQ R E 6 cd_663 98 [(0, .ref (adr ad 0)), (2, .int p98.2)] [] (tp ad p98.1 A0) Z) hy3 ?_)
      intro p98 r4 hb4 hI4 hX4
      refine lQ.loadI rfl rfl ?_
      refine lQ.loadN rfl rfl ?_
      refine lQ.get hR rfl (tf_0_27 hn) ?_
      rcases iteC hb4 with ⟨hc, hb4⟩ | ⟨hc, hb4⟩
      · refine lQ.cmpF rfl (decide_eq_false (Int32.not_le.mpr hc)) ?_
        refine lQ.loadN rfl rfl ?_
        refine lQ.get hR rfl (tf_0_30 hn) ?_
        refine lQ.loadI rfl rfl ?_
        obtain ⟨x21, hx, hb4⟩ := bindC hb4
        refine lQ.ald hR rfl (ta_24 hn hx) ?_
        refine lQ.loadN rfl rfl ?_
        refine lQ.get hR rfl (tf_0_9 hn) ?_
        obtain ⟨v135, hy5, h5⟩ := bindC hb4
        have hJ5 : lQ R E 6 cd_663 135 [(0, .ref (adr ad 0)), (2, .int p98.2)] [] (tp ad v135 A0) Z := by
          refine lQ.inc rfl rfl (lN2n rfl) ?_
          refine lQ.goto rfl ?_
          obtain rfl := Option.some.inj h5
          exact lQ.sub (lSb rfl (lSb rfl lSb0)) (hI4 _ rfl)
        rcases iteC hy5 with ⟨hc, hy5⟩ | ⟨hc, hy5⟩
        · refine lQ.cmpF rfl (decide_eq_false (Int32.not_le.mpr hc)) ?_
          refine lQ.loadN rfl rfl ?_
          refine lQ.get hR rfl (tf_0_33 hn) ?_
          refine lQ.loadI rfl rfl ?_
          obtain ⟨x22, hx, hy5⟩ := bindC hy5
          refine lQ.ald hR rfl (ta_27 hn hx) ?_
          rcases iteC hy5 with ⟨hc, hy5⟩ | ⟨hc, hy5⟩
          · refine lQ.ifF rfl (decide_eq_false (Int32.not_le.mpr hc)) ?_
            refine lQ.loadN rfl rfl ?_
            refine lQ.get hR rfl (tf_0_54 hn) ?_
            refine lQ.push rfl ?_
            refine lQ.loadN rfl rfl ?_
            refine lQ.get hR rfl (tf_0_32 hn) ?_
            refine lQ.loadI rfl rfl ?_
            obtain ⟨x23, hx, hy5⟩ := bindC hy5
            refine lQ.ald hR rfl (ta_26 hn hx) ?_
            refine lQ.binI rfl ?_
            refine lQ.loadN rfl rfl ?_
            refine lQ.get hR rfl (tf_0_31 hn) ?_
            refine lQ.loadI rfl rfl ?_
            obtain ⟨x24, hx, hy5⟩ := bindC hy5
            refine lQ.ald hR rfl (ta_25 hn hx) ?_
            refine lQ.binI rfl ?_
            obtain ⟨x25, hx, hy5⟩ := bindC hy5
            refine lQ.ald hR rfl (ta_44 hn hx) ?_
            rcases iteC hy5 with ⟨hc, hy5⟩ | ⟨hc, hy5⟩
            · refine lQ.ifT rfl (decide_eq_true hc) ?_
              obtain rfl := Option.some.inj hy5
              exact lQ.sub (lSb rfl (lSb rfl lSb0)) hJ5
            · refine lQ.ifF rfl (decide_eq_false hc) ?_
              refine lQ.loadN rfl rfl ?_
              refine lQ.get hR rfl (tf_0_33 hn) ?_
              refine lQ.loadI rfl rfl ?_
              refine lQ.loadN rfl rfl ?_
              refine lQ.get hR rfl (tf_0_2 hn) ?_
              obtain ⟨s26, hx, hy5⟩ := bindC hy5
              refine lQ.ast hR rfl (tw_27 hn hx) ?_
              rintro _ rfl
              obtain rfl := Option.some.inj hy5
              exact lQ.sub (lSb rfl (lSb rfl lSb0)) hJ5
          · refine lQ.ifT rfl (decide_eq_true (Int32.not_lt.mp hc)) ?_
            obtain rfl := Option.some.inj hy5
            exact lQ.sub (lSb rfl (lSb rfl lSb0)) hJ5
        · refine lQ.cmpT rfl (decide_eq_true (Int32.not_lt.mp hc)) ?_
          obtain rfl := Option.some.inj hy5
          exact lQ.sub (lSb rfl (lSb rfl lSb0)) hJ5
      · refine lQ.cmpT rfl (decide_eq_true (Int32.not_lt.mp hc)) ?_
        obtain rfl := Option.some.inj hb4
        obtain rfl := hX4 _ rfl
        exact lQ.sub (lSb rfl lSb0) hJ3
    refine lQ.sub (lSb rfl (lSb rfl (lSb rfl lSb0))) (wh_run (P := fun p32 => lQ R E 6 cd_663 32 [(0, .ref (adr ad 0)), (1, .int p32.2.1), (2, .int p32.2.2)] [] (tp ad p32.1 A0) Z) hy2 ?_)
    intro p32 r6 hb6 hI6 hX6
    refine lQ.loadI rfl rfl ?_
    rcases iteC hb6 with ⟨hc, hb6⟩ | ⟨hc, hb6⟩
    · refine lQ.ifT rfl (decide_eq_true hc) ?_
      obtain rfl := Option.some.inj hb6
      obtain rfl := hX6 _ rfl
      exact lQ.sub (lSb rfl lSb0) hJ2
    · refine lQ.ifF rfl (decide_eq_false hc) ?_
      refine lQ.loadN rfl rfl ?_
      refine lQ.get hR rfl (tf_0_5 hn) ?_
      refine lQ.loadI rfl rfl ?_
      obtain ⟨x7, hx, hb6⟩ := bindC hb6
      refine lQ.callVI (F := (fun y A => x7.1 = y ∧ A = tp ad x7.2 A0)) (G := fun _ _ => False) (args := [.ref (adr ad 3), .int p32.2.1]) (r := []) hR rfl rfl rfl (Nat.le_of_ble_eq_true rfl) (Nat.le_of_ble_eq_true rfl) rfl (tk_3 hn rfl) (ts_804 hR hn hx (cI_mk ⟨rfl, rfl⟩)) ?_ (fun _ _ _ z => z.elim)
      rintro _ _ ⟨rfl, rfl⟩
      refine lQ.stI rfl (lN2s rfl rfl) ?_
      refine lQ.loadI rfl rfl ?_
      obtain ⟨v45, hy7, h7⟩ := bindC hb6
      have hJ7 : lQ R E 6 cd_663 45 [(0, .ref (adr ad 0)), (2, .int p32.2.2)] [] (tp ad v45 A0) Z := by
        refine lQ.loadN rfl rfl ?_
        refine lQ.get hR rfl (tf_0_5 hn) ?_
        refine lQ.loadI rfl rfl ?_
        obtain ⟨x9, hx, h7⟩ := bindC h7
        refine lQ.callVI (F := (fun y A => x9 = y ∧ A = tp ad v45 A0)) (G := fun _ _ => False) (args := [.ref (adr ad 3), .int p32.2.2]) (r := []) hR rfl rfl rfl (Nat.le_of_ble_eq_true rfl) (Nat.le_of_ble_eq_true rfl) rfl (tk_3 hn rfl) (ts_793 hR hn hx (cI_mk ⟨rfl, rfl⟩)) ?_ (fun _ _ _ z => z.elim)
        rintro _ _ ⟨rfl, rfl⟩
        refine lQ.stI rfl (lN2s rfl rfl) ?_
        refine lQ.inc rfl rfl (lN2s rfl rfl) ?_
        refine lQ.goto rfl ?_
        obtain rfl := Option.some.inj h7
        exact lQ.sub (lSb rfl (lSb rfl (lSb rfl lSb0))) (hI6 _ rfl)
      rcases iteC hy7 with ⟨hc, hy7⟩ | ⟨hc, hy7⟩
      · refine lQ.ifT rfl (decide_eq_true hc) ?_
        obtain rfl := Option.some.inj hy7
        exact lQ.sub (lSb rfl (lSb rfl lSb0)) hJ7
      · refine lQ.ifF rfl (decide_eq_false hc) ?_
        refine lQ.loadN rfl rfl ?_
        refine lQ.loadI rfl rfl ?_
        refine lQ.loadI rfl rfl ?_
        obtain ⟨x8, hx, hy7⟩ := bindC hy7
        refine lQ.callVV (F := (fun A => A = tp ad x8 A0)) (G := fun _ _ => False) (args := [.ref (adr ad 0), .int p32.2.1, .int x7.1]) (r := []) hR rfl rfl rfl (Nat.le_of_ble_eq_true rfl) (Nat.le_of_ble_eq_true rfl) rfl (tk_0 hn rfl) (ts_628 hR hn hx (cV_mk rfl)) ?_ (fun _ _ _ z => z.elim)
        rintro _ rfl
        obtain rfl := Option.some.inj hy7
        exact lQ.sub (lSb rfl (lSb rfl lSb0)) hJ7
  rcases iteC hy1 with ⟨hc, hy1⟩ | ⟨hc, hy1⟩
  · refine lQ.ifF rfl (decide_eq_false (fun z => z hc)) ?_
    refine lQ.loadN rfl rfl ?_
    obtain ⟨x4, hx, hy1⟩ := bindC hy1
    refine lQ.callVV (F := (fun A => A = tp ad x4 A0)) (G := fun _ _ => False) (args := [.ref (adr ad 0)]) (r := []) hR rfl rfl rfl (Nat.le_of_ble_eq_true rfl) (Nat.le_of_ble_eq_true rfl) rfl (tk_0 hn rfl) (ts_664 hR hn hx (cV_mk rfl)) ?_ (fun _ _ _ z => z.elim)
    rintro _ rfl
    obtain rfl := Option.some.inj hy1
    exact lQ.sub (lSb rfl lSb0) hJ1
  · refine lQ.ifT rfl (decide_eq_true hc) ?_
    obtain rfl := Option.some.inj hy1
    exact lQ.sub (lSb rfl lSb0) hJ1
theorem ts_662 {R : lAR} (hR : lRok R) {E : lE} {ad : List Nat} (hn : tOk ad) {v1 : Int32} {s : TS} {A0 : lMem} {x : Int32 × TS} (h : t_662 v1 s = some x) {Z : lZ} (hz : Z (.inl (some (.int x.1))) (tp ad x.2 A0)) : lSQ R E 8 662 [.ref (adr ad 0), .int v1] (tp ad s A0) Z := by
  refine lQ.sq pg_662 (Nat.le_of_ble_eq_true rfl) rfl ?_
  unfold t_662 at h
  refine lQ.loadN rfl rfl ?_
  refine lQ.loadI rfl rfl ?_
  refine lQ.push rfl ?_
  obtain ⟨v10, hy1, h1⟩ := bindC h
  have hJ1 : lQ R E 7 cd_662 10 [(0, .ref (adr ad 0)), (1, .int v1)] [.int v10, .ref (adr ad 0)] (tp ad s A0) Z := by
    refine lQ.loadN rfl rfl ?_
    refine lQ.get hR rfl (tf_0_1 hn) ?_
    obtain ⟨v22, hy2, h2⟩ := bindC h1
    have hJ2 : lQ R E 7 cd_662 22 [(0, .ref (adr ad 0)), (1, .int v1)] [.int v22, .int v10, .ref (adr ad 0)] (tp ad s A0) Z := by
      obtain ⟨x1, hx, h2⟩ := bindC h2
      refine lQ.callVI (F := (fun y A => x1.1 = y ∧ A = tp ad x1.2 A0)) (G := fun _ _ => False) (args := [.ref (adr ad 0), .int v10, .int v22]) (r := []) hR rfl rfl rfl (Nat.le_of_ble_eq_true rfl) (Nat.le_of_ble_eq_true rfl) rfl (tk_0 hn rfl) (ts_558 hR hn hx (cI_mk ⟨rfl, rfl⟩)) ?_ (fun _ _ _ z => z.elim)
      rintro _ _ ⟨rfl, rfl⟩
      rcases iteC h2 with ⟨hc, h2⟩ | ⟨hc, h2⟩
      · refine lQ.ifF rfl (decide_eq_false (fun z => z hc)) ?_
        refine lQ.push rfl ?_
        obtain rfl := Option.some.inj h2
        exact lQ.retI rfl rfl hz
      · refine lQ.ifT rfl (decide_eq_true hc) ?_
        refine lQ.push rfl ?_
        refine lQ.stI rfl (lN2s rfl rfl) ?_
        obtain ⟨v35, hy3, h3⟩ := bindC h2
        have hJ3 : lQ R E 7 cd_662 35 [(0, .ref (adr ad 0))] [] (tp ad v35 A0) Z := by
          refine lQ.loadN rfl rfl ?_
          refine lQ.get hR rfl (tf_0_2 hn) ?_
          obtain rfl := Option.some.inj h3
          exact lQ.retI rfl rfl hz
        refine lQ.sub (lSb rfl (lSb rfl (lSb rfl lSb0))) (wh_run (P := fun p28 => lQ R E 7 cd_662 28 [(0, .ref (adr ad 0)), (1, .int v1), (2, .int p28.2)] [] (tp ad p28.1 A0) Z) hy3 ?_)
        intro p28 r4 hb4 hI4 hX4
        refine lQ.loadI rfl rfl ?_
        refine lQ.loadI rfl rfl ?_
        rcases iteC hb4 with ⟨hc, hb4⟩ | ⟨hc, hb4⟩
        · refine lQ.cmpF rfl (decide_eq_false (Int32.not_le.mpr hc)) ?_
          refine lQ.loadN rfl rfl ?_
          obtain ⟨x2, hx, hb4⟩ := bindC hb4
          refine lQ.callVV (F := (fun A => A = tp ad x2 A0)) (G := fun _ _ => False) (args := [.ref (adr ad 0)]) (r := []) hR rfl rfl rfl (Nat.le_of_ble_eq_true rfl) (Nat.le_of_ble_eq_true rfl) rfl (tk_0 hn rfl) (ts_663 hR hn hx (cV_mk rfl)) ?_ (fun _ _ _ z => z.elim)
          rintro _ rfl
          refine lQ.inc rfl rfl (lN2s rfl rfl) ?_
          refine lQ.goto rfl ?_
          obtain rfl := Option.some.inj hb4
          exact lQ.sub (lSb rfl (lSb rfl (lSb rfl lSb0))) (hI4 _ rfl)
        · refine lQ.cmpT rfl (decide_eq_true (Int32.not_lt.mp hc)) ?_
          obtain rfl := Option.some.inj hb4
          obtain rfl := hX4 _ rfl
          exact lQ.sub (lSb rfl lSb0) hJ3
    rcases iteC hy2 with ⟨hc, hy2⟩ | ⟨hc, hy2⟩
    · refine lQ.ifT rfl (decide_eq_true hc) ?_
      refine lQ.push rfl ?_
      obtain rfl := Option.some.inj hy2
      exact lQ.sub (lSb rfl (lSb rfl lSb0)) hJ2
    · refine lQ.ifF rfl (decide_eq_false hc) ?_
      refine lQ.loadN rfl rfl ?_
      refine lQ.get hR rfl (tf_0_2 hn) ?_
      refine lQ.loadI rfl rfl ?_
      refine lQ.binI rfl ?_
      refine lQ.push rfl ?_
      rcases iteC hy2 with ⟨hc, hy2⟩ | ⟨hc, hy2⟩
      · refine lQ.cmpT rfl (decide_eq_true hc) ?_
        refine lQ.push rfl ?_
        obtain rfl := Option.some.inj hy2
        exact lQ.sub (lSb rfl (lSb rfl lSb0)) hJ2
      · refine lQ.cmpF rfl (decide_eq_false hc) ?_
        refine lQ.push rfl ?_
        refine lQ.goto rfl ?_
        obtain rfl := Option.some.inj hy2
        exact lQ.sub (lSb rfl (lSb rfl lSb0)) hJ2
  rcases iteC hy1 with ⟨hc, hy1⟩ | ⟨hc, hy1⟩
  · refine lQ.cmpT rfl (decide_eq_true hc) ?_
    refine lQ.push rfl ?_
    obtain rfl := Option.some.inj hy1
    exact lQ.sub (lSb rfl (lSb rfl lSb0)) hJ1
  · refine lQ.cmpF rfl (decide_eq_false hc) ?_
    refine lQ.loadI rfl rfl ?_
    refine lQ.push rfl ?_
    rcases iteC hy1 with ⟨hc, hy1⟩ | ⟨hc, hy1⟩
    · refine lQ.cmpT rfl (decide_eq_true hc) ?_
      refine lQ.push rfl ?_
      obtain rfl := Option.some.inj hy1
      exact lQ.sub (lSb rfl (lSb rfl lSb0)) hJ1
    · refine lQ.cmpF rfl (decide_eq_false hc) ?_
      refine lQ.push rfl ?_
      refine lQ.goto rfl ?_
      obtain rfl := Option.some.inj hy1
      exact lQ.sub (lSb rfl (lSb rfl lSb0)) hJ1
theorem ts_673 {R : lAR} (hR : lRok R) {E : lE} {ad : List Nat} (hn : tOk ad) {v1 : Int32} {s : TS} {A0 : lMem} {x : Int32 × TS} (h : t_673 v1 s = some x) {Z : lZ} (hz : Z (.inl (some (.int x.1))) (tp ad x.2 A0)) : lSQ R E 3 673 [.ref (adr ad 0), .int v1] (tp ad s A0) Z := by
  refine lQ.sq pg_673 (Nat.le_of_ble_eq_true rfl) rfl ?_
  unfold t_673 at h
  refine lQ.loadN rfl rfl ?_
  refine lQ.loadI rfl rfl ?_
  refine lQ.push rfl ?_
  obtain ⟨x1, hx, h⟩ := bindC h
  refine lQ.callI (F := (fun y A => x1 = y ∧ A = tp ad s A0)) (G := fun _ _ => False) (args := [.int v1, .int 9]) (r := [.ref (adr ad 0)]) hR rfl rfl rfl (Nat.le_of_ble_eq_true rfl) (Nat.le_of_ble_eq_true rfl) (ts_560 hR hn hx (cI_mk ⟨rfl, rfl⟩)) ?_ (fun _ _ _ z => z.elim)
  rintro _ _ ⟨rfl, rfl⟩
  refine lQ.loadN rfl rfl ?_
  refine lQ.get hR rfl (tf_0_1 hn) ?_
  obtain ⟨x2, hx, h⟩ := bindC h
  refine lQ.callVI (F := (fun y A => x2.1 = y ∧ A = tp ad x2.2 A0)) (G := fun _ _ => False) (args := [.ref (adr ad 0), .int x1, .int (s.1 1)]) (r := []) hR rfl rfl rfl (Nat.le_of_ble_eq_true rfl) (Nat.le_of_ble_eq_true rfl) rfl (tk_0 hn rfl) (ts_558 hR hn hx (cI_mk ⟨rfl, rfl⟩)) ?_ (fun _ _ _ z => z.elim)
  rintro _ _ ⟨rfl, rfl⟩
  rcases iteC h with ⟨hc, h⟩ | ⟨hc, h⟩
  · refine lQ.ifF rfl (decide_eq_false (fun z => z hc)) ?_
    refine lQ.push rfl ?_
    obtain rfl := Option.some.inj h
    exact lQ.retI rfl rfl hz
  · refine lQ.ifT rfl (decide_eq_true hc) ?_
    refine lQ.loadI rfl rfl ?_
    rcases iteC h with ⟨hc, h⟩ | ⟨hc, h⟩
    · refine lQ.sw (j := 12) rfl (by unfold swT; rw [hc]; rfl) ?_
      refine lQ.loadN rfl rfl ?_
      refine lQ.get hR rfl (tf_0_10 hn) ?_
      obtain rfl := Option.some.inj h
      exact lQ.retI rfl rfl hz
    · have e0 := hc
      rcases iteC h with ⟨hc, h⟩ | ⟨hc, h⟩
      · refine lQ.sw (j := 15) rfl (by unfold swT; rw [hc]; rfl) ?_
        refine lQ.loadN rfl rfl ?_
        obtain ⟨x9, hx, h⟩ := bindC h
        refine lQ.callVI (F := (fun y A => x9 = y ∧ A = tp ad x2.2 A0)) (G := fun _ _ => False) (args := [.ref (adr ad 0)]) (r := []) hR rfl rfl rfl (Nat.le_of_ble_eq_true rfl) (Nat.le_of_ble_eq_true rfl) rfl (tk_0 hn rfl) (ts_667 hR hn hx (cI_mk ⟨rfl, rfl⟩)) ?_ (fun _ _ _ z => z.elim)
        rintro _ _ ⟨rfl, rfl⟩
        obtain rfl := Option.some.inj h
        exact lQ.retI rfl rfl hz
      · have e1 := hc
        rcases iteC h with ⟨hc, h⟩ | ⟨hc, h⟩
        · refine lQ.sw (j := 18) rfl (by unfold swT; rw [hc]; rfl) ?_
          refine lQ.loadN rfl rfl ?_
          refine lQ.get hR rfl (tf_0_5 hn) ?_
          refine lQ.push rfl ?_
          obtain ⟨x8, hx, h⟩ := bindC h
          refine lQ.callVI (F := (fun y A => x8 = y ∧ A = tp ad x2.2 A0)) (G := fun _ _ => False) (args := [.ref (adr ad 3), .int (-1)]) (r := []) hR rfl rfl rfl (Nat.le_of_ble_eq_true rfl) (Nat.le_of_ble_eq_true rfl) rfl (tk_3 hn rfl) (ts_763 hR hn hx (cI_mk ⟨rfl, rfl⟩)) ?_ (fun _ _ _ z => z.elim)
          rintro _ _ ⟨rfl, rfl⟩
          obtain rfl := Option.some.inj h
          exact lQ.retI rfl rfl hz
        · have e2 := hc
          rcases iteC h with ⟨hc, h⟩ | ⟨hc, h⟩
          · refine lQ.sw (j := 23) rfl (by unfold swT; rw [hc]; rfl) ?_
            refine lQ.loadN rfl rfl ?_
            refine lQ.push rfl ?_
            obtain ⟨x7, hx, h⟩ := bindC h
            refine lQ.callVI (F := (fun y A => x7 = y ∧ A = tp ad x2.2 A0)) (G := fun _ _ => False) (args := [.ref (adr ad 0), .int (-1)]) (r := []) hR rfl rfl rfl (Nat.le_of_ble_eq_true rfl) (Nat.le_of_ble_eq_true rfl) rfl (tk_0 hn rfl) (ts_666 hR hn hx (cI_mk ⟨rfl, rfl⟩)) ?_ (fun _ _ _ z => z.elim)
            rintro _ _ ⟨rfl, rfl⟩
            obtain rfl := Option.some.inj h
            exact lQ.retI rfl rfl hz
          · have e3 := hc
            rcases iteC h with ⟨hc, h⟩ | ⟨hc, h⟩
            · refine lQ.sw (j := 27) rfl (by unfold swT; rw [hc]; rfl) ?_
              refine lQ.loadN rfl rfl ?_
              refine lQ.get hR rfl (tf_0_8 hn) ?_
              obtain ⟨x6, hx, h⟩ := bindC h
              refine lQ.callVI (F := (fun y A => x6 = y ∧ A = tp ad x2.2 A0)) (G := fun _ _ => False) (args := [.ref (adr ad 6)]) (r := []) hR rfl rfl rfl (Nat.le_of_ble_eq_true rfl) (Nat.le_of_ble_eq_true rfl) rfl (tk_6 hn rfl) (ts_846 hR hn hx (cI_mk ⟨rfl, rfl⟩)) ?_ (fun _ _ _ z => z.elim)
              rintro _ _ ⟨rfl, rfl⟩
              obtain rfl := Option.some.inj h
              exact lQ.retI rfl rfl hz
            · have e4 := hc
              rcases iteC h with ⟨hc, h⟩ | ⟨hc, h⟩
              · refine lQ.sw (j := 31) rfl (by unfold swT; rw [hc]; rfl) ?_
                refine lQ.loadN rfl rfl ?_
                obtain ⟨x5, hx, h⟩ := bindC h
                refine lQ.callVI (F := (fun y A => x5 = y ∧ A = tp ad x2.2 A0)) (G := fun _ _ => False) (args := [.ref (adr ad 0)]) (r := []) hR rfl rfl rfl (Nat.le_of_ble_eq_true rfl) (Nat.le_of_ble_eq_true rfl) rfl (tk_0 hn rfl) (ts_608 hR hn hx (cI_mk ⟨rfl, rfl⟩)) ?_ (fun _ _ _ z => z.elim)
                rintro _ _ ⟨rfl, rfl⟩
                rcases iteC h with ⟨hc, h⟩ | ⟨hc, h⟩
                · refine lQ.ifT rfl (decide_eq_true hc) ?_
                  refine lQ.push rfl ?_
                  obtain rfl := Option.some.inj h
                  exact lQ.retI rfl rfl hz
                · refine lQ.ifF rfl (decide_eq_false hc) ?_
                  refine lQ.push rfl ?_
                  refine lQ.goto rfl ?_
                  obtain rfl := Option.some.inj h
                  exact lQ.retI rfl rfl hz
              · have e5 := hc
                rcases iteC h with ⟨hc, h⟩ | ⟨hc, h⟩
                · refine lQ.sw (j := 38) rfl (by unfold swT; rw [hc]; rfl) ?_
                  refine lQ.loadN rfl rfl ?_
                  refine lQ.get hR rfl (tf_0_5 hn) ?_
                  refine lQ.push rfl ?_
                  obtain ⟨x4, hx, h⟩ := bindC h
                  refine lQ.callVI (F := (fun y A => x4 = y ∧ A = tp ad x2.2 A0)) (G := fun _ _ => False) (args := [.ref (adr ad 3), .int 1]) (r := []) hR rfl rfl rfl (Nat.le_of_ble_eq_true rfl) (Nat.le_of_ble_eq_true rfl) rfl (tk_3 hn rfl) (ts_763 hR hn hx (cI_mk ⟨rfl, rfl⟩)) ?_ (fun _ _ _ z => z.elim)
                  rintro _ _ ⟨rfl, rfl⟩
                  rcases iteC h with ⟨hc, h⟩ | ⟨hc, h⟩
                  · refine lQ.ifF rfl (decide_eq_false (Int32.not_le.mpr hc)) ?_
                    refine lQ.push rfl ?_
                    refine lQ.goto rfl ?_
                    obtain rfl := Option.some.inj h
                    exact lQ.retI rfl rfl hz
                  · refine lQ.ifT rfl (decide_eq_true (Int32.not_lt.mp hc)) ?_
                    refine lQ.push rfl ?_
                    obtain rfl := Option.some.inj h
                    exact lQ.retI rfl rfl hz
                · have e6 := hc
                  rcases iteC h with ⟨hc, h⟩ | ⟨hc, h⟩
                  · refine lQ.sw (j := 47) rfl (by unfold swT; rw [hc]; rfl) ?_
                    refine lQ.loadN rfl rfl ?_
                    refine lQ.get hR rfl (tf_0_5 hn) ?_
                    refine lQ.push rfl ?_
                    obtain ⟨x3, hx, h⟩ := bindC h
                    refine lQ.callVI (F := (fun y A => x3 = y ∧ A = tp ad x2.2 A0)) (G := fun _ _ => False) (args := [.ref (adr ad 3), .int 4]) (r := []) hR rfl rfl rfl (Nat.le_of_ble_eq_true rfl) (Nat.le_of_ble_eq_true rfl) rfl (tk_3 hn rfl) (ts_763 hR hn hx (cI_mk ⟨rfl, rfl⟩)) ?_ (fun _ _ _ z => z.elim)
                    rintro _ _ ⟨rfl, rfl⟩
                    rcases iteC h with ⟨hc, h⟩ | ⟨hc, h⟩
                    · refine lQ.ifF rfl (decide_eq_false (Int32.not_le.mpr hc)) ?_
                      refine lQ.push rfl ?_
                      refine lQ.goto rfl ?_
                      obtain rfl := Option.some.inj h
                      exact lQ.retI rfl rfl hz
                    · refine lQ.ifT rfl (decide_eq_true (Int32.not_lt.mp hc)) ?_
                      refine lQ.push rfl ?_
                      obtain rfl := Option.some.inj h
                      exact lQ.retI rfl rfl hz
                  · have e7 := hc
                    refine lQ.sw (j := 56) rfl (swT_all ⟨Or.inr e0, ⟨Or.inr e1, ⟨Or.inr e2, ⟨Or.inr e3, ⟨Or.inr e4, ⟨Or.inr e5, ⟨Or.inr e6, ⟨Or.inr e7, trivial⟩⟩⟩⟩⟩⟩⟩⟩) ?_
                    refine lQ.loadN rfl rfl ?_
                    refine lQ.get hR rfl (tf_0_2 hn) ?_
                    obtain rfl := Option.some.inj h
                    exact lQ.retI rfl rfl hz
