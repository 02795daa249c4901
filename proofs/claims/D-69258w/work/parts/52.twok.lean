set_option maxRecDepth 100000
theorem ts_593 {R : lAR} (hR : lRok R) {E : lE} {ad : List Nat} (hn : tOk ad) {v1 : Int32} {v2 : Int32} {s : TS} {A0 : lMem} {x : Int32 × TS} (h : t_593 v1 v2 s = some x) {Z : lZ} (hz : Z (.inl (some (.int x.1))) (tp ad x.2 A0)) : lSQ R E 2 593 [.ref (adr ad 0), .int v1, .int v2] (tp ad s A0) Z := by
  refine lQ.sq pg_593 (Nat.le_of_ble_eq_true rfl) rfl ?_
  unfold t_593 at h
  refine lQ.loadN rfl rfl ?_
  refine lQ.loadI rfl rfl ?_
  refine lQ.push rfl ?_
  obtain ⟨x1, hx, h⟩ := bindC h
  refine lQ.callI (F := (fun y A => x1 = y ∧ A = tp ad s A0)) (G := fun _ _ => False) (args := [.int v1, .int 10]) (r := [.ref (adr ad 0)]) hR rfl rfl rfl (Nat.le_of_ble_eq_true rfl) (Nat.le_of_ble_eq_true rfl) (ts_560 hR hn hx (cI_mk ⟨rfl, rfl⟩)) ?_ (fun _ _ _ z => z.elim)
  rintro _ _ ⟨rfl, rfl⟩
  obtain ⟨v14, hy1, h1⟩ := bindC h
  have hJ1 : lQ R E 1 cd_593 14 [(0, .ref (adr ad 0)), (1, .int v1), (2, .int v2)] [.int v14, .ref (adr ad 0)] (tp ad s A0) Z := by
    refine lQ.loadN rfl rfl ?_
    refine lQ.get hR rfl (tf_0_1 hn) ?_
    obtain ⟨v24, hy2, h2⟩ := bindC h1
    have hJ2 : lQ R E 1 cd_593 24 [(0, .ref (adr ad 0)), (1, .int v1), (2, .int v2)] [.int v24, .int v14, .ref (adr ad 0)] (tp ad s A0) Z := by
      obtain ⟨x2, hx, h2⟩ := bindC h2
      refine lQ.callVI (F := (fun y A => x2.1 = y ∧ A = tp ad x2.2 A0)) (G := fun _ _ => False) (args := [.ref (adr ad 0), .int v14, .int v24]) (r := []) hR rfl rfl rfl (Nat.le_of_ble_eq_true rfl) (Nat.le_of_ble_eq_true rfl) rfl (tk_0 hn rfl) (ts_558 hR hn hx (cI_mk ⟨rfl, rfl⟩)) ?_ (fun _ _ _ z => z.elim)
      rintro _ _ ⟨rfl, rfl⟩
      rcases iteC h2 with ⟨hc, h2⟩ | ⟨hc, h2⟩
      · refine lQ.ifF rfl (decide_eq_false (fun z => z hc)) ?_
        refine lQ.push rfl ?_
        obtain rfl := Option.some.inj h2
        exact lQ.retI rfl rfl hz
      · refine lQ.ifT rfl (decide_eq_true hc) ?_
        refine lQ.loadN rfl rfl ?_
        refine lQ.get hR rfl (tf_0_28 hn) ?_
        refine lQ.loadN rfl rfl ?_
        refine lQ.get hR rfl (tf_0_27 hn) ?_
        refine lQ.loadI rfl rfl ?_
        obtain ⟨s3, hx, h2⟩ := bindC h2
        refine lQ.ast hR rfl (tw_22 hn hx) ?_
        rintro _ rfl
        refine lQ.loadN rfl rfl ?_
        refine lQ.get hR rfl (tf_0_29 hn) ?_
        refine lQ.loadN rfl rfl ?_
        refine lQ.get hR rfl (tf_0_27 hn) ?_
        refine lQ.loadI rfl rfl ?_
        obtain ⟨s4, hx, h2⟩ := bindC h2
        refine lQ.ast hR rfl (tw_23 hn hx) ?_
        rintro _ rfl
        refine lQ.loadN rfl rfl ?_
        refine lQ.get hR rfl (tf_0_30 hn) ?_
        refine lQ.loadN rfl rfl ?_
        refine lQ.get hR rfl (tf_0_27 hn) ?_
        refine lQ.loadN rfl rfl ?_
        refine lQ.get hR rfl (tf_0_9 hn) ?_
        obtain ⟨s5, hx, h2⟩ := bindC h2
        refine lQ.ast hR rfl (tw_24 hn hx) ?_
        rintro _ rfl
        refine lQ.loadN rfl rfl ?_
        refine lQ.get hR rfl (tf_0_31 hn) ?_
        refine lQ.loadN rfl rfl ?_
        refine lQ.get hR rfl (tf_0_27 hn) ?_
        refine lQ.push rfl ?_
        obtain ⟨s6, hx, h2⟩ := bindC h2
        refine lQ.ast hR rfl (tw_25 hn hx) ?_
        rintro _ rfl
        refine lQ.loadN rfl rfl ?_
        refine lQ.get hR rfl (tf_0_32 hn) ?_
        refine lQ.loadN rfl rfl ?_
        refine lQ.get hR rfl (tf_0_27 hn) ?_
        refine lQ.push rfl ?_
        obtain ⟨s7, hx, h2⟩ := bindC h2
        refine lQ.ast hR rfl (tw_26 hn hx) ?_
        rintro _ rfl
        refine lQ.loadN rfl rfl ?_
        refine lQ.get hR rfl (tf_0_33 hn) ?_
        refine lQ.loadN rfl rfl ?_
        refine lQ.get hR rfl (tf_0_27 hn) ?_
        refine lQ.push rfl ?_
        obtain ⟨s8, hx, h2⟩ := bindC h2
        refine lQ.ast hR rfl (tw_27 hn hx) ?_
        rintro _ rfl
        refine lQ.loadN rfl rfl ?_
        refine lQ.dupN rfl ?_
        refine lQ.get hR rfl (tf_0_27 hn) ?_
        refine lQ.push rfl ?_
        refine lQ.binI rfl ?_
        obtain ⟨s9, hx, h2⟩ := bindC h2
        refine lQ.put hR rfl rfl (tq_0_27 hn hx) ?_
        rintro _ rfl
        refine lQ.loadN rfl rfl ?_
        refine lQ.get hR rfl (tf_0_27 hn) ?_
        refine lQ.push rfl ?_
        refine lQ.binI rfl ?_
        obtain rfl := Option.some.inj h2
        exact lQ.retI rfl rfl hz
    rcases iteC hy2 with ⟨hc, hy2⟩ | ⟨hc, hy2⟩
    · refine lQ.ifT rfl (decide_eq_true hc) ?_
      refine lQ.push rfl ?_
      obtain rfl := Option.some.inj hy2
      exact lQ.sub (lSb rfl (lSb rfl (lSb rfl lSb0))) hJ2
    · refine lQ.ifF rfl (decide_eq_false hc) ?_
      refine lQ.loadN rfl rfl ?_
      refine lQ.get hR rfl (tf_0_27 hn) ?_
      refine lQ.push rfl ?_
      rcases iteC hy2 with ⟨hc, hy2⟩ | ⟨hc, hy2⟩
      · refine lQ.cmpF rfl (decide_eq_false (Int32.not_le.mpr hc)) ?_
        refine lQ.push rfl ?_
        refine lQ.goto rfl ?_
        obtain rfl := Option.some.inj hy2
        exact lQ.sub (lSb rfl (lSb rfl (lSb rfl lSb0))) hJ2
      · refine lQ.cmpT rfl (decide_eq_true (Int32.not_lt.mp hc)) ?_
        refine lQ.push rfl ?_
        obtain rfl := Option.some.inj hy2
        exact lQ.sub (lSb rfl (lSb rfl (lSb rfl lSb0))) hJ2
  rcases iteC hy1 with ⟨hc, hy1⟩ | ⟨hc, hy1⟩
  · refine lQ.ifT rfl (decide_eq_true hc) ?_
    refine lQ.push rfl ?_
    obtain rfl := Option.some.inj hy1
    exact lQ.sub (lSb rfl (lSb rfl (lSb rfl lSb0))) hJ1
  · refine lQ.ifF rfl (decide_eq_false hc) ?_
    refine lQ.loadI rfl rfl ?_
    refine lQ.push rfl ?_
    rcases iteC hy1 with ⟨hc, hy1⟩ | ⟨hc, hy1⟩
    · refine lQ.cmpT rfl (decide_eq_true hc) ?_
      refine lQ.push rfl ?_
      obtain rfl := Option.some.inj hy1
      exact lQ.sub (lSb rfl (lSb rfl (lSb rfl lSb0))) hJ1
    · refine lQ.cmpF rfl (decide_eq_false hc) ?_
      refine lQ.loadI rfl rfl ?_
      refine lQ.push rfl ?_
      rcases iteC hy1 with ⟨hc, hy1⟩ | ⟨hc, hy1⟩
      · refine lQ.cmpT rfl (decide_eq_true hc) ?_
        refine lQ.push rfl ?_
        obtain rfl := Option.some.inj hy1
        exact lQ.sub (lSb rfl (lSb rfl (lSb rfl lSb0))) hJ1
      · refine lQ.cmpF rfl (decide_eq_false hc) ?_
        refine lQ.push rfl ?_
        refine lQ.goto rfl ?_
        obtain rfl := Option.some.inj hy1
        exact lQ.sub (lSb rfl (lSb rfl (lSb rfl lSb0))) hJ1
theorem ts_595 {R : lAR} (hR : lRok R) {E : lE} {ad : List Nat} (hn : tOk ad) {v0 : Int32} {s : TS} {A0 : lMem} {x : Int32} (h : t_595 v0 s = some x) {Z : lZ} (hz : Z (.inl (some (.int x))) (tp ad s A0)) : lSQ R E 1 595 [.int v0] (tp ad s A0) Z := by
  refine lQ.sq pg_595 (Nat.le_of_ble_eq_true rfl) rfl ?_
  unfold t_595 at h
  refine lQ.loadI rfl rfl ?_
  rcases iteC h with ⟨hc, h⟩ | ⟨hc, h⟩
  · refine lQ.ifT rfl (decide_eq_true hc) ?_
    refine lQ.push rfl ?_
    obtain rfl := Option.some.inj h
    exact lQ.retI rfl rfl hz
  · refine lQ.ifF rfl (decide_eq_false hc) ?_
    refine lQ.loadI rfl rfl ?_
    refine lQ.push rfl ?_
    rcases iteC h with ⟨hc, h⟩ | ⟨hc, h⟩
    · refine lQ.cmpT rfl (decide_eq_true hc) ?_
      refine lQ.push rfl ?_
      obtain rfl := Option.some.inj h
      exact lQ.retI rfl rfl hz
    · refine lQ.cmpF rfl (decide_eq_false hc) ?_
      refine lQ.push rfl ?_
      refine lQ.goto rfl ?_
      obtain rfl := Option.some.inj h
      exact lQ.retI rfl rfl hz
theorem ts_596 {R : lAR} (hR : lRok R) {E : lE} {ad : List Nat} (hn : tOk ad) {v1 : Int32} {v2 : Int32} {v3 : Int32} {s : TS} {A0 : lMem} {x : TS} (h : t_596 v1 v2 v3 s = some x) {Z : lZ} (hz : Z (.inl none) (tp ad x A0)) : lSQ R E 1 596 [.ref (adr ad 0), .int v1, .int v2, .int v3] (tp ad s A0) Z := by
  refine lQ.sq pg_596 (Nat.le_of_ble_eq_true rfl) rfl ?_
  unfold t_596 at h
  refine lQ.loadN rfl rfl ?_
  refine lQ.get hR rfl (tf_0_46 hn) ?_
  refine lQ.loadN rfl rfl ?_
  refine lQ.get hR rfl (tf_0_45 hn) ?_
  refine lQ.loadI rfl rfl ?_
  obtain ⟨s1, hx, h⟩ := bindC h
  refine lQ.ast hR rfl (tw_37 hn hx) ?_
  rintro _ rfl
  refine lQ.loadN rfl rfl ?_
  refine lQ.get hR rfl (tf_0_47 hn) ?_
  refine lQ.loadN rfl rfl ?_
  refine lQ.get hR rfl (tf_0_45 hn) ?_
  refine lQ.loadI rfl rfl ?_
  obtain ⟨s2, hx, h⟩ := bindC h
  refine lQ.ast hR rfl (tw_38 hn hx) ?_
  rintro _ rfl
  refine lQ.loadN rfl rfl ?_
  refine lQ.get hR rfl (tf_0_48 hn) ?_
  refine lQ.loadN rfl rfl ?_
  refine lQ.get hR rfl (tf_0_45 hn) ?_
  refine lQ.loadI rfl rfl ?_
  obtain ⟨s3, hx, h⟩ := bindC h
  refine lQ.ast hR rfl (tw_39 hn hx) ?_
  rintro _ rfl
  refine lQ.loadN rfl rfl ?_
  refine lQ.dupN rfl ?_
  refine lQ.get hR rfl (tf_0_45 hn) ?_
  refine lQ.push rfl ?_
  refine lQ.binI rfl ?_
  obtain ⟨s4, hx, h⟩ := bindC h
  refine lQ.put hR rfl rfl (tq_0_45 hn hx) ?_
  rintro _ rfl
  obtain rfl := Option.some.inj h
  exact lQ.retV rfl hz
theorem ts_594 {R : lAR} (hR : lRok R) {E : lE} {ad : List Nat} (hn : tOk ad) {v1 : Int32} {v2 : Int32} {s : TS} {A0 : lMem} {x : Int32 × TS} (h : t_594 v1 v2 s = some x) {Z : lZ} (hz : Z (.inl (some (.int x.1))) (tp ad x.2 A0)) : lSQ R E 2 594 [.ref (adr ad 0), .int v1, .int v2] (tp ad s A0) Z := by
  refine lQ.sq pg_594 (Nat.le_of_ble_eq_true rfl) rfl ?_
  unfold t_594 at h
  refine lQ.loadN rfl rfl ?_
  refine lQ.loadI rfl rfl ?_
  refine lQ.loadN rfl rfl ?_
  refine lQ.get hR rfl (tf_0_27 hn) ?_
  obtain ⟨x1, hx, h⟩ := bindC h
  refine lQ.callI (F := (fun y A => x1 = y ∧ A = tp ad s A0)) (G := fun _ _ => False) (args := [.int v1, .int (s.1 27)]) (r := [.ref (adr ad 0)]) hR rfl rfl rfl (Nat.le_of_ble_eq_true rfl) (Nat.le_of_ble_eq_true rfl) (ts_560 hR hn hx (cI_mk ⟨rfl, rfl⟩)) ?_ (fun _ _ _ z => z.elim)
  rintro _ _ ⟨rfl, rfl⟩
  obtain ⟨v12, hy1, h1⟩ := bindC h
  have hJ1 : lQ R E 1 cd_594 12 [(0, .ref (adr ad 0)), (1, .int v1), (2, .int v2)] [.int v12, .ref (adr ad 0)] (tp ad s A0) Z := by
    refine lQ.loadN rfl rfl ?_
    refine lQ.get hR rfl (tf_0_1 hn) ?_
    obtain ⟨v22, hy2, h2⟩ := bindC h1
    have hJ2 : lQ R E 1 cd_594 22 [(0, .ref (adr ad 0)), (1, .int v1), (2, .int v2)] [.int v22, .int v12, .ref (adr ad 0)] (tp ad s A0) Z := by
      obtain ⟨x3, hx, h2⟩ := bindC h2
      refine lQ.callVI (F := (fun y A => x3.1 = y ∧ A = tp ad x3.2 A0)) (G := fun _ _ => False) (args := [.ref (adr ad 0), .int v12, .int v22]) (r := []) hR rfl rfl rfl (Nat.le_of_ble_eq_true rfl) (Nat.le_of_ble_eq_true rfl) rfl (tk_0 hn rfl) (ts_558 hR hn hx (cI_mk ⟨rfl, rfl⟩)) ?_ (fun _ _ _ z => z.elim)
      rintro _ _ ⟨rfl, rfl⟩
      rcases iteC h2 with ⟨hc, h2⟩ | ⟨hc, h2⟩
      · refine lQ.ifF rfl (decide_eq_false (fun z => z hc)) ?_
        refine lQ.push rfl ?_
        obtain rfl := Option.some.inj h2
        exact lQ.retI rfl rfl hz
      · refine lQ.ifT rfl (decide_eq_true hc) ?_
        refine lQ.loadN rfl rfl ?_
        refine lQ.get hR rfl (tf_0_37 hn) ?_
        refine lQ.loadN rfl rfl ?_
        refine lQ.get hR rfl (tf_0_36 hn) ?_
        refine lQ.loadI rfl rfl ?_
        obtain ⟨s4, hx, h2⟩ := bindC h2
        refine lQ.ast hR rfl (tw_30 hn hx) ?_
        rintro _ rfl
        refine lQ.loadN rfl rfl ?_
        refine lQ.get hR rfl (tf_0_38 hn) ?_
        refine lQ.loadN rfl rfl ?_
        refine lQ.get hR rfl (tf_0_36 hn) ?_
        refine lQ.loadI rfl rfl ?_
        obtain ⟨s5, hx, h2⟩ := bindC h2
        refine lQ.ast hR rfl (tw_31 hn hx) ?_
        rintro _ rfl
        refine lQ.loadN rfl rfl ?_
        refine lQ.push rfl ?_
        refine lQ.loadN rfl rfl ?_
        refine lQ.get hR rfl (tf_0_36 hn) ?_
        refine lQ.loadI rfl rfl ?_
        obtain ⟨x6, hx, h2⟩ := bindC h2
        refine lQ.callVV (F := (fun A => A = tp ad x6 A0)) (G := fun _ _ => False) (args := [.ref (adr ad 0), .int 0, .int (s5.1 36), .int v2]) (r := []) hR rfl rfl rfl (Nat.le_of_ble_eq_true rfl) (Nat.le_of_ble_eq_true rfl) rfl (tk_0 hn rfl) (ts_596 hR hn hx (cV_mk rfl)) ?_ (fun _ _ _ z => z.elim)
        rintro _ rfl
        refine lQ.loadN rfl rfl ?_
        refine lQ.dupN rfl ?_
        refine lQ.get hR rfl (tf_0_36 hn) ?_
        refine lQ.push rfl ?_
        refine lQ.binI rfl ?_
        obtain ⟨s7, hx, h2⟩ := bindC h2
        refine lQ.put hR rfl rfl (tq_0_36 hn hx) ?_
        rintro _ rfl
        refine lQ.loadN rfl rfl ?_
        refine lQ.get hR rfl (tf_0_36 hn) ?_
        refine lQ.push rfl ?_
        refine lQ.binI rfl ?_
        obtain rfl := Option.some.inj h2
        exact lQ.retI rfl rfl hz
    rcases iteC hy2 with ⟨hc, hy2⟩ | ⟨hc, hy2⟩
    · refine lQ.ifT rfl (decide_eq_true hc) ?_
      refine lQ.push rfl ?_
      obtain rfl := Option.some.inj hy2
      exact lQ.sub (lSb rfl (lSb rfl (lSb rfl lSb0))) hJ2
    · refine lQ.ifF rfl (decide_eq_false hc) ?_
      refine lQ.loadN rfl rfl ?_
      refine lQ.get hR rfl (tf_0_36 hn) ?_
      refine lQ.push rfl ?_
      rcases iteC hy2 with ⟨hc, hy2⟩ | ⟨hc, hy2⟩
      · refine lQ.cmpF rfl (decide_eq_false (Int32.not_le.mpr hc)) ?_
        refine lQ.push rfl ?_
        refine lQ.goto rfl ?_
        obtain rfl := Option.some.inj hy2
        exact lQ.sub (lSb rfl (lSb rfl (lSb rfl lSb0))) hJ2
      · refine lQ.cmpT rfl (decide_eq_true (Int32.not_lt.mp hc)) ?_
        refine lQ.push rfl ?_
        obtain rfl := Option.some.inj hy2
        exact lQ.sub (lSb rfl (lSb rfl (lSb rfl lSb0))) hJ2
  rcases iteC hy1 with ⟨hc, hy1⟩ | ⟨hc, hy1⟩
  · refine lQ.ifT rfl (decide_eq_true hc) ?_
    refine lQ.push rfl ?_
    obtain rfl := Option.some.inj hy1
    exact lQ.sub (lSb rfl (lSb rfl (lSb rfl lSb0))) hJ1
  · refine lQ.ifF rfl (decide_eq_false hc) ?_
    refine lQ.loadI rfl rfl ?_
    obtain ⟨x2, hx, hy1⟩ := bindC hy1
    refine lQ.callI (F := (fun y A => x2 = y ∧ A = tp ad s A0)) (G := fun _ _ => False) (args := [.int v2]) (r := [.ref (adr ad 0)]) hR rfl rfl rfl (Nat.le_of_ble_eq_true rfl) (Nat.le_of_ble_eq_true rfl) (ts_595 hR hn hx (cI_mk ⟨rfl, rfl⟩)) ?_ (fun _ _ _ z => z.elim)
    rintro _ _ ⟨rfl, rfl⟩
    rcases iteC hy1 with ⟨hc, hy1⟩ | ⟨hc, hy1⟩
    · refine lQ.ifT rfl (decide_eq_true hc) ?_
      refine lQ.push rfl ?_
      obtain rfl := Option.some.inj hy1
      exact lQ.sub (lSb rfl (lSb rfl (lSb rfl lSb0))) hJ1
    · refine lQ.ifF rfl (decide_eq_false hc) ?_
      refine lQ.push rfl ?_
      refine lQ.goto rfl ?_
      obtain rfl := Option.some.inj hy1
      exact lQ.sub (lSb rfl (lSb rfl (lSb rfl lSb0))) hJ1
theorem ts_597 {R : lAR} (hR : lRok R) {E : lE} {ad : List Nat} (hn : tOk ad) {v1 : Int32} {v2 : Int32} {v3 : Int32} {v4 : Int32} {v5 : Int32} {s : TS} {A0 : lMem} {x : Int32 × TS} (h : t_597 v1 v2 v3 v4 v5 s = some x) {Z : lZ} (hz : Z (.inl (some (.int x.1))) (tp ad x.2 A0)) : lSQ R E 2 597 [.ref (adr ad 0), .int v1, .int v2, .int v3, .int v4, .int v5] (tp ad s A0) Z := by
  refine lQ.sq pg_597 (Nat.le_of_ble_eq_true rfl) rfl ?_
  unfold t_597 at h
  refine lQ.loadI rfl rfl ?_
  refine lQ.push rfl ?_
  obtain ⟨x1, hx, h⟩ := bindC h
  refine lQ.callI (F := (fun y A => x1 = y ∧ A = tp ad s A0)) (G := fun _ _ => False) (args := [.int v1, .int 10]) (r := []) hR rfl rfl rfl (Nat.le_of_ble_eq_true rfl) (Nat.le_of_ble_eq_true rfl) (ts_560 hR hn hx (cI_mk ⟨rfl, rfl⟩)) ?_ (fun _ _ _ z => z.elim)
  rintro _ _ ⟨rfl, rfl⟩
  obtain ⟨v22, hy1, h1⟩ := bindC h
  have hJ1 : lQ R E 1 cd_597 22 [(0, .ref (adr ad 0)), (1, .int v1), (2, .int v2), (3, .int v3), (4, .int v4), (5, .int v5)] [.int v22] (tp ad s A0) Z := by
    refine lQ.stI rfl (lN2s rfl rfl) ?_
    refine lQ.loadN rfl rfl ?_
    refine lQ.loadI rfl rfl ?_
    refine lQ.loadN rfl rfl ?_
    refine lQ.get hR rfl (tf_0_1 hn) ?_
    obtain ⟨v35, hy2, h2⟩ := bindC h1
    have hJ2 : lQ R E 1 cd_597 35 [(0, .ref (adr ad 0)), (1, .int v1), (2, .int v2), (3, .int v3), (4, .int v4), (5, .int v5)] [.int v35, .int v22, .ref (adr ad 0)] (tp ad s A0) Z := by
      obtain ⟨x6, hx, h2⟩ := bindC h2
      refine lQ.callVI (F := (fun y A => x6.1 = y ∧ A = tp ad x6.2 A0)) (G := fun _ _ => False) (args := [.ref (adr ad 0), .int v22, .int v35]) (r := []) hR rfl rfl rfl (Nat.le_of_ble_eq_true rfl) (Nat.le_of_ble_eq_true rfl) rfl (tk_0 hn rfl) (ts_558 hR hn hx (cI_mk ⟨rfl, rfl⟩)) ?_ (fun _ _ _ z => z.elim)
      rintro _ _ ⟨rfl, rfl⟩
      rcases iteC h2 with ⟨hc, h2⟩ | ⟨hc, h2⟩
      · refine lQ.ifF rfl (decide_eq_false (fun z => z hc)) ?_
        refine lQ.push rfl ?_
        obtain rfl := Option.some.inj h2
        exact lQ.retI rfl rfl hz
      · refine lQ.ifT rfl (decide_eq_true hc) ?_
        refine lQ.loadN rfl rfl ?_
        refine lQ.get hR rfl (tf_0_40 hn) ?_
        refine lQ.loadN rfl rfl ?_
        refine lQ.get hR rfl (tf_0_39 hn) ?_
        refine lQ.loadI rfl rfl ?_
        obtain ⟨s7, hx, h2⟩ := bindC h2
        refine lQ.ast hR rfl (tw_32 hn hx) ?_
        rintro _ rfl
        refine lQ.loadN rfl rfl ?_
        refine lQ.get hR rfl (tf_0_41 hn) ?_
        refine lQ.loadN rfl rfl ?_
        refine lQ.get hR rfl (tf_0_39 hn) ?_
        refine lQ.loadI rfl rfl ?_
        obtain ⟨s8, hx, h2⟩ := bindC h2
        refine lQ.ast hR rfl (tw_33 hn hx) ?_
        rintro _ rfl
        refine lQ.loadN rfl rfl ?_
        refine lQ.get hR rfl (tf_0_42 hn) ?_
        refine lQ.loadN rfl rfl ?_
        refine lQ.get hR rfl (tf_0_39 hn) ?_
        refine lQ.loadI rfl rfl ?_
        obtain ⟨s9, hx, h2⟩ := bindC h2
        refine lQ.ast hR rfl (tw_34 hn hx) ?_
        rintro _ rfl
        refine lQ.loadN rfl rfl ?_
        refine lQ.get hR rfl (tf_0_43 hn) ?_
        refine lQ.loadN rfl rfl ?_
        refine lQ.get hR rfl (tf_0_39 hn) ?_
        refine lQ.loadI rfl rfl ?_
        obtain ⟨s10, hx, h2⟩ := bindC h2
        refine lQ.ast hR rfl (tw_35 hn hx) ?_
        rintro _ rfl
        refine lQ.loadN rfl rfl ?_
        refine lQ.get hR rfl (tf_0_44 hn) ?_
        refine lQ.loadN rfl rfl ?_
        refine lQ.get hR rfl (tf_0_39 hn) ?_
        refine lQ.loadI rfl rfl ?_
        obtain ⟨s11, hx, h2⟩ := bindC h2
        refine lQ.ast hR rfl (tw_36 hn hx) ?_
        rintro _ rfl
        refine lQ.loadN rfl rfl ?_
        refine lQ.push rfl ?_
        refine lQ.loadN rfl rfl ?_
        refine lQ.get hR rfl (tf_0_39 hn) ?_
        refine lQ.loadI rfl rfl ?_
        obtain ⟨x12, hx, h2⟩ := bindC h2
        refine lQ.callVV (F := (fun A => A = tp ad x12 A0)) (G := fun _ _ => False) (args := [.ref (adr ad 0), .int 1, .int (s11.1 39), .int v5]) (r := []) hR rfl rfl rfl (Nat.le_of_ble_eq_true rfl) (Nat.le_of_ble_eq_true rfl) rfl (tk_0 hn rfl) (ts_596 hR hn hx (cV_mk rfl)) ?_ (fun _ _ _ z => z.elim)
        rintro _ rfl
        refine lQ.loadN rfl rfl ?_
        refine lQ.dupN rfl ?_
        refine lQ.get hR rfl (tf_0_39 hn) ?_
        refine lQ.push rfl ?_
        refine lQ.binI rfl ?_
        obtain ⟨s13, hx, h2⟩ := bindC h2
        refine lQ.put hR rfl rfl (tq_0_39 hn hx) ?_
        rintro _ rfl
        refine lQ.loadN rfl rfl ?_
        refine lQ.get hR rfl (tf_0_39 hn) ?_
        refine lQ.push rfl ?_
        refine lQ.binI rfl ?_
        obtain rfl := Option.some.inj h2
        exact lQ.retI rfl rfl hz
    rcases iteC hy2 with ⟨hc, hy2⟩ | ⟨hc, hy2⟩
    · refine lQ.ifT rfl (decide_eq_true hc) ?_
      refine lQ.push rfl ?_
      obtain rfl := Option.some.inj hy2
      exact lQ.sub (lSb rfl (lSb rfl (lSb rfl (lSb rfl (lSb rfl (lSb rfl lSb0)))))) hJ2
    · refine lQ.ifF rfl (decide_eq_false hc) ?_
      refine lQ.loadN rfl rfl ?_
      refine lQ.get hR rfl (tf_0_39 hn) ?_
      refine lQ.push rfl ?_
      rcases iteC hy2 with ⟨hc, hy2⟩ | ⟨hc, hy2⟩
      · refine lQ.cmpF rfl (decide_eq_false (Int32.not_le.mpr hc)) ?_
        refine lQ.push rfl ?_
        refine lQ.goto rfl ?_
        obtain rfl := Option.some.inj hy2
        exact lQ.sub (lSb rfl (lSb rfl (lSb rfl (lSb rfl (lSb rfl (lSb rfl lSb0)))))) hJ2
      · refine lQ.cmpT rfl (decide_eq_true (Int32.not_lt.mp hc)) ?_
        refine lQ.push rfl ?_
        obtain rfl := Option.some.inj hy2
        exact lQ.sub (lSb rfl (lSb rfl (lSb rfl (lSb rfl (lSb rfl (lSb rfl lSb0)))))) hJ2
  rcases iteC hy1 with ⟨hc, hy1⟩ | ⟨hc, hy1⟩
  · refine lQ.ifT rfl (decide_eq_true hc) ?_
    refine lQ.push rfl ?_
    obtain rfl := Option.some.inj hy1
    exact lQ.sub (lSb rfl (lSb rfl (lSb rfl (lSb rfl (lSb rfl (lSb rfl lSb0)))))) hJ1
  · refine lQ.ifF rfl (decide_eq_false hc) ?_
    refine lQ.loadI rfl rfl ?_
    refine lQ.push rfl ?_
    obtain ⟨x2, hx, hy1⟩ := bindC hy1
    refine lQ.callI (F := (fun y A => x2 = y ∧ A = tp ad s A0)) (G := fun _ _ => False) (args := [.int v2, .int 10]) (r := []) hR rfl rfl rfl (Nat.le_of_ble_eq_true rfl) (Nat.le_of_ble_eq_true rfl) (ts_560 hR hn hx (cI_mk ⟨rfl, rfl⟩)) ?_ (fun _ _ _ z => z.elim)
    rintro _ _ ⟨rfl, rfl⟩
    rcases iteC hy1 with ⟨hc, hy1⟩ | ⟨hc, hy1⟩
    · refine lQ.ifT rfl (decide_eq_true hc) ?_
      refine lQ.push rfl ?_
      obtain rfl := Option.some.inj hy1
      exact lQ.sub (lSb rfl (lSb rfl (lSb rfl (lSb rfl (lSb rfl (lSb rfl lSb0)))))) hJ1
    · refine lQ.ifF rfl (decide_eq_false hc) ?_
      refine lQ.loadI rfl rfl ?_
      refine lQ.push rfl ?_
      obtain ⟨x3, hx, hy1⟩ := bindC hy1
      refine lQ.callI (F := (fun y A => x3 = y ∧ A = tp ad s A0)) (G := fun _ _ => False) (args := [.int v3, .int 1440]) (r := []) hR rfl rfl rfl (Nat.le_of_ble_eq_true rfl) (Nat.le_of_ble_eq_true rfl) (ts_560 hR hn hx (cI_mk ⟨rfl, rfl⟩)) ?_ (fun _ _ _ z => z.elim)
      rintro _ _ ⟨rfl, rfl⟩
      rcases iteC hy1 with ⟨hc, hy1⟩ | ⟨hc, hy1⟩
      · refine lQ.ifT rfl (decide_eq_true hc) ?_
        refine lQ.push rfl ?_
        obtain rfl := Option.some.inj hy1
        exact lQ.sub (lSb rfl (lSb rfl (lSb rfl (lSb rfl (lSb rfl (lSb rfl lSb0)))))) hJ1
      · refine lQ.ifF rfl (decide_eq_false hc) ?_
        refine lQ.loadI rfl rfl ?_
        refine lQ.push rfl ?_
        obtain ⟨x4, hx, hy1⟩ := bindC hy1
        refine lQ.callI (F := (fun y A => x4 = y ∧ A = tp ad s A0)) (G := fun _ _ => False) (args := [.int v4, .int 1440]) (r := []) hR rfl rfl rfl (Nat.le_of_ble_eq_true rfl) (Nat.le_of_ble_eq_true rfl) (ts_560 hR hn hx (cI_mk ⟨rfl, rfl⟩)) ?_ (fun _ _ _ z => z.elim)
        rintro _ _ ⟨rfl, rfl⟩
        rcases iteC hy1 with ⟨hc, hy1⟩ | ⟨hc, hy1⟩
        · refine lQ.ifT rfl (decide_eq_true hc) ?_
          refine lQ.push rfl ?_
          obtain rfl := Option.some.inj hy1
          exact lQ.sub (lSb rfl (lSb rfl (lSb rfl (lSb rfl (lSb rfl (lSb rfl lSb0)))))) hJ1
        · refine lQ.ifF rfl (decide_eq_false hc) ?_
          refine lQ.loadI rfl rfl ?_
          obtain ⟨x5, hx, hy1⟩ := bindC hy1
          refine lQ.callI (F := (fun y A => x5 = y ∧ A = tp ad s A0)) (G := fun _ _ => False) (args := [.int v5]) (r := []) hR rfl rfl rfl (Nat.le_of_ble_eq_true rfl) (Nat.le_of_ble_eq_true rfl) (ts_595 hR hn hx (cI_mk ⟨rfl, rfl⟩)) ?_ (fun _ _ _ z => z.elim)
          rintro _ _ ⟨rfl, rfl⟩
          rcases iteC hy1 with ⟨hc, hy1⟩ | ⟨hc, hy1⟩
          · refine lQ.ifT rfl (decide_eq_true hc) ?_
            refine lQ.push rfl ?_
            obtain rfl := Option.some.inj hy1
            exact lQ.sub (lSb rfl (lSb rfl (lSb rfl (lSb rfl (lSb rfl (lSb rfl lSb0)))))) hJ1
          · refine lQ.ifF rfl (decide_eq_false hc) ?_
            refine lQ.push rfl ?_
            refine lQ.goto rfl ?_
            obtain rfl := Option.some.inj hy1
            exact lQ.sub (lSb rfl (lSb rfl (lSb rfl (lSb rfl (lSb rfl (lSb rfl lSb0)))))) hJ1
theorem ts_599 {R : lAR} (hR : lRok R) {E : lE} {ad : List Nat} (hn : tOk ad) {v1 : Int32} {v2 : Int32} {v3 : Int32} {s : TS} {A0 : lMem} {x : Int32} (h : t_599 v1 v2 v3 s = some x) {Z : lZ} (hz : Z (.inl (some (.int x))) (tp ad s A0)) : lSQ R E 1 599 [.ref (adr ad 0), .int v1, .int v2, .int v3] (tp ad s A0) Z := by
  refine lQ.sq pg_599 (Nat.le_of_ble_eq_true rfl) rfl ?_
  unfold t_599 at h
  refine lQ.loadI rfl rfl ?_
  refine lQ.loadN rfl rfl ?_
  refine lQ.get hR rfl (tf_0_45 hn) ?_
  obtain ⟨v8, hy1, h1⟩ := bindC h
  have hJ1 : lQ R E 0 cd_599 8 [(0, .ref (adr ad 0)), (1, .int v1), (2, .int v2)] [.int v8] (tp ad s A0) Z := by
    refine lQ.push rfl ?_
    refine lQ.binI rfl ?_
    refine lQ.stI rfl (lN2n rfl) ?_
    obtain ⟨y2, hy2, h2⟩ := bindC h1
    have hJ2 : ∀ v32, y2 = .inl v32 → lQ R E 0 cd_599 32 [] [] (tp ad s A0) Z := by
      rintro v32 rfl
      have h2 := elimC h2
      refine lQ.push rfl ?_
      obtain rfl := Option.some.inj h2
      exact lQ.retI rfl rfl hz
    obtain ⟨y3, hy3, h3⟩ := bindC hy2
    have hJ3 : ∀ v25, y3 = .inl v25 → lQ R E 0 cd_599 25 [(0, .ref (adr ad 0)), (4, .int v25)] [] (tp ad s A0) Z := by
      rintro v25 rfl
      have h3 := elimC h3
      refine lQ.loadN rfl rfl ?_
      refine lQ.get hR rfl (tf_0_48 hn) ?_
      refine lQ.loadI rfl rfl ?_
      obtain ⟨x3, hx, h3⟩ := bindC h3
      refine lQ.ald hR rfl (ta_39 hn hx) ?_
      obtain rfl := Option.some.inj h3
      obtain rfl := elimD h2
      exact lQ.retI rfl rfl hz
    refine lQ.sub (lSb rfl (lSb rfl (lSb rfl (lSb rfl lSb0)))) (wh_run (P := fun p11 => lQ R E 0 cd_599 11 [(0, .ref (adr ad 0)), (1, .int v1), (2, .int v2), (4, .int p11)] [] (tp ad s A0) Z) hy3 ?_)
    intro p11 r4 hb4 hI4 hX4
    refine lQ.loadI rfl rfl ?_
    rcases iteC hb4 with ⟨hc, hb4⟩ | ⟨hc, hb4⟩
    · refine lQ.ifT rfl (decide_eq_true hc) ?_
      obtain rfl := Option.some.inj hb4
      obtain rfl := hX4 _ rfl
      obtain rfl := elimD h3
      exact lQ.sub lSb0 (hJ2 _ rfl)
    · refine lQ.ifF rfl (decide_eq_false hc) ?_
      refine lQ.loadN rfl rfl ?_
      refine lQ.get hR rfl (tf_0_46 hn) ?_
      refine lQ.loadI rfl rfl ?_
      obtain ⟨x1, hx, hb4⟩ := bindC hb4
      refine lQ.ald hR rfl (ta_37 hn hx) ?_
      refine lQ.loadI rfl rfl ?_
      obtain ⟨y5, hy5, h5⟩ := bindC hb4
      have hJ5 : ∀ v30, y5 = .inl v30 → lQ R E 0 cd_599 30 [(0, .ref (adr ad 0)), (1, .int v1), (2, .int v2), (4, .int p11)] [] (tp ad s A0) Z := by
        rintro v30 rfl
        have h5 := elimC h5
        refine lQ.dec rfl rfl (Int32.sub_eq_add_neg p11 1).symm (lN2n rfl) ?_
        refine lQ.goto rfl ?_
        obtain rfl := Option.some.inj h5
        exact lQ.sub (lSb rfl (lSb rfl (lSb rfl (lSb rfl lSb0)))) (hI4 _ rfl)
      rcases iteC hy5 with ⟨hc, hy5⟩ | ⟨hc, hy5⟩
      · refine lQ.cmpF rfl (decide_eq_false (fun z => z hc)) ?_
        refine lQ.loadN rfl rfl ?_
        refine lQ.get hR rfl (tf_0_47 hn) ?_
        refine lQ.loadI rfl rfl ?_
        obtain ⟨x2, hx, hy5⟩ := bindC hy5
        refine lQ.ald hR rfl (ta_38 hn hx) ?_
        refine lQ.loadI rfl rfl ?_
        rcases iteC hy5 with ⟨hc, hy5⟩ | ⟨hc, hy5⟩
        · refine lQ.cmpF rfl (decide_eq_false (fun z => z hc)) ?_
          obtain rfl := Option.some.inj hy5
          obtain rfl := elimD h5
          obtain rfl := hX4 _ rfl
          exact lQ.sub (lSb rfl (lSb rfl lSb0)) (hJ3 _ rfl)
        · refine lQ.cmpT rfl (decide_eq_true hc) ?_
          obtain rfl := Option.some.inj hy5
          exact lQ.sub (lSb rfl (lSb rfl (lSb rfl (lSb rfl lSb0)))) (hJ5 _ rfl)
      · refine lQ.cmpT rfl (decide_eq_true hc) ?_
        obtain rfl := Option.some.inj hy5
        exact lQ.sub (lSb rfl (lSb rfl (lSb rfl (lSb rfl lSb0)))) (hJ5 _ rfl)
  rcases iteC hy1 with ⟨hc, hy1⟩ | ⟨hc, hy1⟩
  · refine lQ.cmpF rfl (decide_eq_false (Int32.not_le.mpr hc)) ?_
    refine lQ.loadI rfl rfl ?_
    refine lQ.goto rfl ?_
    obtain rfl := Option.some.inj hy1
    exact lQ.sub (lSb rfl (lSb rfl (lSb rfl lSb0))) hJ1
  · refine lQ.cmpT rfl (decide_eq_true (Int32.not_lt.mp hc)) ?_
    refine lQ.loadN rfl rfl ?_
    refine lQ.get hR rfl (tf_0_45 hn) ?_
    obtain rfl := Option.some.inj hy1
    exact lQ.sub (lSb rfl (lSb rfl (lSb rfl lSb0))) hJ1
theorem ts_598 {R : lAR} (hR : lRok R) {E : lE} {ad : List Nat} (hn : tOk ad) {v1 : Int32} {v2 : Int32} {s : TS} {A0 : lMem} {x : Int32 × TS} (h : t_598 v1 v2 s = some x) {Z : lZ} (hz : Z (.inl (some (.int x.1))) (tp ad x.2 A0)) : lSQ R E 2 598 [.ref (adr ad 0), .int v1, .int v2] (tp ad s A0) Z := by
  refine lQ.sq pg_598 (Nat.le_of_ble_eq_true rfl) rfl ?_
  unfold t_598 at h
  refine lQ.loadN rfl rfl ?_
  refine lQ.loadI rfl rfl ?_
  refine lQ.loadN rfl rfl ?_
  refine lQ.get hR rfl (tf_0_39 hn) ?_
  obtain ⟨x1, hx, h⟩ := bindC h
  refine lQ.callI (F := (fun y A => x1 = y ∧ A = tp ad s A0)) (G := fun _ _ => False) (args := [.int v1, .int (s.1 39)]) (r := [.ref (adr ad 0)]) hR rfl rfl rfl (Nat.le_of_ble_eq_true rfl) (Nat.le_of_ble_eq_true rfl) (ts_560 hR hn hx (cI_mk ⟨rfl, rfl⟩)) ?_ (fun _ _ _ z => z.elim)
  rintro _ _ ⟨rfl, rfl⟩
  obtain ⟨v12, hy1, h1⟩ := bindC h
  have hJ1 : lQ R E 1 cd_598 12 [(0, .ref (adr ad 0)), (1, .int v1), (2, .int v2)] [.int v12, .ref (adr ad 0)] (tp ad s A0) Z := by
    refine lQ.loadN rfl rfl ?_
    refine lQ.get hR rfl (tf_0_1 hn) ?_
    obtain ⟨x3, hx, h1⟩ := bindC h1
    refine lQ.callVI (F := (fun y A => x3.1 = y ∧ A = tp ad x3.2 A0)) (G := fun _ _ => False) (args := [.ref (adr ad 0), .int v12, .int (s.1 1)]) (r := []) hR rfl rfl rfl (Nat.le_of_ble_eq_true rfl) (Nat.le_of_ble_eq_true rfl) rfl (tk_0 hn rfl) (ts_558 hR hn hx (cI_mk ⟨rfl, rfl⟩)) ?_ (fun _ _ _ z => z.elim)
    rintro _ _ ⟨rfl, rfl⟩
    rcases iteC h1 with ⟨hc, h1⟩ | ⟨hc, h1⟩
    · refine lQ.ifF rfl (decide_eq_false (fun z => z hc)) ?_
      refine lQ.push rfl ?_
      obtain rfl := Option.some.inj h1
      exact lQ.retI rfl rfl hz
    · refine lQ.ifT rfl (decide_eq_true hc) ?_
      refine lQ.loadN rfl rfl ?_
      refine lQ.push rfl ?_
      refine lQ.loadI rfl rfl ?_
      refine lQ.push rfl ?_
      obtain ⟨x4, hx, h1⟩ := bindC h1
      refine lQ.callVI (F := (fun y A => x4 = y ∧ A = tp ad x3.2 A0)) (G := fun _ _ => False) (args := [.ref (adr ad 0), .int 2, .int v1, .int 1000000]) (r := []) hR rfl rfl rfl (Nat.le_of_ble_eq_true rfl) (Nat.le_of_ble_eq_true rfl) rfl (tk_0 hn rfl) (ts_599 hR hn hx (cI_mk ⟨rfl, rfl⟩)) ?_ (fun _ _ _ z => z.elim)
      rintro _ _ ⟨rfl, rfl⟩
      refine lQ.stI rfl (lN2s rfl rfl) ?_
      refine lQ.loadN rfl rfl ?_
      refine lQ.push rfl ?_
      refine lQ.loadI rfl rfl ?_
      refine lQ.loadI rfl rfl ?_
      obtain ⟨x5, hx, h1⟩ := bindC h1
      refine lQ.callVV (F := (fun A => A = tp ad x5 A0)) (G := fun _ _ => False) (args := [.ref (adr ad 0), .int 2, .int v1, .int v2]) (r := []) hR rfl rfl rfl (Nat.le_of_ble_eq_true rfl) (Nat.le_of_ble_eq_true rfl) rfl (tk_0 hn rfl) (ts_596 hR hn hx (cV_mk rfl)) ?_ (fun _ _ _ z => z.elim)
      rintro _ rfl
      refine lQ.loadI rfl rfl ?_
      obtain rfl := Option.some.inj h1
      exact lQ.retI rfl rfl hz
  rcases iteC hy1 with ⟨hc, hy1⟩ | ⟨hc, hy1⟩
  · refine lQ.ifT rfl (decide_eq_true hc) ?_
    refine lQ.push rfl ?_
    obtain rfl := Option.some.inj hy1
    exact lQ.sub (lSb rfl (lSb rfl (lSb rfl lSb0))) hJ1
  · refine lQ.ifF rfl (decide_eq_false hc) ?_
    refine lQ.loadI rfl rfl ?_
    obtain ⟨x2, hx, hy1⟩ := bindC hy1
    refine lQ.callI (F := (fun y A => x2 = y ∧ A = tp ad s A0)) (G := fun _ _ => False) (args := [.int v2]) (r := [.ref (adr ad 0)]) hR rfl rfl rfl (Nat.le_of_ble_eq_true rfl) (Nat.le_of_ble_eq_true rfl) (ts_595 hR hn hx (cI_mk ⟨rfl, rfl⟩)) ?_ (fun _ _ _ z => z.elim)
    rintro _ _ ⟨rfl, rfl⟩
    rcases iteC hy1 with ⟨hc, hy1⟩ | ⟨hc, hy1⟩
    · refine lQ.ifT rfl (decide_eq_true hc) ?_
      refine lQ.push rfl ?_
      obtain rfl := Option.some.inj hy1
      exact lQ.sub (lSb rfl (lSb rfl (lSb rfl lSb0))) hJ1
    · refine lQ.ifF rfl (decide_eq_false hc) ?_
      refine lQ.push rfl ?_
      refine lQ.goto rfl ?_
      obtain rfl := Option.some.inj hy1
      exact lQ.sub (lSb rfl (lSb rfl (lSb rfl lSb0))) hJ1
theorem ts_600 {R : lAR} (hR : lRok R) {E : lE} {ad : List Nat} (hn : tOk ad) {v1 : Int32} {v2 : Int32} {s : TS} {A0 : lMem} {x : Int32 × TS} (h : t_600 v1 v2 s = some x) {Z : lZ} (hz : Z (.inl (some (.int x.1))) (tp ad x.2 A0)) : lSQ R E 2 600 [.ref (adr ad 0), .int v1, .int v2] (tp ad s A0) Z := by
  refine lQ.sq pg_600 (Nat.le_of_ble_eq_true rfl) rfl ?_
  unfold t_600 at h
  refine lQ.loadN rfl rfl ?_
  refine lQ.loadI rfl rfl ?_
  refine lQ.loadN rfl rfl ?_
  refine lQ.get hR rfl (tf_0_36 hn) ?_
  obtain ⟨x1, hx, h⟩ := bindC h
  refine lQ.callI (F := (fun y A => x1 = y ∧ A = tp ad s A0)) (G := fun _ _ => False) (args := [.int v1, .int (s.1 36)]) (r := [.ref (adr ad 0)]) hR rfl rfl rfl (Nat.le_of_ble_eq_true rfl) (Nat.le_of_ble_eq_true rfl) (ts_560 hR hn hx (cI_mk ⟨rfl, rfl⟩)) ?_ (fun _ _ _ z => z.elim)
  rintro _ _ ⟨rfl, rfl⟩
  obtain ⟨v12, hy1, h1⟩ := bindC h
  have hJ1 : lQ R E 1 cd_600 12 [(0, .ref (adr ad 0)), (1, .int v1), (2, .int v2)] [.int v12, .ref (adr ad 0)] (tp ad s A0) Z := by
    refine lQ.loadN rfl rfl ?_
    refine lQ.get hR rfl (tf_0_1 hn) ?_
    obtain ⟨x3, hx, h1⟩ := bindC h1
    refine lQ.callVI (F := (fun y A => x3.1 = y ∧ A = tp ad x3.2 A0)) (G := fun _ _ => False) (args := [.ref (adr ad 0), .int v12, .int (s.1 1)]) (r := []) hR rfl rfl rfl (Nat.le_of_ble_eq_true rfl) (Nat.le_of_ble_eq_true rfl) rfl (tk_0 hn rfl) (ts_558 hR hn hx (cI_mk ⟨rfl, rfl⟩)) ?_ (fun _ _ _ z => z.elim)
    rintro _ _ ⟨rfl, rfl⟩
    rcases iteC h1 with ⟨hc, h1⟩ | ⟨hc, h1⟩
    · refine lQ.ifF rfl (decide_eq_false (fun z => z hc)) ?_
      refine lQ.push rfl ?_
      obtain rfl := Option.some.inj h1
      exact lQ.retI rfl rfl hz
    · refine lQ.ifT rfl (decide_eq_true hc) ?_
      refine lQ.loadN rfl rfl ?_
      refine lQ.push rfl ?_
      refine lQ.loadI rfl rfl ?_
      refine lQ.push rfl ?_
      obtain ⟨x4, hx, h1⟩ := bindC h1
      refine lQ.callVI (F := (fun y A => x4 = y ∧ A = tp ad x3.2 A0)) (G := fun _ _ => False) (args := [.ref (adr ad 0), .int 3, .int v1, .int 1000000]) (r := []) hR rfl rfl rfl (Nat.le_of_ble_eq_true rfl) (Nat.le_of_ble_eq_true rfl) rfl (tk_0 hn rfl) (ts_599 hR hn hx (cI_mk ⟨rfl, rfl⟩)) ?_ (fun _ _ _ z => z.elim)
      rintro _ _ ⟨rfl, rfl⟩
      refine lQ.stI rfl (lN2s rfl rfl) ?_
      refine lQ.loadN rfl rfl ?_
      refine lQ.push rfl ?_
      refine lQ.loadI rfl rfl ?_
      refine lQ.loadI rfl rfl ?_
      obtain ⟨x5, hx, h1⟩ := bindC h1
      refine lQ.callVV (F := (fun A => A = tp ad x5 A0)) (G := fun _ _ => False) (args := [.ref (adr ad 0), .int 3, .int v1, .int v2]) (r := []) hR rfl rfl rfl (Nat.le_of_ble_eq_true rfl) (Nat.le_of_ble_eq_true rfl) rfl (tk_0 hn rfl) (ts_596 hR hn hx (cV_mk rfl)) ?_ (fun _ _ _ z => z.elim)
      rintro _ rfl
      refine lQ.loadI rfl rfl ?_
      obtain rfl := Option.some.inj h1
      exact lQ.retI rfl rfl hz
  rcases iteC hy1 with ⟨hc, hy1⟩ | ⟨hc, hy1⟩
  · refine lQ.ifT rfl (decide_eq_true hc) ?_
    refine lQ.push rfl ?_
    obtain rfl := Option.some.inj hy1
    exact lQ.sub (lSb rfl (lSb rfl (lSb rfl lSb0))) hJ1
  · refine lQ.ifF rfl (decide_eq_false hc) ?_
    refine lQ.loadI rfl rfl ?_
    obtain ⟨x2, hx, hy1⟩ := bindC hy1
    refine lQ.callI (F := (fun y A => x2 = y ∧ A = tp ad s A0)) (G := fun _ _ => False) (args := [.int v2]) (r := [.ref (adr ad 0)]) hR rfl rfl rfl (Nat.le_of_ble_eq_true rfl) (Nat.le_of_ble_eq_true rfl) (ts_595 hR hn hx (cI_mk ⟨rfl, rfl⟩)) ?_ (fun _ _ _ z => z.elim)
    rintro _ _ ⟨rfl, rfl⟩
    rcases iteC hy1 with ⟨hc, hy1⟩ | ⟨hc, hy1⟩
    · refine lQ.ifT rfl (decide_eq_true hc) ?_
      refine lQ.push rfl ?_
      obtain rfl := Option.some.inj hy1
      exact lQ.sub (lSb rfl (lSb rfl (lSb rfl lSb0))) hJ1
    · refine lQ.ifF rfl (decide_eq_false hc) ?_
      refine lQ.push rfl ?_
      refine lQ.goto rfl ?_
      obtain rfl := Option.some.inj hy1
      exact lQ.sub (lSb rfl (lSb rfl (lSb rfl lSb0))) hJ1
theorem ts_601 {R : lAR} (hR : lRok R) {E : lE} {ad : List Nat} (hn : tOk ad) {v1 : Int32} {v2 : Int32} {s : TS} {A0 : lMem} {x : Int32 × TS} (h : t_601 v1 v2 s = some x) {Z : lZ} (hz : Z (.inl (some (.int x.1))) (tp ad x.2 A0)) : lSQ R E 2 601 [.ref (adr ad 0), .int v1, .int v2] (tp ad s A0) Z := by
  refine lQ.sq pg_601 (Nat.le_of_ble_eq_true rfl) rfl ?_
  unfold t_601 at h
  refine lQ.loadN rfl rfl ?_
  refine lQ.loadI rfl rfl ?_
  refine lQ.loadN rfl rfl ?_
  refine lQ.get hR rfl (tf_0_10 hn) ?_
  obtain ⟨x1, hx, h⟩ := bindC h
  refine lQ.callI (F := (fun y A => x1 = y ∧ A = tp ad s A0)) (G := fun _ _ => False) (args := [.int v1, .int (s.1 10)]) (r := [.ref (adr ad 0)]) hR rfl rfl rfl (Nat.le_of_ble_eq_true rfl) (Nat.le_of_ble_eq_true rfl) (ts_560 hR hn hx (cI_mk ⟨rfl, rfl⟩)) ?_ (fun _ _ _ z => z.elim)
  rintro _ _ ⟨rfl, rfl⟩
  refine lQ.loadN rfl rfl ?_
  refine lQ.get hR rfl (tf_0_1 hn) ?_
  obtain ⟨x2, hx, h⟩ := bindC h
  refine lQ.callVI (F := (fun y A => x2.1 = y ∧ A = tp ad x2.2 A0)) (G := fun _ _ => False) (args := [.ref (adr ad 0), .int x1, .int (s.1 1)]) (r := []) hR rfl rfl rfl (Nat.le_of_ble_eq_true rfl) (Nat.le_of_ble_eq_true rfl) rfl (tk_0 hn rfl) (ts_558 hR hn hx (cI_mk ⟨rfl, rfl⟩)) ?_ (fun _ _ _ z => z.elim)
  rintro _ _ ⟨rfl, rfl⟩
  rcases iteC h with ⟨hc, h⟩ | ⟨hc, h⟩
  · refine lQ.ifF rfl (decide_eq_false (fun z => z hc)) ?_
    refine lQ.push rfl ?_
    obtain rfl := Option.some.inj h
    exact lQ.retI rfl rfl hz
  · refine lQ.ifT rfl (decide_eq_true hc) ?_
    refine lQ.loadN rfl rfl ?_
    refine lQ.get hR rfl (tf_0_16 hn) ?_
    refine lQ.loadI rfl rfl ?_
    obtain ⟨x3, hx, h⟩ := bindC h
    refine lQ.ald hR rfl (ta_12 hn hx) ?_
    refine lQ.stI rfl (lN2s rfl rfl) ?_
    refine lQ.loadN rfl rfl ?_
    refine lQ.get hR rfl (tf_0_16 hn) ?_
    refine lQ.loadI rfl rfl ?_
    refine lQ.loadI rfl rfl ?_
    obtain ⟨s4, hx, h⟩ := bindC h
    refine lQ.bst hR rfl (tw_12 hn hx) ?_
    rintro _ rfl
    refine lQ.loadI rfl rfl ?_
    rcases iteC h with ⟨hg, h⟩ | ⟨_, h⟩
    case inr => cases h
    have hb := hg
    obtain rfl := Option.some.inj h
    exact lQ.retI rfl (fitB hb) hz
theorem ts_603 {R : lAR} (hR : lRok R) {E : lE} {ad : List Nat} (hn : tOk ad) {v1 : Int32} {v2 : Int32} {s : TS} {A0 : lMem} {x : Int32} (h : t_603 v1 v2 s = some x) {Z : lZ} (hz : Z (.inl (some (.int x))) (tp ad s A0)) : lSQ R E 1 603 [.ref (adr ad 0), .int v1, .int v2] (tp ad s A0) Z := by
  refine lQ.sq pg_603 (Nat.le_of_ble_eq_true rfl) rfl ?_
  unfold t_603 at h
  refine lQ.push rfl ?_
  refine lQ.stI rfl (lN2s rfl rfl) ?_
  refine lQ.push rfl ?_
  refine lQ.stI rfl (lN2s rfl rfl) ?_
  obtain ⟨v38, hy1, h1⟩ := bindC h
  have hJ1 : lQ R E 0 cd_603 38 [(3, .int v38)] [] (tp ad s A0) Z := by
    refine lQ.loadI rfl rfl ?_
    obtain rfl := Option.some.inj h1
    exact lQ.retI rfl rfl hz
  refine lQ.sub (lSb rfl (lSb rfl (lSb rfl (lSb rfl (lSb rfl lSb0))))) (wh_run (P := fun p4 => lQ R E 0 cd_603 4 [(0, .ref (adr ad 0)), (1, .int v1), (2, .int v2), (3, .int p4.1), (4, .int p4.2)] [] (tp ad s A0) Z) hy1 ?_)
  intro p4 r2 hb2 hI2 hX2
  refine lQ.loadI rfl rfl ?_
  refine lQ.loadN rfl rfl ?_
  refine lQ.get hR rfl (tf_0_24 hn) ?_
  rcases iteC hb2 with ⟨hc, hb2⟩ | ⟨hc, hb2⟩
  · refine lQ.cmpF rfl (decide_eq_false (Int32.not_le.mpr hc)) ?_
    refine lQ.loadN rfl rfl ?_
    refine lQ.get hR rfl (tf_0_25 hn) ?_
    refine lQ.loadI rfl rfl ?_
    obtain ⟨x1, hx, hb2⟩ := bindC hb2
    refine lQ.ald hR rfl (ta_20 hn hx) ?_
    refine lQ.loadI rfl rfl ?_
    obtain ⟨v35, hy3, h3⟩ := bindC hb2
    have hJ3 : lQ R E 0 cd_603 35 [(0, .ref (adr ad 0)), (1, .int v1), (2, .int v2), (4, .int p4.2)] [.int v35] (tp ad s A0) Z := by
      refine lQ.stI rfl (lN2s rfl rfl) ?_
      refine lQ.inc rfl rfl (lN2s rfl rfl) ?_
      refine lQ.goto rfl ?_
      obtain rfl := Option.some.inj h3
      exact lQ.sub (lSb rfl (lSb rfl (lSb rfl (lSb rfl (lSb rfl lSb0))))) (hI2 _ rfl)
    obtain ⟨y4, hy4, h4⟩ := bindC hy3
    have hJ4 : ∀ v32, y4 = .inl v32 → lQ R E 0 cd_603 32 [(0, .ref (adr ad 0)), (1, .int v1), (2, .int v2), (4, .int p4.2)] [] (tp ad s A0) Z := by
      rintro v32 rfl
      have h4 := elimC h4
      refine lQ.loadI rfl rfl ?_
      refine lQ.goto rfl ?_
      obtain rfl := Option.some.inj h4
      exact lQ.sub (lSb rfl (lSb rfl (lSb rfl (lSb rfl lSb0)))) hJ3
    obtain ⟨y5, hy5, h5⟩ := bindC hy4
    have hJ5 : ∀ v20, y5 = .inl v20 → lQ R E 0 cd_603 20 [(0, .ref (adr ad 0)), (1, .int v1), (2, .int v2), (3, .int p4.1), (4, .int p4.2)] [] (tp ad s A0) Z := by
      rintro v20 rfl
      have h5 := elimC h5
      refine lQ.loadN rfl rfl ?_
      refine lQ.get hR rfl (tf_0_25 hn) ?_
      refine lQ.loadI rfl rfl ?_
      obtain ⟨x3, hx, h5⟩ := bindC h5
      refine lQ.ald hR rfl (ta_20 hn hx) ?_
      refine lQ.loadI rfl rfl ?_
      obtain ⟨y6, hy6, h6⟩ := bindC h5
      have hJ6 : ∀ v34, y6 = .inl v34 → lQ R E 0 cd_603 34 [(0, .ref (adr ad 0)), (1, .int v1), (2, .int v2), (3, .int p4.1), (4, .int p4.2)] [] (tp ad s A0) Z := by
        rintro v34 rfl
        have h6 := elimC h6
        refine lQ.loadI rfl rfl ?_
        obtain rfl := Option.some.inj h6
        obtain rfl := elimD h4
        exact lQ.sub (lSb rfl (lSb rfl (lSb rfl (lSb rfl lSb0)))) hJ3
      rcases iteC hy6 with ⟨hc, hy6⟩ | ⟨hc, hy6⟩
      · refine lQ.cmpF rfl (decide_eq_false (fun z => z hc)) ?_
        refine lQ.loadN rfl rfl ?_
        refine lQ.get hR rfl (tf_0_26 hn) ?_
        refine lQ.loadI rfl rfl ?_
        obtain ⟨x4, hx, hy6⟩ := bindC hy6
        refine lQ.ald hR rfl (ta_21 hn hx) ?_
        refine lQ.loadI rfl rfl ?_
        rcases iteC hy6 with ⟨hc, hy6⟩ | ⟨hc, hy6⟩
        · refine lQ.cmpF rfl (decide_eq_false (fun z => z hc)) ?_
          obtain rfl := Option.some.inj hy6
          obtain rfl := elimD h6
          exact lQ.sub (lSb rfl (lSb rfl (lSb rfl (lSb rfl lSb0)))) (hJ4 _ rfl)
        · refine lQ.cmpT rfl (decide_eq_true hc) ?_
          obtain rfl := Option.some.inj hy6
          exact lQ.sub (lSb rfl (lSb rfl (lSb rfl (lSb rfl (lSb rfl lSb0))))) (hJ6 _ rfl)
      · refine lQ.cmpT rfl (decide_eq_true hc) ?_
        obtain rfl := Option.some.inj hy6
        exact lQ.sub (lSb rfl (lSb rfl (lSb rfl (lSb rfl (lSb rfl lSb0))))) (hJ6 _ rfl)
    rcases iteC hy5 with ⟨hc, hy5⟩ | ⟨hc, hy5⟩
    · refine lQ.cmpF rfl (decide_eq_false (fun z => z hc)) ?_
      refine lQ.loadN rfl rfl ?_
      refine lQ.get hR rfl (tf_0_26 hn) ?_
      refine lQ.loadI rfl rfl ?_
      obtain ⟨x2, hx, hy5⟩ := bindC hy5
      refine lQ.ald hR rfl (ta_21 hn hx) ?_
      refine lQ.loadI rfl rfl ?_
      rcases iteC hy5 with ⟨hc, hy5⟩ | ⟨hc, hy5⟩
      · refine lQ.cmpT rfl (decide_eq_true hc) ?_
        obtain rfl := Option.some.inj hy5
        obtain rfl := elimD h5
        exact lQ.sub (lSb rfl (lSb rfl (lSb rfl (lSb rfl lSb0)))) (hJ4 _ rfl)
      · refine lQ.cmpF rfl (decide_eq_false hc) ?_
        obtain rfl := Option.some.inj hy5
        exact lQ.sub (lSb rfl (lSb rfl (lSb rfl (lSb rfl (lSb rfl lSb0))))) (hJ5 _ rfl)
    · refine lQ.cmpT rfl (decide_eq_true hc) ?_
      obtain rfl := Option.some.inj hy5
      exact lQ.sub (lSb rfl (lSb rfl (lSb rfl (lSb rfl (lSb rfl lSb0))))) (hJ5 _ rfl)
  · refine lQ.cmpT rfl (decide_eq_true (Int32.not_lt.mp hc)) ?_
    obtain rfl := Option.some.inj hb2
    obtain rfl := hX2 _ rfl
    exact lQ.sub (lSb rfl lSb0) hJ1
theorem ts_602 {R : lAR} (hR : lRok R) {E : lE} {ad : List Nat} (hn : tOk ad) {v1 : Int32} {v2 : Int32} {v3 : Int32} {s : TS} {A0 : lMem} {x : Int32 × TS} (h : t_602 v1 v2 v3 s = some x) {Z : lZ} (hz : Z (.inl (some (.int x.1))) (tp ad x.2 A0)) : lSQ R E 2 602 [.ref (adr ad 0), .int v1, .int v2, .int v3] (tp ad s A0) Z := by
  refine lQ.sq pg_602 (Nat.le_of_ble_eq_true rfl) rfl ?_
  unfold t_602 at h
  refine lQ.loadN rfl rfl ?_
  refine lQ.loadI rfl rfl ?_
  refine lQ.loadN rfl rfl ?_
  refine lQ.get hR rfl (tf_0_10 hn) ?_
  obtain ⟨x1, hx, h⟩ := bindC h
  refine lQ.callI (F := (fun y A => x1 = y ∧ A = tp ad s A0)) (G := fun _ _ => False) (args := [.int v1, .int (s.1 10)]) (r := [.ref (adr ad 0)]) hR rfl rfl rfl (Nat.le_of_ble_eq_true rfl) (Nat.le_of_ble_eq_true rfl) (ts_560 hR hn hx (cI_mk ⟨rfl, rfl⟩)) ?_ (fun _ _ _ z => z.elim)
  rintro _ _ ⟨rfl, rfl⟩
  obtain ⟨v17, hy1, h1⟩ := bindC h
  have hJ1 : lQ R E 1 cd_602 17 [(0, .ref (adr ad 0)), (1, .int v1), (2, .int v2), (3, .int v3)] [.int v17, .ref (adr ad 0)] (tp ad s A0) Z := by
    refine lQ.loadN rfl rfl ?_
    refine lQ.get hR rfl (tf_0_1 hn) ?_
    obtain ⟨x3, hx, h1⟩ := bindC h1
    refine lQ.callVI (F := (fun y A => x3.1 = y ∧ A = tp ad x3.2 A0)) (G := fun _ _ => False) (args := [.ref (adr ad 0), .int v17, .int (s.1 1)]) (r := []) hR rfl rfl rfl (Nat.le_of_ble_eq_true rfl) (Nat.le_of_ble_eq_true rfl) rfl (tk_0 hn rfl) (ts_558 hR hn hx (cI_mk ⟨rfl, rfl⟩)) ?_ (fun _ _ _ z => z.elim)
    rintro _ _ ⟨rfl, rfl⟩
    rcases iteC h1 with ⟨hc, h1⟩ | ⟨hc, h1⟩
    · refine lQ.ifF rfl (decide_eq_false (fun z => z hc)) ?_
      refine lQ.push rfl ?_
      obtain rfl := Option.some.inj h1
      exact lQ.retI rfl rfl hz
    · refine lQ.ifT rfl (decide_eq_true hc) ?_
      refine lQ.loadN rfl rfl ?_
      refine lQ.loadI rfl rfl ?_
      refine lQ.loadI rfl rfl ?_
      obtain ⟨x4, hx, h1⟩ := bindC h1
      refine lQ.callVI (F := (fun y A => x4 = y ∧ A = tp ad x3.2 A0)) (G := fun _ _ => False) (args := [.ref (adr ad 0), .int v1, .int v2]) (r := []) hR rfl rfl rfl (Nat.le_of_ble_eq_true rfl) (Nat.le_of_ble_eq_true rfl) rfl (tk_0 hn rfl) (ts_603 hR hn hx (cI_mk ⟨rfl, rfl⟩)) ?_ (fun _ _ _ z => z.elim)
      rintro _ _ ⟨rfl, rfl⟩
      refine lQ.stI rfl (lN2s rfl rfl) ?_
      refine lQ.loadI rfl rfl ?_
      obtain ⟨v79, hy2, h2⟩ := bindC h1
      have hJ2 : lQ R E 1 cd_602 79 [(4, .int x4)] [] (tp ad v79 A0) Z := by
        refine lQ.loadI rfl rfl ?_
        rcases iteC h2 with ⟨hc, h2⟩ | ⟨hc, h2⟩
        · refine lQ.ifT rfl (decide_eq_true hc) ?_
          refine lQ.push rfl ?_
          obtain rfl := Option.some.inj h2
          exact lQ.retI rfl rfl hz
        · refine lQ.ifF rfl (decide_eq_false hc) ?_
          refine lQ.push rfl ?_
          refine lQ.goto rfl ?_
          obtain rfl := Option.some.inj h2
          exact lQ.retI rfl rfl hz
      obtain ⟨y3, hy3, h3⟩ := bindC hy2
      have hJ3 : ∀ v51, y3 = .inl v51 → lQ R E 1 cd_602 51 [(0, .ref (adr ad 0)), (3, .int v3), (4, .int x4)] [] (tp ad x3.2 A0) Z := by
        rintro v51 rfl
        have h3 := elimC h3
        refine lQ.loadI rfl rfl ?_
        rcases iteC h3 with ⟨hc, h3⟩ | ⟨hc, h3⟩
        · refine lQ.ifT rfl (decide_eq_true hc) ?_
          obtain rfl := Option.some.inj h3
          exact lQ.sub (lSb rfl lSb0) hJ2
        · refine lQ.ifF rfl (decide_eq_false hc) ?_
          refine lQ.loadI rfl rfl ?_
          rcases iteC h3 with ⟨hc, h3⟩ | ⟨hc, h3⟩
          · refine lQ.ifF rfl (decide_eq_false (fun z => z hc)) ?_
            refine lQ.loadN rfl rfl ?_
            refine lQ.dupN rfl ?_
            refine lQ.get hR rfl (tf_0_24 hn) ?_
            refine lQ.push rfl ?_
            refine lQ.binI rfl ?_
            obtain ⟨s8, hx, h3⟩ := bindC h3
            refine lQ.put hR rfl rfl (tq_0_24 hn hx) ?_
            rintro _ rfl
            refine lQ.loadN rfl rfl ?_
            refine lQ.get hR rfl (tf_0_25 hn) ?_
            refine lQ.loadI rfl rfl ?_
            refine lQ.loadN rfl rfl ?_
            refine lQ.get hR rfl (tf_0_25 hn) ?_
            refine lQ.loadN rfl rfl ?_
            refine lQ.get hR rfl (tf_0_24 hn) ?_
            obtain ⟨x9, hx, h3⟩ := bindC h3
            refine lQ.ald hR rfl (ta_20 hn hx) ?_
            obtain ⟨s10, hx, h3⟩ := bindC h3
            refine lQ.ast hR rfl (tw_20 hn hx) ?_
            rintro _ rfl
            refine lQ.loadN rfl rfl ?_
            refine lQ.get hR rfl (tf_0_26 hn) ?_
            refine lQ.loadI rfl rfl ?_
            refine lQ.loadN rfl rfl ?_
            refine lQ.get hR rfl (tf_0_26 hn) ?_
            refine lQ.loadN rfl rfl ?_
            refine lQ.get hR rfl (tf_0_24 hn) ?_
            obtain ⟨x11, hx, h3⟩ := bindC h3
            refine lQ.ald hR rfl (ta_21 hn hx) ?_
            obtain ⟨s12, hx, h3⟩ := bindC h3
            refine lQ.ast hR rfl (tw_21 hn hx) ?_
            rintro _ rfl
            obtain rfl := Option.some.inj h3
            exact lQ.sub (lSb rfl lSb0) hJ2
          · refine lQ.ifT rfl (decide_eq_true hc) ?_
            obtain rfl := Option.some.inj h3
            exact lQ.sub (lSb rfl lSb0) hJ2
      rcases iteC hy3 with ⟨hc, hy3⟩ | ⟨hc, hy3⟩
      · refine lQ.ifF rfl (decide_eq_false (Int32.not_le.mpr hc)) ?_
        refine lQ.loadI rfl rfl ?_
        rcases iteC hy3 with ⟨hc, hy3⟩ | ⟨hc, hy3⟩
        · refine lQ.ifT rfl (decide_eq_true hc) ?_
          obtain rfl := Option.some.inj hy3
          exact lQ.sub (lSb rfl (lSb rfl (lSb rfl lSb0))) (hJ3 _ rfl)
        · refine lQ.ifF rfl (decide_eq_false hc) ?_
          refine lQ.loadN rfl rfl ?_
          refine lQ.get hR rfl (tf_0_25 hn) ?_
          refine lQ.loadN rfl rfl ?_
          refine lQ.get hR rfl (tf_0_24 hn) ?_
          refine lQ.loadI rfl rfl ?_
          obtain ⟨s5, hx, hy3⟩ := bindC hy3
          refine lQ.ast hR rfl (tw_20 hn hx) ?_
          rintro _ rfl
          refine lQ.loadN rfl rfl ?_
          refine lQ.get hR rfl (tf_0_26 hn) ?_
          refine lQ.loadN rfl rfl ?_
          refine lQ.get hR rfl (tf_0_24 hn) ?_
          refine lQ.loadI rfl rfl ?_
          obtain ⟨s6, hx, hy3⟩ := bindC hy3
          refine lQ.ast hR rfl (tw_21 hn hx) ?_
          rintro _ rfl
          refine lQ.loadN rfl rfl ?_
          refine lQ.dupN rfl ?_
          refine lQ.get hR rfl (tf_0_24 hn) ?_
          refine lQ.push rfl ?_
          refine lQ.binI rfl ?_
          obtain ⟨s7, hx, hy3⟩ := bindC hy3
          refine lQ.put hR rfl rfl (tq_0_24 hn hx) ?_
          rintro _ rfl
          refine lQ.goto rfl ?_
          obtain rfl := Option.some.inj hy3
          obtain rfl := elimD h3
          exact lQ.sub (lSb rfl lSb0) hJ2
      · refine lQ.ifT rfl (decide_eq_true (Int32.not_lt.mp hc)) ?_
        obtain rfl := Option.some.inj hy3
        exact lQ.sub (lSb rfl (lSb rfl (lSb rfl lSb0))) (hJ3 _ rfl)
  rcases iteC hy1 with ⟨hc, hy1⟩ | ⟨hc, hy1⟩
  · refine lQ.ifT rfl (decide_eq_true hc) ?_
    refine lQ.push rfl ?_
    obtain rfl := Option.some.inj hy1
    exact lQ.sub (lSb rfl (lSb rfl (lSb rfl (lSb rfl lSb0)))) hJ1
  · refine lQ.ifF rfl (decide_eq_false hc) ?_
    refine lQ.loadI rfl rfl ?_
    refine lQ.loadN rfl rfl ?_
    refine lQ.get hR rfl (tf_0_10 hn) ?_
    obtain ⟨x2, hx, hy1⟩ := bindC hy1
    refine lQ.callI (F := (fun y A => x2 = y ∧ A = tp ad s A0)) (G := fun _ _ => False) (args := [.int v2, .int (s.1 10)]) (r := [.ref (adr ad 0)]) hR rfl rfl rfl (Nat.le_of_ble_eq_true rfl) (Nat.le_of_ble_eq_true rfl) (ts_560 hR hn hx (cI_mk ⟨rfl, rfl⟩)) ?_ (fun _ _ _ z => z.elim)
    rintro _ _ ⟨rfl, rfl⟩
    rcases iteC hy1 with ⟨hc, hy1⟩ | ⟨hc, hy1⟩
    · refine lQ.ifT rfl (decide_eq_true hc) ?_
      refine lQ.push rfl ?_
      obtain rfl := Option.some.inj hy1
      exact lQ.sub (lSb rfl (lSb rfl (lSb rfl (lSb rfl lSb0)))) hJ1
    · refine lQ.ifF rfl (decide_eq_false hc) ?_
      refine lQ.loadI rfl rfl ?_
      refine lQ.loadI rfl rfl ?_
      rcases iteC hy1 with ⟨hc, hy1⟩ | ⟨hc, hy1⟩
      · refine lQ.cmpT rfl (decide_eq_true hc) ?_
        refine lQ.push rfl ?_
        obtain rfl := Option.some.inj hy1
        exact lQ.sub (lSb rfl (lSb rfl (lSb rfl (lSb rfl lSb0)))) hJ1
      · refine lQ.cmpF rfl (decide_eq_false hc) ?_
        refine lQ.push rfl ?_
        refine lQ.goto rfl ?_
        obtain rfl := Option.some.inj hy1
        exact lQ.sub (lSb rfl (lSb rfl (lSb rfl (lSb rfl lSb0)))) hJ1
theorem ts_604 {R : lAR} (hR : lRok R) {E : lE} {ad : List Nat} (hn : tOk ad) {v1 : Int32} {v2 : Int32} {s : TS} {A0 : lMem} {x : Int32 × TS} (h : t_604 v1 v2 s = some x) {Z : lZ} (hz : Z (.inl (some (.int x.1))) (tp ad x.2 A0)) : lSQ R E 2 604 [.ref (adr ad 0), .int v1, .int v2] (tp ad s A0) Z := by
  refine lQ.sq pg_604 (Nat.le_of_ble_eq_true rfl) rfl ?_
  unfold t_604 at h
  refine lQ.loadN rfl rfl ?_
  refine lQ.loadI rfl rfl ?_
  refine lQ.loadN rfl rfl ?_
  refine lQ.get hR rfl (tf_0_10 hn) ?_
  obtain ⟨x1, hx, h⟩ := bindC h
  refine lQ.callI (F := (fun y A => x1 = y ∧ A = tp ad s A0)) (G := fun _ _ => False) (args := [.int v1, .int (s.1 10)]) (r := [.ref (adr ad 0)]) hR rfl rfl rfl (Nat.le_of_ble_eq_true rfl) (Nat.le_of_ble_eq_true rfl) (ts_560 hR hn hx (cI_mk ⟨rfl, rfl⟩)) ?_ (fun _ _ _ z => z.elim)
  rintro _ _ ⟨rfl, rfl⟩
  refine lQ.loadN rfl rfl ?_
  refine lQ.get hR rfl (tf_0_1 hn) ?_
  obtain ⟨x2, hx, h⟩ := bindC h
  refine lQ.callVI (F := (fun y A => x2.1 = y ∧ A = tp ad x2.2 A0)) (G := fun _ _ => False) (args := [.ref (adr ad 0), .int x1, .int (s.1 1)]) (r := []) hR rfl rfl rfl (Nat.le_of_ble_eq_true rfl) (Nat.le_of_ble_eq_true rfl) rfl (tk_0 hn rfl) (ts_558 hR hn hx (cI_mk ⟨rfl, rfl⟩)) ?_ (fun _ _ _ z => z.elim)
  rintro _ _ ⟨rfl, rfl⟩
  rcases iteC h with ⟨hc, h⟩ | ⟨hc, h⟩
  · refine lQ.ifF rfl (decide_eq_false (fun z => z hc)) ?_
    refine lQ.push rfl ?_
    obtain rfl := Option.some.inj h
    exact lQ.retI rfl rfl hz
  · refine lQ.ifT rfl (decide_eq_true hc) ?_
    refine lQ.loadN rfl rfl ?_
    refine lQ.get hR rfl (tf_0_2 hn) ?_
    refine lQ.loadN rfl rfl ?_
    refine lQ.get hR rfl (tf_0_18 hn) ?_
    refine lQ.loadI rfl rfl ?_
    obtain ⟨x3, hx, h⟩ := bindC h
    refine lQ.ald hR rfl (ta_14 hn hx) ?_
    refine lQ.binI rfl ?_
    refine lQ.stI rfl (lN2s rfl rfl) ?_
    refine lQ.loadN rfl rfl ?_
    refine lQ.get hR rfl (tf_0_18 hn) ?_
    refine lQ.loadI rfl rfl ?_
    refine lQ.loadN rfl rfl ?_
    refine lQ.get hR rfl (tf_0_17 hn) ?_
    refine lQ.loadI rfl rfl ?_
    obtain ⟨x4, hx, h⟩ := bindC h
    refine lQ.ald hR rfl (ta_13 hn hx) ?_
    refine lQ.loadI rfl rfl ?_
    obtain ⟨v35, hy1, h1⟩ := bindC h
    have hJ1 : lQ R E 1 cd_604 35 [(0, .ref (adr ad 0)), (1, .int v1), (2, .int v2), (3, .int ((x2.2.1 2) - x3))] [.int v35, .int v1, .ref (adr ad 14)] (tp ad x2.2 A0) Z := by
      obtain ⟨s6, hx, h1⟩ := bindC h1
      refine lQ.ast hR rfl (tw_14 hn hx) ?_
      rintro _ rfl
      refine lQ.loadN rfl rfl ?_
      refine lQ.get hR rfl (tf_0_17 hn) ?_
      refine lQ.loadI rfl rfl ?_
      refine lQ.loadI rfl rfl ?_
      obtain ⟨s7, hx, h1⟩ := bindC h1
      refine lQ.bst hR rfl (tw_13 hn hx) ?_
      rintro _ rfl
      refine lQ.loadI rfl rfl ?_
      obtain rfl := Option.some.inj h1
      exact lQ.retI rfl rfl hz
    rcases iteC hy1 with ⟨hc, hy1⟩ | ⟨hc, hy1⟩
    · refine lQ.cmpF rfl (decide_eq_false (fun z => z hc)) ?_
      refine lQ.loadN rfl rfl ?_
      refine lQ.get hR rfl (tf_0_18 hn) ?_
      refine lQ.loadI rfl rfl ?_
      obtain ⟨x5, hx, hy1⟩ := bindC hy1
      refine lQ.ald hR rfl (ta_14 hn hx) ?_
      refine lQ.goto rfl ?_
      obtain rfl := Option.some.inj hy1
      exact lQ.sub (lSb rfl (lSb rfl (lSb rfl (lSb rfl lSb0)))) hJ1
    · refine lQ.cmpT rfl (decide_eq_true hc) ?_
      refine lQ.loadN rfl rfl ?_
      refine lQ.get hR rfl (tf_0_2 hn) ?_
      obtain rfl := Option.some.inj hy1
      exact lQ.sub (lSb rfl (lSb rfl (lSb rfl (lSb rfl lSb0)))) hJ1
theorem ts_606 {R : lAR} (hR : lRok R) {E : lE} {ad : List Nat} (hn : tOk ad) {v1 : Int32} {v2 : Int32} {s : TS} {A0 : lMem} {x : Int32} (h : t_606 v1 v2 s = some x) {Z : lZ} (hz : Z (.inl (some (.int x))) (tp ad s A0)) : lSQ R E 2 606 [.ref (adr ad 0), .int v1, .int v2] (tp ad s A0) Z := by
  refine lQ.sq pg_606 (Nat.le_of_ble_eq_true rfl) rfl ?_
  unfold t_606 at h
  refine lQ.loadI rfl rfl ?_
  refine lQ.loadN rfl rfl ?_
  refine lQ.get hR rfl (tf_0_10 hn) ?_
  obtain ⟨x1, hx, h⟩ := bindC h
  refine lQ.callI (F := (fun y A => x1 = y ∧ A = tp ad s A0)) (G := fun _ _ => False) (args := [.int v1, .int (s.1 10)]) (r := []) hR rfl rfl rfl (Nat.le_of_ble_eq_true rfl) (Nat.le_of_ble_eq_true rfl) (ts_560 hR hn hx (cI_mk ⟨rfl, rfl⟩)) ?_ (fun _ _ _ z => z.elim)
  rintro _ _ ⟨rfl, rfl⟩
  rcases iteC h with ⟨hc, h⟩ | ⟨hc, h⟩
  · refine lQ.ifT rfl (decide_eq_true hc) ?_
    refine lQ.push rfl ?_
    obtain rfl := Option.some.inj h
    exact lQ.retI rfl rfl hz
  · refine lQ.ifF rfl (decide_eq_false hc) ?_
    refine lQ.loadI rfl rfl ?_
    refine lQ.loadN rfl rfl ?_
    refine lQ.get hR rfl (tf_0_9 hn) ?_
    refine lQ.push rfl ?_
    refine lQ.binI rfl ?_
    obtain ⟨x2, hx, h⟩ := bindC h
    refine lQ.callI (F := (fun y A => x2 = y ∧ A = tp ad s A0)) (G := fun _ _ => False) (args := [.int v2, .int ((s.1 9) + 1)]) (r := []) hR rfl rfl rfl (Nat.le_of_ble_eq_true rfl) (Nat.le_of_ble_eq_true rfl) (ts_560 hR hn hx (cI_mk ⟨rfl, rfl⟩)) ?_ (fun _ _ _ z => z.elim)
    rintro _ _ ⟨rfl, rfl⟩
    rcases iteC h with ⟨hc, h⟩ | ⟨hc, h⟩
    · refine lQ.ifT rfl (decide_eq_true hc) ?_
      refine lQ.push rfl ?_
      obtain rfl := Option.some.inj h
      exact lQ.retI rfl rfl hz
    · refine lQ.ifF rfl (decide_eq_false hc) ?_
      refine lQ.loadN rfl rfl ?_
      refine lQ.get hR rfl (tf_0_11 hn) ?_
      refine lQ.loadI rfl rfl ?_
      obtain ⟨x3, hx, h⟩ := bindC h
      refine lQ.ald hR rfl (ta_7 hn hx) ?_
      refine lQ.loadI rfl rfl ?_
      rcases iteC h with ⟨hc, h⟩ | ⟨hc, h⟩
      · refine lQ.cmpT rfl (decide_eq_true hc) ?_
        refine lQ.push rfl ?_
        refine lQ.goto rfl ?_
        obtain rfl := Option.some.inj h
        exact lQ.retI rfl rfl hz
      · refine lQ.cmpF rfl (decide_eq_false hc) ?_
        refine lQ.loadN rfl rfl ?_
        refine lQ.get hR rfl (tf_0_12 hn) ?_
        refine lQ.loadI rfl rfl ?_
        obtain ⟨x4, hx, h⟩ := bindC h
        refine lQ.ald hR rfl (ta_8 hn hx) ?_
        refine lQ.loadI rfl rfl ?_
        rcases iteC h with ⟨hc, h⟩ | ⟨hc, h⟩
        · refine lQ.cmpF rfl (decide_eq_false (fun z => z hc)) ?_
          refine lQ.push rfl ?_
          refine lQ.goto rfl ?_
          obtain rfl := Option.some.inj h
          exact lQ.retI rfl rfl hz
        · refine lQ.cmpT rfl (decide_eq_true hc) ?_
          refine lQ.push rfl ?_
          obtain rfl := Option.some.inj h
          exact lQ.retI rfl rfl hz
theorem ts_763 {R : lAR} (hR : lRok R) {E : lE} {ad : List Nat} (hn : tOk ad) {v1 : Int32} {s : TS} {A0 : lMem} {x : Int32} (h : t_763 v1 s = some x) {Z : lZ} (hz : Z (.inl (some (.int x))) (tp ad s A0)) : lSQ R E 1 763 [.ref (adr ad 3), .int v1] (tp ad s A0) Z := by
  refine lQ.sq pg_763 (Nat.le_of_ble_eq_true rfl) rfl ?_
  unfold t_763 at h
  refine lQ.push rfl ?_
  refine lQ.stI rfl (lN2s rfl rfl) ?_
  refine lQ.push rfl ?_
  refine lQ.stI rfl (lN2s rfl rfl) ?_
  obtain ⟨v34, hy1, h1⟩ := bindC h
  have hJ1 : lQ R E 0 cd_763 34 [(2, .int v34)] [] (tp ad s A0) Z := by
    refine lQ.loadI rfl rfl ?_
    obtain rfl := Option.some.inj h1
    exact lQ.retI rfl rfl hz
  refine lQ.sub (lSb rfl (lSb rfl (lSb rfl (lSb rfl lSb0)))) (wh_run (P := fun p4 => lQ R E 0 cd_763 4 [(0, .ref (adr ad 3)), (1, .int v1), (2, .int p4.1), (3, .int p4.2)] [] (tp ad s A0) Z) hy1 ?_)
  intro p4 r2 hb2 hI2 hX2
  refine lQ.loadI rfl rfl ?_
  refine lQ.push rfl ?_
  rcases iteC hb2 with ⟨hc, hb2⟩ | ⟨hc, hb2⟩
  · refine lQ.cmpF rfl (decide_eq_false (Int32.not_le.mpr hc)) ?_
    refine lQ.loadI rfl rfl ?_
    refine lQ.loadN rfl rfl ?_
    refine lQ.get hR rfl (tf_3_16 hn) ?_
    refine lQ.loadI rfl rfl ?_
    obtain ⟨x1, hx, hb2⟩ := bindC hb2
    refine lQ.ald hR rfl (ta_109 hn hx) ?_
    obtain ⟨v30, hy3, h3⟩ := bindC hb2
    have hJ3 : lQ R E 0 cd_763 30 [(0, .ref (adr ad 3)), (1, .int v1), (3, .int p4.2)] [.int v30, .int p4.1] (tp ad s A0) Z := by
      refine lQ.binI rfl ?_
      refine lQ.stI rfl (lN2s rfl rfl) ?_
      refine lQ.inc rfl rfl (lN2s rfl rfl) ?_
      refine lQ.goto rfl ?_
      obtain rfl := Option.some.inj h3
      exact lQ.sub (lSb rfl (lSb rfl (lSb rfl (lSb rfl lSb0)))) (hI2 _ rfl)
    rcases iteC hy3 with ⟨hc, hy3⟩ | ⟨hc, hy3⟩
    · refine lQ.ifT rfl (decide_eq_true hc) ?_
      refine lQ.push rfl ?_
      obtain rfl := Option.some.inj hy3
      exact lQ.sub (lSb rfl (lSb rfl (lSb rfl lSb0))) hJ3
    · refine lQ.ifF rfl (decide_eq_false hc) ?_
      refine lQ.loadN rfl rfl ?_
      refine lQ.get hR rfl (tf_3_26 hn) ?_
      refine lQ.loadI rfl rfl ?_
      obtain ⟨x2, hx, hy3⟩ := bindC hy3
      refine lQ.ald hR rfl (ta_117 hn hx) ?_
      refine lQ.push rfl ?_
      rcases iteC hy3 with ⟨hc, hy3⟩ | ⟨hc, hy3⟩
      · refine lQ.cmpF rfl (decide_eq_false (fun z => z hc)) ?_
        refine lQ.loadI rfl rfl ?_
        rcases iteC hy3 with ⟨hc, hy3⟩ | ⟨hc, hy3⟩
        · refine lQ.ifT rfl (decide_eq_true hc) ?_
          refine lQ.push rfl ?_
          refine lQ.goto rfl ?_
          obtain rfl := Option.some.inj hy3
          exact lQ.sub (lSb rfl (lSb rfl (lSb rfl lSb0))) hJ3
        · refine lQ.ifF rfl (decide_eq_false hc) ?_
          refine lQ.loadN rfl rfl ?_
          refine lQ.get hR rfl (tf_3_17 hn) ?_
          refine lQ.loadI rfl rfl ?_
          obtain ⟨x3, hx, hy3⟩ := bindC hy3
          refine lQ.ald hR rfl (ta_110 hn hx) ?_
          refine lQ.loadI rfl rfl ?_
          rcases iteC hy3 with ⟨hc, hy3⟩ | ⟨hc, hy3⟩
          · refine lQ.cmpF rfl (decide_eq_false (fun z => z hc)) ?_
            refine lQ.push rfl ?_
            refine lQ.goto rfl ?_
            obtain rfl := Option.some.inj hy3
            exact lQ.sub (lSb rfl (lSb rfl (lSb rfl lSb0))) hJ3
          · refine lQ.cmpT rfl (decide_eq_true hc) ?_
            refine lQ.push rfl ?_
            obtain rfl := Option.some.inj hy3
            exact lQ.sub (lSb rfl (lSb rfl (lSb rfl lSb0))) hJ3
      · refine lQ.cmpT rfl (decide_eq_true hc) ?_
        refine lQ.push rfl ?_
        obtain rfl := Option.some.inj hy3
        exact lQ.sub (lSb rfl (lSb rfl (lSb rfl lSb0))) hJ3
  · refine lQ.cmpT rfl (decide_eq_true (Int32.not_lt.mp hc)) ?_
    obtain rfl := Option.some.inj hb2
    obtain rfl := hX2 _ rfl
    exact lQ.sub (lSb rfl lSb0) hJ1
theorem ts_608 {R : lAR} (hR : lRok R) {E : lE} {ad : List Nat} (hn : tOk ad) {s : TS} {A0 : lMem} {x : Int32} (h : t_608 s = some x) {Z : lZ} (hz : Z (.inl (some (.int x))) (tp ad s A0)) : lSQ R E 2 608 [.ref (adr ad 0)] (tp ad s A0) Z := by
  refine lQ.sq pg_608 (Nat.le_of_ble_eq_true rfl) rfl ?_
  unfold t_608 at h
  refine lQ.loadN rfl rfl ?_
  refine lQ.get hR rfl (tf_0_5 hn) ?_
  refine lQ.push rfl ?_
  obtain ⟨x1, hx, h⟩ := bindC h
  refine lQ.callVI (F := (fun y A => x1 = y ∧ A = tp ad s A0)) (G := fun _ _ => False) (args := [.ref (adr ad 3), .int 0]) (r := []) hR rfl rfl rfl (Nat.le_of_ble_eq_true rfl) (Nat.le_of_ble_eq_true rfl) rfl (tk_3 hn rfl) (ts_763 hR hn hx (cI_mk ⟨rfl, rfl⟩)) ?_ (fun _ _ _ z => z.elim)
  rintro _ _ ⟨rfl, rfl⟩
  rcases iteC h with ⟨hc, h⟩ | ⟨hc, h⟩
  · refine lQ.ifF rfl (decide_eq_false (Int32.not_le.mpr hc)) ?_
    refine lQ.push rfl ?_
    refine lQ.goto rfl ?_
    obtain rfl := Option.some.inj h
    exact lQ.retI rfl rfl hz
  · refine lQ.ifT rfl (decide_eq_true (Int32.not_lt.mp hc)) ?_
    refine lQ.push rfl ?_
    obtain rfl := Option.some.inj h
    exact lQ.retI rfl rfl hz
theorem ts_610 {R : lAR} (hR : lRok R) {E : lE} {ad : List Nat} (hn : tOk ad) {v1 : Int32} {s : TS} {A0 : lMem} {x : Int32} (h : t_610 v1 s = some x) {Z : lZ} (hz : Z (.inl (some (.int x))) (tp ad s A0)) : lSQ R E 1 610 [.ref (adr ad 0), .int v1] (tp ad s A0) Z := by
  refine lQ.sq pg_610 (Nat.le_of_ble_eq_true rfl) rfl ?_
  unfold t_610 at h
  refine lQ.loadI rfl rfl ?_
  refine lQ.loadN rfl rfl ?_
  refine lQ.get hR rfl (tf_0_9 hn) ?_
  rcases iteC h with ⟨hc, h⟩ | ⟨hc, h⟩
  · refine lQ.cmpF rfl (decide_eq_false (fun z => z hc)) ?_
    refine lQ.push rfl ?_
    refine lQ.goto rfl ?_
    obtain rfl := Option.some.inj h
    exact lQ.retI rfl rfl hz
  · refine lQ.cmpT rfl (decide_eq_true hc) ?_
    refine lQ.loadN rfl rfl ?_
    refine lQ.get hR rfl (tf_0_3 hn) ?_
    refine lQ.get hR rfl (tf_1_25 hn) ?_
    refine lQ.loadI rfl rfl ?_
    obtain ⟨x1, hx, h⟩ := bindC h
    refine lQ.ald hR rfl (ta_64 hn hx) ?_
    refine lQ.push rfl ?_
    refine lQ.divI rfl (by decide) ?_
    obtain rfl := Option.some.inj h
    exact lQ.retI rfl rfl hz
theorem ts_611 {R : lAR} (hR : lRok R) {E : lE} {ad : List Nat} (hn : tOk ad) {v1 : Int32} {v2 : Int32} {v3 : Int32} {v4 : Int32} {s : TS} {A0 : lMem} {x : Int32} (h : t_611 v1 v2 v3 v4 s = some x) {Z : lZ} (hz : Z (.inl (some (.int x))) (tp ad s A0)) : lSQ R E 1 611 [.ref (adr ad 0), .int v1, .int v2, .int v3, .int v4] (tp ad s A0) Z := by
  refine lQ.sq pg_611 (Nat.le_of_ble_eq_true rfl) rfl ?_
  unfold t_611 at h
  refine lQ.loadN rfl rfl ?_
  refine lQ.get hR rfl (tf_0_42 hn) ?_
  refine lQ.loadI rfl rfl ?_
  obtain ⟨x1, hx, h⟩ := bindC h
  refine lQ.ald hR rfl (ta_34 hn hx) ?_
  refine lQ.loadI rfl rfl ?_
  obtain ⟨v9, hy1, h1⟩ := bindC h
  have hJ1 : lQ R E 0 cd_611 9 [(0, .ref (adr ad 0)), (1, .int v1), (2, .int v2), (3, .int v3), (4, .int v4)] [.int v9] (tp ad s A0) Z := by
    refine lQ.stI rfl (lN2s rfl rfl) ?_
    refine lQ.loadI rfl rfl ?_
    refine lQ.loadN rfl rfl ?_
    refine lQ.get hR rfl (tf_0_43 hn) ?_
    refine lQ.loadI rfl rfl ?_
    obtain ⟨x2, hx, h1⟩ := bindC h1
    refine lQ.ald hR rfl (ta_35 hn hx) ?_
    obtain ⟨v19, hy2, h2⟩ := bindC h1
    have hJ2 : lQ R E 0 cd_611 19 [(0, .ref (adr ad 0)), (1, .int v1), (2, .int v2), (3, .int v3), (5, .int v9)] [.int v19] (tp ad s A0) Z := by
      refine lQ.stI rfl (lN2s rfl rfl) ?_
      refine lQ.loadN rfl rfl ?_
      refine lQ.get hR rfl (tf_0_42 hn) ?_
      refine lQ.loadI rfl rfl ?_
      obtain ⟨x3, hx, h2⟩ := bindC h2
      refine lQ.ald hR rfl (ta_34 hn hx) ?_
      refine lQ.loadN rfl rfl ?_
      refine lQ.get hR rfl (tf_0_43 hn) ?_
      refine lQ.loadI rfl rfl ?_
      obtain ⟨x4, hx, h2⟩ := bindC h2
      refine lQ.ald hR rfl (ta_35 hn hx) ?_
      obtain ⟨v53, hy3, h3⟩ := bindC h2
      have hJ3 : lQ R E 0 cd_611 53 [(0, .ref (adr ad 0)), (1, .int v1), (2, .int v2), (3, .int v3)] [.int v53] (tp ad s A0) Z := by
        refine lQ.stI rfl (lN2n rfl) ?_
        refine lQ.loadI rfl rfl ?_
        rcases iteC h3 with ⟨hc, h3⟩ | ⟨hc, h3⟩
        · refine lQ.ifT rfl (decide_eq_true hc) ?_
          refine lQ.push rfl ?_
          obtain rfl := Option.some.inj h3
          exact lQ.retI rfl rfl hz
        · refine lQ.ifF rfl (decide_eq_false hc) ?_
          refine lQ.loadN rfl rfl ?_
          refine lQ.get hR rfl (tf_0_40 hn) ?_
          refine lQ.loadI rfl rfl ?_
          obtain ⟨x7, hx, h3⟩ := bindC h3
          refine lQ.ald hR rfl (ta_32 hn hx) ?_
          refine lQ.loadI rfl rfl ?_
          rcases iteC h3 with ⟨hc, h3⟩ | ⟨hc, h3⟩
          · refine lQ.cmpF rfl (decide_eq_false (fun z => z hc)) ?_
            refine lQ.loadN rfl rfl ?_
            refine lQ.get hR rfl (tf_0_41 hn) ?_
            refine lQ.loadI rfl rfl ?_
            obtain ⟨x8, hx, h3⟩ := bindC h3
            refine lQ.ald hR rfl (ta_33 hn hx) ?_
            refine lQ.loadI rfl rfl ?_
            rcases iteC h3 with ⟨hc, h3⟩ | ⟨hc, h3⟩
            · refine lQ.cmpF rfl (decide_eq_false (fun z => z hc)) ?_
              refine lQ.push rfl ?_
              refine lQ.goto rfl ?_
              obtain rfl := Option.some.inj h3
              exact lQ.retI rfl rfl hz
            · refine lQ.cmpT rfl (decide_eq_true hc) ?_
              refine lQ.push rfl ?_
              obtain rfl := Option.some.inj h3
              exact lQ.retI rfl rfl hz
          · refine lQ.cmpT rfl (decide_eq_true hc) ?_
            refine lQ.push rfl ?_
            obtain rfl := Option.some.inj h3
            exact lQ.retI rfl rfl hz
      rcases iteC hy3 with ⟨hc, hy3⟩ | ⟨hc, hy3⟩
      · refine lQ.cmpF rfl (decide_eq_false (Int32.not_le.mpr hc)) ?_
        refine lQ.loadI rfl rfl ?_
        rcases iteC hy3 with ⟨hc, hy3⟩ | ⟨hc, hy3⟩
        · refine lQ.ifT rfl (decide_eq_true hc) ?_
          refine lQ.push rfl ?_
          refine lQ.goto rfl ?_
          obtain rfl := Option.some.inj hy3
          exact lQ.sub (lSb rfl (lSb rfl (lSb rfl (lSb rfl lSb0)))) hJ3
        · refine lQ.ifF rfl (decide_eq_false hc) ?_
          refine lQ.loadI rfl rfl ?_
          rcases iteC hy3 with ⟨hc, hy3⟩ | ⟨hc, hy3⟩
          · refine lQ.ifT rfl (decide_eq_true hc) ?_
            refine lQ.push rfl ?_
            refine lQ.goto rfl ?_
            obtain rfl := Option.some.inj hy3
            exact lQ.sub (lSb rfl (lSb rfl (lSb rfl (lSb rfl lSb0)))) hJ3
          · refine lQ.ifF rfl (decide_eq_false hc) ?_
            refine lQ.push rfl ?_
            refine lQ.goto rfl ?_
            obtain rfl := Option.some.inj hy3
            exact lQ.sub (lSb rfl (lSb rfl (lSb rfl (lSb rfl lSb0)))) hJ3
      · refine lQ.cmpT rfl (decide_eq_true (Int32.not_lt.mp hc)) ?_
        refine lQ.loadN rfl rfl ?_
        refine lQ.get hR rfl (tf_0_42 hn) ?_
        refine lQ.loadI rfl rfl ?_
        obtain ⟨x5, hx, hy3⟩ := bindC hy3
        refine lQ.ald hR rfl (ta_34 hn hx) ?_
        refine lQ.loadN rfl rfl ?_
        refine lQ.get hR rfl (tf_0_43 hn) ?_
        refine lQ.loadI rfl rfl ?_
        obtain ⟨x6, hx, hy3⟩ := bindC hy3
        refine lQ.ald hR rfl (ta_35 hn hx) ?_
        rcases iteC hy3 with ⟨hc, hy3⟩ | ⟨hc, hy3⟩
        · refine lQ.cmpF rfl (decide_eq_false (Int32.not_le.mpr hc)) ?_
          refine lQ.loadI rfl rfl ?_
          rcases iteC hy3 with ⟨hc, hy3⟩ | ⟨hc, hy3⟩
          · refine lQ.ifF rfl (decide_eq_false (fun z => z hc)) ?_
            refine lQ.loadI rfl rfl ?_
            rcases iteC hy3 with ⟨hc, hy3⟩ | ⟨hc, hy3⟩
            · refine lQ.ifT rfl (decide_eq_true hc) ?_
              refine lQ.push rfl ?_
              obtain rfl := Option.some.inj hy3
              exact lQ.sub (lSb rfl (lSb rfl (lSb rfl (lSb rfl lSb0)))) hJ3
            · refine lQ.ifF rfl (decide_eq_false hc) ?_
              refine lQ.push rfl ?_
              refine lQ.goto rfl ?_
              obtain rfl := Option.some.inj hy3
              exact lQ.sub (lSb rfl (lSb rfl (lSb rfl (lSb rfl lSb0)))) hJ3
          · refine lQ.ifT rfl (decide_eq_true hc) ?_
            refine lQ.push rfl ?_
            refine lQ.goto rfl ?_
            obtain rfl := Option.some.inj hy3
            exact lQ.sub (lSb rfl (lSb rfl (lSb rfl (lSb rfl lSb0)))) hJ3
        · refine lQ.cmpT rfl (decide_eq_true (Int32.not_lt.mp hc)) ?_
          refine lQ.push rfl ?_
          obtain rfl := Option.some.inj hy3
          exact lQ.sub (lSb rfl (lSb rfl (lSb rfl (lSb rfl lSb0)))) hJ3
    rcases iteC hy2 with ⟨hc, hy2⟩ | ⟨hc, hy2⟩
    · refine lQ.cmpF rfl (decide_eq_false (Int32.not_le.mpr hc)) ?_
      refine lQ.push rfl ?_
      refine lQ.goto rfl ?_
      obtain rfl := Option.some.inj hy2
      exact lQ.sub (lSb rfl (lSb rfl (lSb rfl (lSb rfl (lSb rfl lSb0))))) hJ2
    · refine lQ.cmpT rfl (decide_eq_true (Int32.not_lt.mp hc)) ?_
      refine lQ.push rfl ?_
      obtain rfl := Option.some.inj hy2
      exact lQ.sub (lSb rfl (lSb rfl (lSb rfl (lSb rfl (lSb rfl lSb0))))) hJ2
  rcases iteC hy1 with ⟨hc, hy1⟩ | ⟨hc, hy1⟩
  · refine lQ.cmpT rfl (decide_eq_true hc) ?_
    refine lQ.push rfl ?_
    obtain rfl := Option.some.inj hy1
    exact lQ.sub (lSb rfl (lSb rfl (lSb rfl (lSb rfl (lSb rfl lSb0))))) hJ1
  · refine lQ.cmpF rfl (decide_eq_false hc) ?_
    refine lQ.push rfl ?_
    refine lQ.goto rfl ?_
    obtain rfl := Option.some.inj hy1
    exact lQ.sub (lSb rfl (lSb rfl (lSb rfl (lSb rfl (lSb rfl lSb0))))) hJ1
theorem ts_609 {R : lAR} (hR : lRok R) {E : lE} {ad : List Nat} (hn : tOk ad) {v1 : Int32} {v2 : Int32} {v3 : Int32} {v4 : Int32} {v5 : Int32} {s : TS} {A0 : lMem} {x : Int32} (h : t_609 v1 v2 v3 v4 v5 s = some x) {Z : lZ} (hz : Z (.inl (some (.int x))) (tp ad s A0)) : lSQ R E 2 609 [.ref (adr ad 0), .int v1, .int v2, .int v3, .int v4, .int v5] (tp ad s A0) Z := by
  refine lQ.sq pg_609 (Nat.le_of_ble_eq_true rfl) rfl ?_
  unfold t_609 at h
  refine lQ.loadN rfl rfl ?_
  refine lQ.push rfl ?_
  refine lQ.loadI rfl rfl ?_
  refine lQ.loadI rfl rfl ?_
  obtain ⟨x1, hx, h⟩ := bindC h
  refine lQ.callVI (F := (fun y A => x1 = y ∧ A = tp ad s A0)) (G := fun _ _ => False) (args := [.ref (adr ad 0), .int 0, .int v1, .int v4]) (r := []) hR rfl rfl rfl (Nat.le_of_ble_eq_true rfl) (Nat.le_of_ble_eq_true rfl) rfl (tk_0 hn rfl) (ts_599 hR hn hx (cI_mk ⟨rfl, rfl⟩)) ?_ (fun _ _ _ z => z.elim)
  rintro _ _ ⟨rfl, rfl⟩
  rcases iteC h with ⟨hc, h⟩ | ⟨hc, h⟩
  · refine lQ.ifF rfl (decide_eq_false (Int32.not_le.mpr hc)) ?_
    refine lQ.push rfl ?_
    obtain rfl := Option.some.inj h
    exact lQ.retI rfl rfl hz
  · refine lQ.ifT rfl (decide_eq_true (Int32.not_lt.mp hc)) ?_
    refine lQ.loadN rfl rfl ?_
    refine lQ.get hR rfl (tf_0_38 hn) ?_
    refine lQ.loadI rfl rfl ?_
    obtain ⟨x2, hx, h⟩ := bindC h
    refine lQ.ald hR rfl (ta_31 hn hx) ?_
    refine lQ.loadI rfl rfl ?_
    rcases iteC h with ⟨hc, h⟩ | ⟨hc, h⟩
    · refine lQ.cmpF rfl (decide_eq_false (Int32.not_le.mpr hc)) ?_
      refine lQ.push rfl ?_
      obtain rfl := Option.some.inj h
      exact lQ.retI rfl rfl hz
    · refine lQ.cmpT rfl (decide_eq_true (Int32.not_lt.mp hc)) ?_
      refine lQ.loadN rfl rfl ?_
      refine lQ.push rfl ?_
      refine lQ.loadI rfl rfl ?_
      refine lQ.loadI rfl rfl ?_
      obtain ⟨x3, hx, h⟩ := bindC h
      refine lQ.callVI (F := (fun y A => x3 = y ∧ A = tp ad s A0)) (G := fun _ _ => False) (args := [.ref (adr ad 0), .int 3, .int v1, .int v4]) (r := []) hR rfl rfl rfl (Nat.le_of_ble_eq_true rfl) (Nat.le_of_ble_eq_true rfl) rfl (tk_0 hn rfl) (ts_599 hR hn hx (cI_mk ⟨rfl, rfl⟩)) ?_ (fun _ _ _ z => z.elim)
      rintro _ _ ⟨rfl, rfl⟩
      refine lQ.stI rfl (lN2s rfl rfl) ?_
      refine lQ.loadI rfl rfl ?_
      obtain ⟨y1, hy1, h1⟩ := bindC h
      have hJ1 : ∀ v29, y1 = .inl v29 → lQ R E 1 cd_609 29 [(0, .ref (adr ad 0)), (1, .int v1), (2, .int v2), (3, .int v3), (4, .int v4), (5, .int v5)] [] (tp ad s A0) Z := by
        rintro v29 rfl
        have h1 := elimC h1
        refine lQ.loadI rfl rfl ?_
        obtain ⟨y2, hy2, h2⟩ := bindC h1
        have hJ2 : ∀ v42, y2 = .inl v42 → lQ R E 1 cd_609 42 [(0, .ref (adr ad 0)), (1, .int v1), (2, .int v2), (3, .int v3), (4, .int v4)] [] (tp ad s A0) Z := by
          rintro v42 rfl
          have h2 := elimC h2
          refine lQ.loadI rfl rfl ?_
          refine lQ.loadN rfl rfl ?_
          refine lQ.get hR rfl (tf_0_9 hn) ?_
          obtain ⟨v49, hy3, h3⟩ := bindC h2
          have hJ3 : lQ R E 1 cd_609 49 [(0, .ref (adr ad 0)), (1, .int v1), (2, .int v2), (3, .int v3), (4, .int v4)] [.int v49] (tp ad s A0) Z := by
            refine lQ.stI rfl (lN2n rfl) ?_
            refine lQ.push rfl ?_
            refine lQ.stI rfl (lN2s rfl rfl) ?_
            obtain ⟨v110, hy4, h4⟩ := bindC h3
            have hJ4 : lQ R E 1 cd_609 110 [(7, .int v110)] [] (tp ad s A0) Z := by
              refine lQ.loadI rfl rfl ?_
              rcases iteC h4 with ⟨hc, h4⟩ | ⟨hc, h4⟩
              · refine lQ.ifT rfl (decide_eq_true hc) ?_
                refine lQ.push rfl ?_
                obtain rfl := Option.some.inj h4
                exact lQ.retI rfl rfl hz
              · refine lQ.ifF rfl (decide_eq_false hc) ?_
                refine lQ.push rfl ?_
                refine lQ.goto rfl ?_
                obtain rfl := Option.some.inj h4
                exact lQ.retI rfl rfl hz
            refine lQ.sub (lSb rfl (lSb rfl (lSb rfl (lSb rfl (lSb rfl (lSb rfl (lSb rfl lSb0))))))) (wh_run (P := fun p52 => lQ R E 1 cd_609 52 [(0, .ref (adr ad 0)), (1, .int v1), (2, .int v2), (3, .int v3), (4, .int v4), (7, .int p52.1), (8, .int p52.2)] [] (tp ad s A0) Z) hy4 ?_)
            intro p52 r5 hb5 hI5 hX5
            refine lQ.loadI rfl rfl ?_
            refine lQ.loadN rfl rfl ?_
            refine lQ.get hR rfl (tf_0_39 hn) ?_
            rcases iteC hb5 with ⟨hc, hb5⟩ | ⟨hc, hb5⟩
            · refine lQ.cmpF rfl (decide_eq_false (Int32.not_le.mpr hc)) ?_
              refine lQ.loadI rfl rfl ?_
              rcases iteC hb5 with ⟨hc, hb5⟩ | ⟨hc, hb5⟩
              · refine lQ.ifF rfl (decide_eq_false (fun z => z hc)) ?_
                refine lQ.loadN rfl rfl ?_
                refine lQ.push rfl ?_
                refine lQ.loadI rfl rfl ?_
                refine lQ.loadI rfl rfl ?_
                obtain ⟨x6, hx, hb5⟩ := bindC hb5
                refine lQ.callVI (F := (fun y A => x6 = y ∧ A = tp ad s A0)) (G := fun _ _ => False) (args := [.ref (adr ad 0), .int 2, .int p52.2, .int v4]) (r := []) hR rfl rfl rfl (Nat.le_of_ble_eq_true rfl) (Nat.le_of_ble_eq_true rfl) rfl (tk_0 hn rfl) (ts_599 hR hn hx (cI_mk ⟨rfl, rfl⟩)) ?_ (fun _ _ _ z => z.elim)
                rintro _ _ ⟨rfl, rfl⟩
                refine lQ.stI rfl (lN2s rfl rfl) ?_
                refine lQ.loadN rfl rfl ?_
                refine lQ.push rfl ?_
                refine lQ.loadI rfl rfl ?_
                refine lQ.loadI rfl rfl ?_
                obtain ⟨x7, hx, hb5⟩ := bindC hb5
                refine lQ.callVI (F := (fun y A => x7 = y ∧ A = tp ad s A0)) (G := fun _ _ => False) (args := [.ref (adr ad 0), .int 1, .int p52.2, .int v4]) (r := []) hR rfl rfl rfl (Nat.le_of_ble_eq_true rfl) (Nat.le_of_ble_eq_true rfl) rfl (tk_0 hn rfl) (ts_599 hR hn hx (cI_mk ⟨rfl, rfl⟩)) ?_ (fun _ _ _ z => z.elim)
                rintro _ _ ⟨rfl, rfl⟩
                obtain ⟨v84, hy6, h6⟩ := bindC hb5
                have hJ6 : lQ R E 1 cd_609 84 [(0, .ref (adr ad 0)), (1, .int v1), (2, .int v2), (3, .int v3), (4, .int v4), (8, .int p52.2)] [.int v84] (tp ad s A0) Z := by
                  refine lQ.stI rfl (lN2n rfl) ?_
                  refine lQ.loadI rfl rfl ?_
                  obtain ⟨v107, hy7, h7⟩ := bindC h6
                  have hJ7 : lQ R E 1 cd_609 107 [(0, .ref (adr ad 0)), (1, .int v1), (2, .int v2), (3, .int v3), (4, .int v4), (8, .int p52.2)] [.int v107] (tp ad s A0) Z := by
                    refine lQ.stI rfl (lN2n rfl) ?_
                    refine lQ.inc rfl rfl (lN2s rfl rfl) ?_
                    refine lQ.goto rfl ?_
                    obtain rfl := Option.some.inj h7
                    exact lQ.sub (lSb rfl (lSb rfl (lSb rfl (lSb rfl (lSb rfl (lSb rfl (lSb rfl lSb0))))))) (hI5 _ rfl)
                  rcases iteC hy7 with ⟨hc, hy7⟩ | ⟨hc, hy7⟩
                  · refine lQ.ifT rfl (decide_eq_true hc) ?_
                    refine lQ.push rfl ?_
                    obtain rfl := Option.some.inj hy7
                    exact lQ.sub (lSb rfl (lSb rfl (lSb rfl (lSb rfl (lSb rfl (lSb rfl lSb0)))))) hJ7
                  · refine lQ.ifF rfl (decide_eq_false hc) ?_
                    refine lQ.loadN rfl rfl ?_
                    refine lQ.loadI rfl rfl ?_
                    refine lQ.loadN rfl rfl ?_
                    refine lQ.get hR rfl (tf_0_28 hn) ?_
                    refine lQ.loadN rfl rfl ?_
                    refine lQ.get hR rfl (tf_0_37 hn) ?_
                    refine lQ.loadI rfl rfl ?_
                    obtain ⟨x9, hx, hy7⟩ := bindC hy7
                    refine lQ.ald hR rfl (ta_30 hn hx) ?_
                    obtain ⟨x10, hx, hy7⟩ := bindC hy7
                    refine lQ.ald hR rfl (ta_22 hn hx) ?_
                    refine lQ.loadN rfl rfl ?_
                    refine lQ.loadI rfl rfl ?_
                    obtain ⟨x11, hx, hy7⟩ := bindC hy7
                    refine lQ.callVI (F := (fun y A => x11 = y ∧ A = tp ad s A0)) (G := fun _ _ => False) (args := [.ref (adr ad 0), .int v2]) (r := [.int x10, .int p52.2, .ref (adr ad 0)]) hR rfl rfl rfl (Nat.le_of_ble_eq_true rfl) (Nat.le_of_ble_eq_true rfl) rfl (tk_0 hn rfl) (ts_610 hR hn hx (cI_mk ⟨rfl, rfl⟩)) ?_ (fun _ _ _ z => z.elim)
                    rintro _ _ ⟨rfl, rfl⟩
                    refine lQ.loadI rfl rfl ?_
                    refine lQ.push rfl ?_
                    refine lQ.divI rfl (by decide) ?_
                    obtain ⟨x12, hx, hy7⟩ := bindC hy7
                    refine lQ.callVI (F := (fun y A => x12 = y ∧ A = tp ad s A0)) (G := fun _ _ => False) (args := [.ref (adr ad 0), .int p52.2, .int x10, .int x11, .int (v3 - v3 / (1440 : Int32) * (1440 : Int32))]) (r := []) hR rfl rfl rfl (Nat.le_of_ble_eq_true rfl) (Nat.le_of_ble_eq_true rfl) rfl (tk_0 hn rfl) (ts_611 hR hn hx (cI_mk ⟨rfl, rfl⟩)) ?_ (fun _ _ _ z => z.elim)
                    rintro _ _ ⟨rfl, rfl⟩
                    rcases iteC hy7 with ⟨hc, hy7⟩ | ⟨hc, hy7⟩
                    · refine lQ.ifT rfl (decide_eq_true hc) ?_
                      refine lQ.push rfl ?_
                      obtain rfl := Option.some.inj hy7
                      exact lQ.sub (lSb rfl (lSb rfl (lSb rfl (lSb rfl (lSb rfl (lSb rfl lSb0)))))) hJ7
                    · refine lQ.ifF rfl (decide_eq_false hc) ?_
                      refine lQ.push rfl ?_
                      refine lQ.goto rfl ?_
                      obtain rfl := Option.some.inj hy7
                      exact lQ.sub (lSb rfl (lSb rfl (lSb rfl (lSb rfl (lSb rfl (lSb rfl lSb0)))))) hJ7
                rcases iteC hy6 with ⟨hc, hy6⟩ | ⟨hc, hy6⟩
                · refine lQ.ifT rfl (decide_eq_true hc) ?_
                  refine lQ.push rfl ?_
                  obtain rfl := Option.some.inj hy6
                  exact lQ.sub (lSb rfl (lSb rfl (lSb rfl (lSb rfl (lSb rfl (lSb rfl lSb0)))))) hJ6
                · refine lQ.ifF rfl (decide_eq_false hc) ?_
                  refine lQ.loadN rfl rfl ?_
                  refine lQ.get hR rfl (tf_0_44 hn) ?_
                  refine lQ.loadI rfl rfl ?_
                  obtain ⟨x8, hx, hy6⟩ := bindC hy6
                  refine lQ.ald hR rfl (ta_36 hn hx) ?_
                  refine lQ.loadI rfl rfl ?_
                  rcases iteC hy6 with ⟨hc, hy6⟩ | ⟨hc, hy6⟩
                  · refine lQ.cmpT rfl (decide_eq_true hc) ?_
                    refine lQ.push rfl ?_
                    obtain rfl := Option.some.inj hy6
                    exact lQ.sub (lSb rfl (lSb rfl (lSb rfl (lSb rfl (lSb rfl (lSb rfl lSb0)))))) hJ6
                  · refine lQ.cmpF rfl (decide_eq_false hc) ?_
                    refine lQ.loadI rfl rfl ?_
                    rcases iteC hy6 with ⟨hc, hy6⟩ | ⟨hc, hy6⟩
                    · refine lQ.ifT rfl (decide_eq_true hc) ?_
                      refine lQ.push rfl ?_
                      refine lQ.goto rfl ?_
                      obtain rfl := Option.some.inj hy6
                      exact lQ.sub (lSb rfl (lSb rfl (lSb rfl (lSb rfl (lSb rfl (lSb rfl lSb0)))))) hJ6
                    · refine lQ.ifF rfl (decide_eq_false hc) ?_
                      refine lQ.loadI rfl rfl ?_
                      refine lQ.loadI rfl rfl ?_
                      rcases iteC hy6 with ⟨hc, hy6⟩ | ⟨hc, hy6⟩
                      · refine lQ.cmpF rfl (decide_eq_false (Int32.not_le.mpr hc)) ?_
                        refine lQ.push rfl ?_
                        refine lQ.goto rfl ?_
                        obtain rfl := Option.some.inj hy6
                        exact lQ.sub (lSb rfl (lSb rfl (lSb rfl (lSb rfl (lSb rfl (lSb rfl lSb0)))))) hJ6
                      · refine lQ.cmpT rfl (decide_eq_true (Int32.not_lt.mp hc)) ?_
                        refine lQ.push rfl ?_
                        obtain rfl := Option.some.inj hy6
                        exact lQ.sub (lSb rfl (lSb rfl (lSb rfl (lSb rfl (lSb rfl (lSb rfl lSb0)))))) hJ6
              · refine lQ.ifT rfl (decide_eq_true hc) ?_
                obtain rfl := Option.some.inj hb5
                obtain rfl := hX5 _ rfl
                exact lQ.sub (lSb rfl lSb0) hJ4
            · refine lQ.cmpT rfl (decide_eq_true (Int32.not_lt.mp hc)) ?_
              obtain rfl := Option.some.inj hb5
              obtain rfl := hX5 _ rfl
              exact lQ.sub (lSb rfl lSb0) hJ4
          rcases iteC hy3 with ⟨hc, hy3⟩ | ⟨hc, hy3⟩
          · refine lQ.cmpF rfl (decide_eq_false (fun z => z hc)) ?_
            refine lQ.push rfl ?_
            refine lQ.goto rfl ?_
            obtain rfl := Option.some.inj hy3
            exact lQ.sub (lSb rfl (lSb rfl (lSb rfl (lSb rfl (lSb rfl lSb0))))) hJ3
          · refine lQ.cmpT rfl (decide_eq_true hc) ?_
            refine lQ.push rfl ?_
            obtain rfl := Option.some.inj hy3
            exact lQ.sub (lSb rfl (lSb rfl (lSb rfl (lSb rfl (lSb rfl lSb0))))) hJ3
        rcases iteC hy2 with ⟨hc, hy2⟩ | ⟨hc, hy2⟩
        · refine lQ.ifT rfl (decide_eq_true hc) ?_
          obtain rfl := Option.some.inj hy2
          exact lQ.sub (lSb rfl (lSb rfl (lSb rfl (lSb rfl (lSb rfl lSb0))))) (hJ2 _ rfl)
        · refine lQ.ifF rfl (decide_eq_false hc) ?_
          refine lQ.loadN rfl rfl ?_
          refine lQ.get hR rfl (tf_0_30 hn) ?_
          refine lQ.loadN rfl rfl ?_
          refine lQ.get hR rfl (tf_0_37 hn) ?_
          refine lQ.loadI rfl rfl ?_
          obtain ⟨x4, hx, hy2⟩ := bindC hy2
          refine lQ.ald hR rfl (ta_30 hn hx) ?_
          obtain ⟨x5, hx, hy2⟩ := bindC hy2
          refine lQ.ald hR rfl (ta_24 hn hx) ?_
          refine lQ.loadI rfl rfl ?_
          rcases iteC hy2 with ⟨hc, hy2⟩ | ⟨hc, hy2⟩
          · refine lQ.cmpT rfl (decide_eq_true hc) ?_
            obtain rfl := Option.some.inj hy2
            exact lQ.sub (lSb rfl (lSb rfl (lSb rfl (lSb rfl (lSb rfl lSb0))))) (hJ2 _ rfl)
          · refine lQ.cmpF rfl (decide_eq_false hc) ?_
            refine lQ.push rfl ?_
            obtain rfl := Option.some.inj hy2
            obtain rfl := elimD h2
            exact lQ.retI rfl rfl hz
      rcases iteC hy1 with ⟨hc, hy1⟩ | ⟨hc, hy1⟩
      · refine lQ.ifT rfl (decide_eq_true hc) ?_
        obtain rfl := Option.some.inj hy1
        exact lQ.sub (lSb rfl (lSb rfl (lSb rfl (lSb rfl (lSb rfl (lSb rfl lSb0)))))) (hJ1 _ rfl)
      · refine lQ.ifF rfl (decide_eq_false hc) ?_
        refine lQ.loadI rfl rfl ?_
        refine lQ.loadI rfl rfl ?_
        rcases iteC hy1 with ⟨hc, hy1⟩ | ⟨hc, hy1⟩
        · refine lQ.cmpT rfl (decide_eq_true hc) ?_
          obtain rfl := Option.some.inj hy1
          exact lQ.sub (lSb rfl (lSb rfl (lSb rfl (lSb rfl (lSb rfl (lSb rfl lSb0)))))) (hJ1 _ rfl)
        · refine lQ.cmpF rfl (decide_eq_false hc) ?_
          refine lQ.push rfl ?_
          obtain rfl := Option.some.inj hy1
          obtain rfl := elimD h1
          exact lQ.retI rfl rfl hz
theorem ts_607 {R : lAR} (hR : lRok R) {E : lE} {ad : List Nat} (hn : tOk ad) {v1 : Int32} {v2 : Int32} {v3 : Int32} {s : TS} {A0 : lMem} {x : Int32} (h : t_607 v1 v2 v3 s = some x) {Z : lZ} (hz : Z (.inl (some (.int x))) (tp ad s A0)) : lSQ R E 3 607 [.ref (adr ad 0), .int v1, .int v2, .int v3] (tp ad s A0) Z := by
  refine lQ.sq pg_607 (Nat.le_of_ble_eq_true rfl) rfl ?_
  unfold t_607 at h
  refine lQ.loadI rfl rfl ?_
  refine lQ.loadN rfl rfl ?_
  refine lQ.get hR rfl (tf_0_11 hn) ?_
  refine lQ.loadI rfl rfl ?_
  obtain ⟨x1, hx, h⟩ := bindC h
  refine lQ.ald hR rfl (ta_7 hn hx) ?_
  obtain ⟨v15, hy1, h1⟩ := bindC h
  have hJ1 : lQ R E 2 cd_607 15 [(0, .ref (adr ad 0)), (1, .int v1), (2, .int v2), (3, .int v3)] [.int v15] (tp ad s A0) Z := by
    refine lQ.stI rfl (lN2s rfl rfl) ?_
    refine lQ.loadN rfl rfl ?_
    refine lQ.get hR rfl (tf_0_33 hn) ?_
    refine lQ.loadN rfl rfl ?_
    refine lQ.get hR rfl (tf_0_37 hn) ?_
    refine lQ.loadI rfl rfl ?_
    obtain ⟨x4, hx, h1⟩ := bindC h1
    refine lQ.ald hR rfl (ta_30 hn hx) ?_
    obtain ⟨x5, hx, h1⟩ := bindC h1
    refine lQ.ald hR rfl (ta_27 hn hx) ?_
    rcases iteC h1 with ⟨hc, h1⟩ | ⟨hc, h1⟩
    · refine lQ.ifT rfl (decide_eq_true hc) ?_
      refine lQ.loadN rfl rfl ?_
      obtain ⟨x6, hx, h1⟩ := bindC h1
      refine lQ.callVI (F := (fun y A => x6 = y ∧ A = tp ad s A0)) (G := fun _ _ => False) (args := [.ref (adr ad 0)]) (r := []) hR rfl rfl rfl (Nat.le_of_ble_eq_true rfl) (Nat.le_of_ble_eq_true rfl) rfl (tk_0 hn rfl) (ts_608 hR hn hx (cI_mk ⟨rfl, rfl⟩)) ?_ (fun _ _ _ z => z.elim)
      rintro _ _ ⟨rfl, rfl⟩
      rcases iteC h1 with ⟨hc, h1⟩ | ⟨hc, h1⟩
      · refine lQ.ifT rfl (decide_eq_true hc) ?_
        refine lQ.loadN rfl rfl ?_
        refine lQ.loadI rfl rfl ?_
        refine lQ.loadI rfl rfl ?_
        refine lQ.loadN rfl rfl ?_
        refine lQ.get hR rfl (tf_0_2 hn) ?_
        refine lQ.push rfl ?_
        refine lQ.divI rfl (by decide) ?_
        refine lQ.loadN rfl rfl ?_
        refine lQ.get hR rfl (tf_0_19 hn) ?_
        refine lQ.loadI rfl rfl ?_
        obtain ⟨x7, hx, h1⟩ := bindC h1
        refine lQ.ald hR rfl (ta_15 hn hx) ?_
        refine lQ.loadN rfl rfl ?_
        refine lQ.get hR rfl (tf_0_19 hn) ?_
        refine lQ.loadI rfl rfl ?_
        obtain ⟨x8, hx, h1⟩ := bindC h1
        refine lQ.ald hR rfl (ta_15 hn hx) ?_
        refine lQ.push rfl ?_
        obtain ⟨v62, hy2, h2⟩ := bindC h1
        have hJ2 : lQ R E 2 cd_607 62 [(0, .ref (adr ad 0)), (2, .int v2)] [.int v62, .int x7, .int ((s.1 2) / 60), .int v3, .int v1, .ref (adr ad 0)] (tp ad s A0) Z := by
          obtain ⟨x9, hx, h2⟩ := bindC h2
          refine lQ.callVI (F := (fun y A => x9 = y ∧ A = tp ad s A0)) (G := fun _ _ => False) (args := [.ref (adr ad 0), .int v1, .int v3, .int ((s.1 2) / 60), .int x7, .int v62]) (r := []) hR rfl rfl rfl (Nat.le_of_ble_eq_true rfl) (Nat.le_of_ble_eq_true rfl) rfl (tk_0 hn rfl) (ts_609 hR hn hx (cI_mk ⟨rfl, rfl⟩)) ?_ (fun _ _ _ z => z.elim)
          rintro _ _ ⟨rfl, rfl⟩
          refine lQ.stI rfl (lN2n rfl) ?_
          refine lQ.push rfl ?_
          refine lQ.stI rfl (lN2s rfl rfl) ?_
          obtain ⟨v112, hy3, h3⟩ := bindC h2
          have hJ3 : lQ R E 2 cd_607 112 [(5, .int v112)] [] (tp ad s A0) Z := by
            refine lQ.loadI rfl rfl ?_
            obtain rfl := Option.some.inj h3
            exact lQ.retI rfl rfl hz
          refine lQ.sub (lSb rfl (lSb rfl (lSb rfl (lSb rfl lSb0)))) (wh_run (P := fun p66 => lQ R E 2 cd_607 66 [(0, .ref (adr ad 0)), (2, .int v2), (5, .int p66.1), (6, .int p66.2)] [] (tp ad s A0) Z) hy3 ?_)
          intro p66 r4 hb4 hI4 hX4
          refine lQ.loadI rfl rfl ?_
          refine lQ.loadN rfl rfl ?_
          refine lQ.get hR rfl (tf_0_24 hn) ?_
          rcases iteC hb4 with ⟨hc, hb4⟩ | ⟨hc, hb4⟩
          · refine lQ.cmpF rfl (decide_eq_false (Int32.not_le.mpr hc)) ?_
            refine lQ.loadI rfl rfl ?_
            rcases iteC hb4 with ⟨hc, hb4⟩ | ⟨hc, hb4⟩
            · refine lQ.ifF rfl (decide_eq_false (fun z => z hc)) ?_
              refine lQ.loadN rfl rfl ?_
              refine lQ.get hR rfl (tf_0_25 hn) ?_
              refine lQ.loadI rfl rfl ?_
              obtain ⟨x10, hx, hb4⟩ := bindC hb4
              refine lQ.ald hR rfl (ta_20 hn hx) ?_
              refine lQ.loadI rfl rfl ?_
              obtain ⟨v89, hy5, h5⟩ := bindC hb4
              have hJ5 : lQ R E 2 cd_607 89 [(0, .ref (adr ad 0)), (2, .int v2), (6, .int p66.2)] [.int v89] (tp ad s A0) Z := by
                refine lQ.stI rfl (lN2s rfl rfl) ?_
                refine lQ.loadI rfl rfl ?_
                obtain ⟨v109, hy6, h6⟩ := bindC h5
                have hJ6 : lQ R E 2 cd_607 109 [(0, .ref (adr ad 0)), (2, .int v2), (6, .int p66.2)] [.int v109] (tp ad s A0) Z := by
                  refine lQ.stI rfl (lN2n rfl) ?_
                  refine lQ.inc rfl rfl (lN2s rfl rfl) ?_
                  refine lQ.goto rfl ?_
                  obtain rfl := Option.some.inj h6
                  exact lQ.sub (lSb rfl (lSb rfl (lSb rfl (lSb rfl lSb0)))) (hI4 _ rfl)
                rcases iteC hy6 with ⟨hc, hy6⟩ | ⟨hc, hy6⟩
                · refine lQ.ifF rfl (decide_eq_false (fun z => z hc)) ?_
                  refine lQ.loadN rfl rfl ?_
                  refine lQ.get hR rfl (tf_0_26 hn) ?_
                  refine lQ.loadI rfl rfl ?_
                  obtain ⟨x13, hx, hy6⟩ := bindC hy6
                  refine lQ.ald hR rfl (ta_21 hn hx) ?_
                  refine lQ.loadI rfl rfl ?_
                  rcases iteC hy6 with ⟨hc, hy6⟩ | ⟨hc, hy6⟩
                  · refine lQ.cmpF rfl (decide_eq_false (fun z => z hc)) ?_
                    refine lQ.loadN rfl rfl ?_
                    refine lQ.get hR rfl (tf_0_17 hn) ?_
                    refine lQ.loadN rfl rfl ?_
                    refine lQ.get hR rfl (tf_0_25 hn) ?_
                    refine lQ.loadI rfl rfl ?_
                    obtain ⟨x14, hx, hy6⟩ := bindC hy6
                    refine lQ.ald hR rfl (ta_20 hn hx) ?_
                    obtain ⟨x15, hx, hy6⟩ := bindC hy6
                    refine lQ.ald hR rfl (ta_13 hn hx) ?_
                    rcases iteC hy6 with ⟨hc, hy6⟩ | ⟨hc, hy6⟩
                    · refine lQ.ifT rfl (decide_eq_true hc) ?_
                      refine lQ.push rfl ?_
                      obtain rfl := Option.some.inj hy6
                      exact lQ.sub (lSb rfl (lSb rfl (lSb rfl lSb0))) hJ6
                    · refine lQ.ifF rfl (decide_eq_false hc) ?_
                      refine lQ.push rfl ?_
                      refine lQ.goto rfl ?_
                      obtain rfl := Option.some.inj hy6
                      exact lQ.sub (lSb rfl (lSb rfl (lSb rfl lSb0))) hJ6
                  · refine lQ.cmpT rfl (decide_eq_true hc) ?_
                    refine lQ.push rfl ?_
                    obtain rfl := Option.some.inj hy6
                    exact lQ.sub (lSb rfl (lSb rfl (lSb rfl lSb0))) hJ6
                · refine lQ.ifT rfl (decide_eq_true hc) ?_
                  refine lQ.push rfl ?_
                  refine lQ.goto rfl ?_
                  obtain rfl := Option.some.inj hy6
                  exact lQ.sub (lSb rfl (lSb rfl (lSb rfl lSb0))) hJ6
              rcases iteC hy5 with ⟨hc, hy5⟩ | ⟨hc, hy5⟩
              · refine lQ.cmpF rfl (decide_eq_false (fun z => z hc)) ?_
                refine lQ.loadN rfl rfl ?_
                refine lQ.get hR rfl (tf_0_17 hn) ?_
                refine lQ.loadN rfl rfl ?_
                refine lQ.get hR rfl (tf_0_26 hn) ?_
                refine lQ.loadI rfl rfl ?_
                obtain ⟨x11, hx, hy5⟩ := bindC hy5
                refine lQ.ald hR rfl (ta_21 hn hx) ?_
                obtain ⟨x12, hx, hy5⟩ := bindC hy5
                refine lQ.ald hR rfl (ta_13 hn hx) ?_
                rcases iteC hy5 with ⟨hc, hy5⟩ | ⟨hc, hy5⟩
                · refine lQ.ifT rfl (decide_eq_true hc) ?_
                  refine lQ.push rfl ?_
                  obtain rfl := Option.some.inj hy5
                  exact lQ.sub (lSb rfl (lSb rfl (lSb rfl lSb0))) hJ5
                · refine lQ.ifF rfl (decide_eq_false hc) ?_
                  refine lQ.push rfl ?_
                  refine lQ.goto rfl ?_
                  obtain rfl := Option.some.inj hy5
                  exact lQ.sub (lSb rfl (lSb rfl (lSb rfl lSb0))) hJ5
              · refine lQ.cmpT rfl (decide_eq_true hc) ?_
                refine lQ.push rfl ?_
                obtain rfl := Option.some.inj hy5
                exact lQ.sub (lSb rfl (lSb rfl (lSb rfl lSb0))) hJ5
            · refine lQ.ifT rfl (decide_eq_true hc) ?_
              obtain rfl := Option.some.inj hb4
              obtain rfl := hX4 _ rfl
              exact lQ.sub (lSb rfl lSb0) hJ3
          · refine lQ.cmpT rfl (decide_eq_true (Int32.not_lt.mp hc)) ?_
            obtain rfl := Option.some.inj hb4
            obtain rfl := hX4 _ rfl
            exact lQ.sub (lSb rfl lSb0) hJ3
        rcases iteC hy2 with ⟨hc, hy2⟩ | ⟨hc, hy2⟩
        · refine lQ.cmpF rfl (decide_eq_false (fun z => z hc)) ?_
          refine lQ.loadI rfl rfl ?_
          refine lQ.goto rfl ?_
          obtain rfl := Option.some.inj hy2
          exact lQ.sub (lSb rfl (lSb rfl lSb0)) hJ2
        · refine lQ.cmpT rfl (decide_eq_true hc) ?_
          refine lQ.push rfl ?_
          obtain rfl := Option.some.inj hy2
          exact lQ.sub (lSb rfl (lSb rfl lSb0)) hJ2
      · refine lQ.ifF rfl (decide_eq_false hc) ?_
        refine lQ.loadN rfl rfl ?_
        refine lQ.get hR rfl (tf_0_30 hn) ?_
        refine lQ.loadN rfl rfl ?_
        refine lQ.get hR rfl (tf_0_37 hn) ?_
        refine lQ.loadI rfl rfl ?_
        obtain ⟨x16, hx, h1⟩ := bindC h1
        refine lQ.ald hR rfl (ta_30 hn hx) ?_
        obtain ⟨x17, hx, h1⟩ := bindC h1
        refine lQ.ald hR rfl (ta_24 hn hx) ?_
        refine lQ.loadI rfl rfl ?_
        rcases iteC h1 with ⟨hc, h1⟩ | ⟨hc, h1⟩
        · refine lQ.cmpT rfl (decide_eq_true hc) ?_
          refine lQ.push rfl ?_
          obtain rfl := Option.some.inj h1
          exact lQ.retI rfl rfl hz
        · refine lQ.cmpF rfl (decide_eq_false hc) ?_
          refine lQ.push rfl ?_
          refine lQ.goto rfl ?_
          obtain rfl := Option.some.inj h1
          exact lQ.retI rfl rfl hz
    · refine lQ.ifF rfl (decide_eq_false hc) ?_
      refine lQ.push rfl ?_
      obtain rfl := Option.some.inj h1
      exact lQ.retI rfl rfl hz
  rcases iteC hy1 with ⟨hc, hy1⟩ | ⟨hc, hy1⟩
  · refine lQ.cmpF rfl (decide_eq_false (fun z => z hc)) ?_
    refine lQ.loadN rfl rfl ?_
    refine lQ.get hR rfl (tf_0_12 hn) ?_
    refine lQ.loadI rfl rfl ?_
    obtain ⟨x3, hx, hy1⟩ := bindC hy1
    refine lQ.ald hR rfl (ta_8 hn hx) ?_
    refine lQ.goto rfl ?_
    obtain rfl := Option.some.inj hy1
    exact lQ.sub (lSb rfl (lSb rfl (lSb rfl (lSb rfl lSb0)))) hJ1
  · refine lQ.cmpT rfl (decide_eq_true hc) ?_
    refine lQ.loadN rfl rfl ?_
    refine lQ.get hR rfl (tf_0_11 hn) ?_
    refine lQ.loadI rfl rfl ?_
    obtain ⟨x2, hx, hy1⟩ := bindC hy1
    refine lQ.ald hR rfl (ta_7 hn hx) ?_
    obtain rfl := Option.some.inj hy1
    exact lQ.sub (lSb rfl (lSb rfl (lSb rfl (lSb rfl lSb0)))) hJ1
theorem ts_613 {R : lAR} (hR : lRok R) {E : lE} {ad : List Nat} (hn : tOk ad) {v1 : Int32} {v2 : Int32} {v3 : Int32} {s : TS} {A0 : lMem} {x : TS} (h : t_613 v1 v2 v3 s = some x) {Z : lZ} (hz : Z (.inl none) (tp ad x A0)) : lSQ R E 2 613 [.ref (adr ad 0), .int v1, .int v2, .int v3] (tp ad s A0) Z := by
  refine lQ.sq pg_613 (Nat.le_of_ble_eq_true rfl) rfl ?_
  unfold t_613 at h
  refine lQ.loadN rfl rfl ?_
  refine lQ.get hR rfl (tf_0_30 hn) ?_
  refine lQ.loadI rfl rfl ?_
  refine lQ.loadI rfl rfl ?_
  obtain ⟨s1, hx, h⟩ := bindC h
  refine lQ.ast hR rfl (tw_24 hn hx) ?_
  rintro _ rfl
  refine lQ.loadI rfl rfl ?_
  refine lQ.loadN rfl rfl ?_
  refine lQ.get hR rfl (tf_0_11 hn) ?_
  refine lQ.loadI rfl rfl ?_
  obtain ⟨x2, hx, h⟩ := bindC h
  refine lQ.ald hR rfl (ta_7 hn hx) ?_
  obtain ⟨v14, hy1, h1⟩ := bindC h
  have hJ1 : lQ R E 1 cd_613 14 [(0, .ref (adr ad 0)), (1, .int v1), (2, .int v2), (3, .int v3)] [.int v14] (tp ad s1 A0) Z := by
    refine lQ.stI rfl (lN2s rfl rfl) ?_
    refine lQ.loadN rfl rfl ?_
    refine lQ.get hR rfl (tf_0_31 hn) ?_
    refine lQ.loadI rfl rfl ?_
    refine lQ.loadI rfl rfl ?_
    refine lQ.loadN rfl rfl ?_
    refine lQ.get hR rfl (tf_0_9 hn) ?_
    obtain ⟨v37, hy2, h2⟩ := bindC h1
    have hJ2 : lQ R E 1 cd_613 37 [(0, .ref (adr ad 0)), (1, .int v1), (2, .int v2), (3, .int v3), (4, .int v14)] [.int v37, .int v1, .ref (adr ad 25)] (tp ad s1 A0) Z := by
      obtain ⟨s6, hx, h2⟩ := bindC h2
      refine lQ.ast hR rfl (tw_25 hn hx) ?_
      rintro _ rfl
      refine lQ.loadN rfl rfl ?_
      refine lQ.get hR rfl (tf_0_32 hn) ?_
      refine lQ.loadI rfl rfl ?_
      refine lQ.loadI rfl rfl ?_
      refine lQ.loadN rfl rfl ?_
      refine lQ.get hR rfl (tf_0_9 hn) ?_
      obtain ⟨v60, hy3, h3⟩ := bindC h2
      have hJ3 : lQ R E 1 cd_613 60 [(0, .ref (adr ad 0)), (1, .int v1)] [.int v60, .int v1, .ref (adr ad 26)] (tp ad s6 A0) Z := by
        obtain ⟨s10, hx, h3⟩ := bindC h3
        refine lQ.ast hR rfl (tw_26 hn hx) ?_
        rintro _ rfl
        refine lQ.loadN rfl rfl ?_
        refine lQ.get hR rfl (tf_0_35 hn) ?_
        refine lQ.loadI rfl rfl ?_
        refine lQ.loadN rfl rfl ?_
        refine lQ.get hR rfl (tf_0_2 hn) ?_
        obtain ⟨s11, hx, h3⟩ := bindC h3
        refine lQ.ast hR rfl (tw_29 hn hx) ?_
        rintro _ rfl
        obtain rfl := Option.some.inj h3
        exact lQ.retV rfl hz
      rcases iteC hy3 with ⟨hc, hy3⟩ | ⟨hc, hy3⟩
      · refine lQ.cmpF rfl (decide_eq_false (fun z => z hc)) ?_
        refine lQ.push rfl ?_
        refine lQ.goto rfl ?_
        obtain rfl := Option.some.inj hy3
        exact lQ.sub (lSb rfl (lSb rfl lSb0)) hJ3
      · refine lQ.cmpT rfl (decide_eq_true hc) ?_
        refine lQ.loadN rfl rfl ?_
        refine lQ.get hR rfl (tf_0_3 hn) ?_
        refine lQ.loadN rfl rfl ?_
        refine lQ.get hR rfl (tf_0_13 hn) ?_
        refine lQ.loadI rfl rfl ?_
        obtain ⟨x7, hx, hy3⟩ := bindC hy3
        refine lQ.ald hR rfl (ta_9 hn hx) ?_
        refine lQ.loadN rfl rfl ?_
        refine lQ.get hR rfl (tf_0_15 hn) ?_
        refine lQ.loadI rfl rfl ?_
        obtain ⟨x8, hx, hy3⟩ := bindC hy3
        refine lQ.ald hR rfl (ta_11 hn hx) ?_
        refine lQ.loadI rfl rfl ?_
        refine lQ.push rfl ?_
        obtain ⟨x9, hx, hy3⟩ := bindC hy3
        refine lQ.callVI (F := (fun y A => x9 = y ∧ A = tp ad s6 A0)) (G := fun _ _ => False) (args := [.ref (adr ad 1), .int x7, .int x8, .int v14, .int 0]) (r := [.int v1, .ref (adr ad 26)]) hR rfl rfl rfl (Nat.le_of_ble_eq_true rfl) (Nat.le_of_ble_eq_true rfl) rfl (tk_1 hn rfl) (ts_728 hR hn hx (cI_mk ⟨rfl, rfl⟩)) ?_ (fun _ _ _ z => z.elim)
        rintro _ _ ⟨rfl, rfl⟩
        obtain rfl := Option.some.inj hy3
        exact lQ.sub (lSb rfl (lSb rfl lSb0)) hJ3
    rcases iteC hy2 with ⟨hc, hy2⟩ | ⟨hc, hy2⟩
    · refine lQ.cmpF rfl (decide_eq_false (fun z => z hc)) ?_
      refine lQ.push rfl ?_
      refine lQ.goto rfl ?_
      obtain rfl := Option.some.inj hy2
      exact lQ.sub (lSb rfl (lSb rfl (lSb rfl (lSb rfl (lSb rfl lSb0))))) hJ2
    · refine lQ.cmpT rfl (decide_eq_true hc) ?_
      refine lQ.loadN rfl rfl ?_
      refine lQ.get hR rfl (tf_0_3 hn) ?_
      refine lQ.loadN rfl rfl ?_
      refine lQ.get hR rfl (tf_0_13 hn) ?_
      refine lQ.loadI rfl rfl ?_
      obtain ⟨x3, hx, hy2⟩ := bindC hy2
      refine lQ.ald hR rfl (ta_9 hn hx) ?_
      refine lQ.loadN rfl rfl ?_
      refine lQ.get hR rfl (tf_0_15 hn) ?_
      refine lQ.loadI rfl rfl ?_
      obtain ⟨x4, hx, hy2⟩ := bindC hy2
      refine lQ.ald hR rfl (ta_11 hn hx) ?_
      refine lQ.loadI rfl rfl ?_
      refine lQ.push rfl ?_
      obtain ⟨x5, hx, hy2⟩ := bindC hy2
      refine lQ.callVI (F := (fun y A => x5 = y ∧ A = tp ad s1 A0)) (G := fun _ _ => False) (args := [.ref (adr ad 1), .int x3, .int x4, .int v14, .int 1]) (r := [.int v1, .ref (adr ad 25)]) hR rfl rfl rfl (Nat.le_of_ble_eq_true rfl) (Nat.le_of_ble_eq_true rfl) rfl (tk_1 hn rfl) (ts_728 hR hn hx (cI_mk ⟨rfl, rfl⟩)) ?_ (fun _ _ _ z => z.elim)
      rintro _ _ ⟨rfl, rfl⟩
      obtain rfl := Option.some.inj hy2
      exact lQ.sub (lSb rfl (lSb rfl (lSb rfl (lSb rfl (lSb rfl lSb0))))) hJ2
  rcases iteC hy1 with ⟨hc, hy1⟩ | ⟨hc, hy1⟩
  · refine lQ.cmpF rfl (decide_eq_false (fun z => z hc)) ?_
    refine lQ.push rfl ?_
    refine lQ.goto rfl ?_
    obtain rfl := Option.some.inj hy1
    exact lQ.sub (lSb rfl (lSb rfl (lSb rfl (lSb rfl lSb0)))) hJ1
  · refine lQ.cmpT rfl (decide_eq_true hc) ?_
    refine lQ.push rfl ?_
    obtain rfl := Option.some.inj hy1
    exact lQ.sub (lSb rfl (lSb rfl (lSb rfl (lSb rfl lSb0)))) hJ1
theorem ts_612 {R : lAR} (hR : lRok R) {E : lE} {ad : List Nat} (hn : tOk ad) {v1 : Int32} {v2 : Int32} {v3 : Int32} {s : TS} {A0 : lMem} {x : TS} (h : t_612 v1 v2 v3 s = some x) {Z : lZ} (hz : Z (.inl none) (tp ad x A0)) : lSQ R E 3 612 [.ref (adr ad 0), .int v1, .int v2, .int v3] (tp ad s A0) Z := by
  refine lQ.sq pg_612 (Nat.le_of_ble_eq_true rfl) rfl ?_
  unfold t_612 at h
  refine lQ.loadN rfl rfl ?_
  refine lQ.get hR rfl (tf_0_19 hn) ?_
  refine lQ.loadI rfl rfl ?_
  obtain ⟨x1, hx, h⟩ := bindC h
  refine lQ.ald hR rfl (ta_15 hn hx) ?_
  refine lQ.push rfl ?_
  obtain ⟨y1, hy1, h1⟩ := bindC h
  have hJ1 : ∀ v9, y1 = .inl v9 → lQ R E 2 cd_612 9 [(0, .ref (adr ad 0)), (1, .int v1), (2, .int v2), (3, .int v3)] [] (tp ad s A0) Z := by
    rintro v9 rfl
    have h1 := elimC h1
    refine lQ.loadN rfl rfl ?_
    refine lQ.loadN rfl rfl ?_
    refine lQ.get hR rfl (tf_0_37 hn) ?_
    refine lQ.loadI rfl rfl ?_
    obtain ⟨x9, hx, h1⟩ := bindC h1
    refine lQ.ald hR rfl (ta_30 hn hx) ?_
    refine lQ.loadI rfl rfl ?_
    refine lQ.loadI rfl rfl ?_
    obtain ⟨x10, hx, h1⟩ := bindC h1
    refine lQ.callVV (F := (fun A => A = tp ad x10 A0)) (G := fun _ _ => False) (args := [.ref (adr ad 0), .int x9, .int v2, .int v3]) (r := []) hR rfl rfl rfl (Nat.le_of_ble_eq_true rfl) (Nat.le_of_ble_eq_true rfl) rfl (tk_0 hn rfl) (ts_613 hR hn hx (cV_mk rfl)) ?_ (fun _ _ _ z => z.elim)
    rintro _ rfl
    obtain rfl := Option.some.inj h1
    exact lQ.retV rfl hz
  rcases iteC hy1 with ⟨hc, hy1⟩ | ⟨hc, hy1⟩
  · refine lQ.cmpT rfl (decide_eq_true hc) ?_
    obtain rfl := Option.some.inj hy1
    exact lQ.sub (lSb rfl (lSb rfl (lSb rfl (lSb rfl lSb0)))) (hJ1 _ rfl)
  · refine lQ.cmpF rfl (decide_eq_false hc) ?_
    refine lQ.loadN rfl rfl ?_
    obtain ⟨x2, hx, hy1⟩ := bindC hy1
    refine lQ.callVI (F := (fun y A => x2 = y ∧ A = tp ad s A0)) (G := fun _ _ => False) (args := [.ref (adr ad 0)]) (r := []) hR rfl rfl rfl (Nat.le_of_ble_eq_true rfl) (Nat.le_of_ble_eq_true rfl) rfl (tk_0 hn rfl) (ts_608 hR hn hx (cI_mk ⟨rfl, rfl⟩)) ?_ (fun _ _ _ z => z.elim)
    rintro _ _ ⟨rfl, rfl⟩
    rcases iteC hy1 with ⟨hc, hy1⟩ | ⟨hc, hy1⟩
    · refine lQ.ifT rfl (decide_eq_true hc) ?_
      refine lQ.push rfl ?_
      refine lQ.loadI rfl rfl ?_
      refine lQ.binI rfl ?_
      refine lQ.loadN rfl rfl ?_
      refine lQ.get hR rfl (tf_0_20 hn) ?_
      refine lQ.loadI rfl rfl ?_
      obtain ⟨x3, hx, hy1⟩ := bindC hy1
      refine lQ.ald hR rfl (ta_16 hn hx) ?_
      refine lQ.binI rfl ?_
      refine lQ.stI rfl (lN2s rfl rfl) ?_
      refine lQ.loadN rfl rfl ?_
      refine lQ.get hR rfl (tf_0_21 hn) ?_
      refine lQ.loadI rfl rfl ?_
      refine lQ.loadI rfl rfl ?_
      obtain ⟨s4, hx, hy1⟩ := bindC hy1
      refine lQ.ast hR rfl (tw_17 hn hx) ?_
      rintro _ rfl
      refine lQ.loadN rfl rfl ?_
      refine lQ.get hR rfl (tf_0_22 hn) ?_
      refine lQ.loadI rfl rfl ?_
      refine lQ.loadI rfl rfl ?_
      obtain ⟨s5, hx, hy1⟩ := bindC hy1
      refine lQ.ast hR rfl (tw_18 hn hx) ?_
      rintro _ rfl
      refine lQ.loadN rfl rfl ?_
      refine lQ.get hR rfl (tf_0_23 hn) ?_
      refine lQ.loadI rfl rfl ?_
      refine lQ.loadN rfl rfl ?_
      refine lQ.get hR rfl (tf_0_2 hn) ?_
      refine lQ.push rfl ?_
      refine lQ.divI rfl (by decide) ?_
      obtain ⟨s6, hx, hy1⟩ := bindC hy1
      refine lQ.ast hR rfl (tw_19 hn hx) ?_
      rintro _ rfl
      refine lQ.loadN rfl rfl ?_
      refine lQ.get hR rfl (tf_0_20 hn) ?_
      refine lQ.loadI rfl rfl ?_
      refine lQ.dup2 rfl rfl rfl ?_
      obtain ⟨x7, hx, hy1⟩ := bindC hy1
      refine lQ.ald hR rfl (ta_16 hn hx) ?_
      refine lQ.push rfl ?_
      refine lQ.binI rfl ?_
      obtain ⟨s8, hx, hy1⟩ := bindC hy1
      refine lQ.ast hR rfl (tw_16 hn hx) ?_
      rintro _ rfl
      obtain rfl := Option.some.inj hy1
      obtain rfl := elimD h1
      exact lQ.retV rfl hz
    · refine lQ.ifF rfl (decide_eq_false hc) ?_
      obtain rfl := Option.some.inj hy1
      exact lQ.sub (lSb rfl (lSb rfl (lSb rfl (lSb rfl lSb0)))) (hJ1 _ rfl)
theorem ts_605 {R : lAR} (hR : lRok R) {E : lE} {ad : List Nat} (hn : tOk ad) {v1 : Int32} {v2 : Int32} {v3 : Int32} {s : TS} {A0 : lMem} {x : Int32 × TS} (h : t_605 v1 v2 v3 s = some x) {Z : lZ} (hz : Z (.inl (some (.int x.1))) (tp ad x.2 A0)) : lSQ R E 4 605 [.ref (adr ad 0), .int v1, .int v2, .int v3] (tp ad s A0) Z := by
  refine lQ.sq pg_605 (Nat.le_of_ble_eq_true rfl) rfl ?_
  unfold t_605 at h
  refine lQ.loadI rfl rfl ?_
  refine lQ.loadN rfl rfl ?_
  refine lQ.get hR rfl (tf_0_36 hn) ?_
  obtain ⟨x1, hx, h⟩ := bindC h
  refine lQ.callI (F := (fun y A => x1 = y ∧ A = tp ad s A0)) (G := fun _ _ => False) (args := [.int v1, .int (s.1 36)]) (r := []) hR rfl rfl rfl (Nat.le_of_ble_eq_true rfl) (Nat.le_of_ble_eq_true rfl) (ts_560 hR hn hx (cI_mk ⟨rfl, rfl⟩)) ?_ (fun _ _ _ z => z.elim)
  rintro _ _ ⟨rfl, rfl⟩
  obtain ⟨v13, hy1, h1⟩ := bindC h
  have hJ1 : lQ R E 3 cd_605 13 [(0, .ref (adr ad 0)), (1, .int v1), (2, .int v2), (3, .int v3)] [.int v13] (tp ad s A0) Z := by
    refine lQ.stI rfl (lN2s rfl rfl) ?_
    refine lQ.loadN rfl rfl ?_
    refine lQ.loadI rfl rfl ?_
    refine lQ.loadN rfl rfl ?_
    refine lQ.get hR rfl (tf_0_1 hn) ?_
    obtain ⟨v30, hy2, h2⟩ := bindC h1
    have hJ2 : lQ R E 3 cd_605 30 [(0, .ref (adr ad 0)), (1, .int v1), (2, .int v2), (3, .int v3)] [.int v30, .int v13, .ref (adr ad 0)] (tp ad s A0) Z := by
      obtain ⟨x4, hx, h2⟩ := bindC h2
      refine lQ.callVI (F := (fun y A => x4.1 = y ∧ A = tp ad x4.2 A0)) (G := fun _ _ => False) (args := [.ref (adr ad 0), .int v13, .int v30]) (r := []) hR rfl rfl rfl (Nat.le_of_ble_eq_true rfl) (Nat.le_of_ble_eq_true rfl) rfl (tk_0 hn rfl) (ts_558 hR hn hx (cI_mk ⟨rfl, rfl⟩)) ?_ (fun _ _ _ z => z.elim)
      rintro _ _ ⟨rfl, rfl⟩
      rcases iteC h2 with ⟨hc, h2⟩ | ⟨hc, h2⟩
      · refine lQ.ifF rfl (decide_eq_false (fun z => z hc)) ?_
        refine lQ.push rfl ?_
        obtain rfl := Option.some.inj h2
        exact lQ.retI rfl rfl hz
      · refine lQ.ifT rfl (decide_eq_true hc) ?_
        refine lQ.loadN rfl rfl ?_
        refine lQ.loadI rfl rfl ?_
        refine lQ.loadI rfl rfl ?_
        refine lQ.loadI rfl rfl ?_
        obtain ⟨x5, hx, h2⟩ := bindC h2
        refine lQ.callVI (F := (fun y A => x5 = y ∧ A = tp ad x4.2 A0)) (G := fun _ _ => False) (args := [.ref (adr ad 0), .int v1, .int v2, .int v3]) (r := []) hR rfl rfl rfl (Nat.le_of_ble_eq_true rfl) (Nat.le_of_ble_eq_true rfl) rfl (tk_0 hn rfl) (ts_607 hR hn hx (cI_mk ⟨rfl, rfl⟩)) ?_ (fun _ _ _ z => z.elim)
        rintro _ _ ⟨rfl, rfl⟩
        refine lQ.stI rfl (lN2n rfl) ?_
        refine lQ.loadI rfl rfl ?_
        obtain ⟨v53, hy3, h3⟩ := bindC h2
        have hJ3 : lQ R E 3 cd_605 53 [(0, .ref (adr ad 0)), (1, .int v1), (2, .int v2), (3, .int v3)] [.int v53] (tp ad x4.2 A0) Z := by
          refine lQ.stI rfl (lN2n rfl) ?_
          refine lQ.loadI rfl rfl ?_
          rcases iteC h3 with ⟨hc, h3⟩ | ⟨hc, h3⟩
          · refine lQ.ifF rfl (decide_eq_false (fun z => z hc)) ?_
            refine lQ.loadN rfl rfl ?_
            refine lQ.loadI rfl rfl ?_
            refine lQ.loadI rfl rfl ?_
            refine lQ.loadI rfl rfl ?_
            obtain ⟨x8, hx, h3⟩ := bindC h3
            refine lQ.callVV (F := (fun A => A = tp ad x8 A0)) (G := fun _ _ => False) (args := [.ref (adr ad 0), .int v1, .int v2, .int v3]) (r := []) hR rfl rfl rfl (Nat.le_of_ble_eq_true rfl) (Nat.le_of_ble_eq_true rfl) rfl (tk_0 hn rfl) (ts_612 hR hn hx (cV_mk rfl)) ?_ (fun _ _ _ z => z.elim)
            rintro _ rfl
            refine lQ.loadI rfl rfl ?_
            obtain rfl := Option.some.inj h3
            exact lQ.retI rfl rfl hz
          · refine lQ.ifT rfl (decide_eq_true hc) ?_
            refine lQ.loadI rfl rfl ?_
            obtain rfl := Option.some.inj h3
            exact lQ.retI rfl rfl hz
        obtain ⟨y4, hy4, h4⟩ := bindC hy3
        have hJ4 : ∀ v52, y4 = .inl v52 → lQ R E 3 cd_605 52 [(0, .ref (adr ad 0)), (1, .int v1), (2, .int v2), (3, .int v3), (5, .int x5)] [] (tp ad x4.2 A0) Z := by
          rintro v52 rfl
          have h4 := elimC h4
          refine lQ.loadI rfl rfl ?_
          obtain rfl := Option.some.inj h4
          exact lQ.sub (lSb rfl (lSb rfl (lSb rfl (lSb rfl lSb0)))) hJ3
        rcases iteC hy4 with ⟨hc, hy4⟩ | ⟨hc, hy4⟩
        · refine lQ.ifF rfl (decide_eq_false (fun z => z hc)) ?_
          refine lQ.loadN rfl rfl ?_
          refine lQ.get hR rfl (tf_0_16 hn) ?_
          refine lQ.loadI rfl rfl ?_
          obtain ⟨x6, hx, hy4⟩ := bindC hy4
          refine lQ.ald hR rfl (ta_12 hn hx) ?_
          rcases iteC hy4 with ⟨hc, hy4⟩ | ⟨hc, hy4⟩
          · refine lQ.ifT rfl (decide_eq_true hc) ?_
            obtain rfl := Option.some.inj hy4
            exact lQ.sub (lSb rfl (lSb rfl (lSb rfl (lSb rfl (lSb rfl lSb0))))) (hJ4 _ rfl)
          · refine lQ.ifF rfl (decide_eq_false hc) ?_
            refine lQ.loadN rfl rfl ?_
            obtain ⟨x7, hx, hy4⟩ := bindC hy4
            refine lQ.callVI (F := (fun y A => x7 = y ∧ A = tp ad x4.2 A0)) (G := fun _ _ => False) (args := [.ref (adr ad 0)]) (r := []) hR rfl rfl rfl (Nat.le_of_ble_eq_true rfl) (Nat.le_of_ble_eq_true rfl) rfl (tk_0 hn rfl) (ts_608 hR hn hx (cI_mk ⟨rfl, rfl⟩)) ?_ (fun _ _ _ z => z.elim)
            rintro _ _ ⟨rfl, rfl⟩
            rcases iteC hy4 with ⟨hc, hy4⟩ | ⟨hc, hy4⟩
            · refine lQ.ifF rfl (decide_eq_false (fun z => z hc)) ?_
              refine lQ.push rfl ?_
              refine lQ.goto rfl ?_
              obtain rfl := Option.some.inj hy4
              obtain rfl := elimD h4
              exact lQ.sub (lSb rfl (lSb rfl (lSb rfl (lSb rfl lSb0)))) hJ3
            · refine lQ.ifT rfl (decide_eq_true hc) ?_
              obtain rfl := Option.some.inj hy4
              exact lQ.sub (lSb rfl (lSb rfl (lSb rfl (lSb rfl (lSb rfl lSb0))))) (hJ4 _ rfl)
        · refine lQ.ifT rfl (decide_eq_true hc) ?_
          obtain rfl := Option.some.inj hy4
          exact lQ.sub (lSb rfl (lSb rfl (lSb rfl (lSb rfl (lSb rfl lSb0))))) (hJ4 _ rfl)
    rcases iteC hy2 with ⟨hc, hy2⟩ | ⟨hc, hy2⟩
    · refine lQ.ifT rfl (decide_eq_true hc) ?_
      refine lQ.push rfl ?_
      obtain rfl := Option.some.inj hy2
      exact lQ.sub (lSb rfl (lSb rfl (lSb rfl (lSb rfl lSb0)))) hJ2
    · refine lQ.ifF rfl (decide_eq_false hc) ?_
      refine lQ.loadI rfl rfl ?_
      rcases iteC hy2 with ⟨hc, hy2⟩ | ⟨hc, hy2⟩
      · refine lQ.ifT rfl (decide_eq_true hc) ?_
        refine lQ.push rfl ?_
        refine lQ.goto rfl ?_
        obtain rfl := Option.some.inj hy2
        exact lQ.sub (lSb rfl (lSb rfl (lSb rfl (lSb rfl lSb0)))) hJ2
      · refine lQ.ifF rfl (decide_eq_false hc) ?_
        refine lQ.loadN rfl rfl ?_
        refine lQ.get hR rfl (tf_0_20 hn) ?_
        refine lQ.loadI rfl rfl ?_
        obtain ⟨x3, hx, hy2⟩ := bindC hy2
        refine lQ.ald hR rfl (ta_16 hn hx) ?_
        refine lQ.push rfl ?_
        rcases iteC hy2 with ⟨hc, hy2⟩ | ⟨hc, hy2⟩
        · refine lQ.cmpF rfl (decide_eq_false (Int32.not_le.mpr hc)) ?_
          refine lQ.push rfl ?_
          refine lQ.goto rfl ?_
          obtain rfl := Option.some.inj hy2
          exact lQ.sub (lSb rfl (lSb rfl (lSb rfl (lSb rfl lSb0)))) hJ2
        · refine lQ.cmpT rfl (decide_eq_true (Int32.not_lt.mp hc)) ?_
          refine lQ.push rfl ?_
          obtain rfl := Option.some.inj hy2
          exact lQ.sub (lSb rfl (lSb rfl (lSb rfl (lSb rfl lSb0)))) hJ2
  rcases iteC hy1 with ⟨hc, hy1⟩ | ⟨hc, hy1⟩
  · refine lQ.ifT rfl (decide_eq_true hc) ?_
    refine lQ.push rfl ?_
    obtain rfl := Option.some.inj hy1
    exact lQ.sub (lSb rfl (lSb rfl (lSb rfl (lSb rfl lSb0)))) hJ1
  · refine lQ.ifF rfl (decide_eq_false hc) ?_
    refine lQ.loadN rfl rfl ?_
    refine lQ.loadI rfl rfl ?_
    refine lQ.loadI rfl rfl ?_
    obtain ⟨x2, hx, hy1⟩ := bindC hy1
    refine lQ.callVI (F := (fun y A => x2 = y ∧ A = tp ad s A0)) (G := fun _ _ => False) (args := [.ref (adr ad 0), .int v2, .int v3]) (r := []) hR rfl rfl rfl (Nat.le_of_ble_eq_true rfl) (Nat.le_of_ble_eq_true rfl) rfl (tk_0 hn rfl) (ts_606 hR hn hx (cI_mk ⟨rfl, rfl⟩)) ?_ (fun _ _ _ z => z.elim)
    rintro _ _ ⟨rfl, rfl⟩
    rcases iteC hy1 with ⟨hc, hy1⟩ | ⟨hc, hy1⟩
    · refine lQ.ifT rfl (decide_eq_true hc) ?_
      refine lQ.push rfl ?_
      obtain rfl := Option.some.inj hy1
      exact lQ.sub (lSb rfl (lSb rfl (lSb rfl (lSb rfl lSb0)))) hJ1
    · refine lQ.ifF rfl (decide_eq_false hc) ?_
      refine lQ.push rfl ?_
      refine lQ.goto rfl ?_
      obtain rfl := Option.some.inj hy1
      exact lQ.sub (lSb rfl (lSb rfl (lSb rfl (lSb rfl lSb0)))) hJ1
theorem ts_614 {R : lAR} (hR : lRok R) {E : lE} {ad : List Nat} (hn : tOk ad) {v1 : Int32} {v2 : Int32} {v3 : Int32} {v4 : Int32} {s : TS} {A0 : lMem} {x : Int32 × TS} (h : t_614 v1 v2 v3 v4 s = some x) {Z : lZ} (hz : Z (.inl (some (.int x.1))) (tp ad x.2 A0)) : lSQ R E 4 614 [.ref (adr ad 0), .int v1, .int v2, .int v3, .int v4] (tp ad s A0) Z := by
  refine lQ.sq pg_614 (Nat.le_of_ble_eq_true rfl) rfl ?_
  unfold t_614 at h
  refine lQ.loadI rfl rfl ?_
  refine lQ.loadN rfl rfl ?_
  refine lQ.get hR rfl (tf_0_36 hn) ?_
  obtain ⟨x1, hx, h⟩ := bindC h
  refine lQ.callI (F := (fun y A => x1 = y ∧ A = tp ad s A0)) (G := fun _ _ => False) (args := [.int v1, .int (s.1 36)]) (r := []) hR rfl rfl rfl (Nat.le_of_ble_eq_true rfl) (Nat.le_of_ble_eq_true rfl) (ts_560 hR hn hx (cI_mk ⟨rfl, rfl⟩)) ?_ (fun _ _ _ z => z.elim)
  rintro _ _ ⟨rfl, rfl⟩
  obtain ⟨v21, hy1, h1⟩ := bindC h
  have hJ1 : lQ R E 3 cd_614 21 [(0, .ref (adr ad 0)), (1, .int v1), (2, .int v2), (3, .int v3), (4, .int v4)] [.int v21] (tp ad s A0) Z := by
    refine lQ.stI rfl (lN2s rfl rfl) ?_
    refine lQ.loadN rfl rfl ?_
    refine lQ.loadI rfl rfl ?_
    refine lQ.loadN rfl rfl ?_
    refine lQ.get hR rfl (tf_0_1 hn) ?_
    obtain ⟨v38, hy2, h2⟩ := bindC h1
    have hJ2 : lQ R E 3 cd_614 38 [(0, .ref (adr ad 0)), (1, .int v1), (2, .int v2), (3, .int v3), (4, .int v4)] [.int v38, .int v21, .ref (adr ad 0)] (tp ad s A0) Z := by
      obtain ⟨x5, hx, h2⟩ := bindC h2
      refine lQ.callVI (F := (fun y A => x5.1 = y ∧ A = tp ad x5.2 A0)) (G := fun _ _ => False) (args := [.ref (adr ad 0), .int v21, .int v38]) (r := []) hR rfl rfl rfl (Nat.le_of_ble_eq_true rfl) (Nat.le_of_ble_eq_true rfl) rfl (tk_0 hn rfl) (ts_558 hR hn hx (cI_mk ⟨rfl, rfl⟩)) ?_ (fun _ _ _ z => z.elim)
      rintro _ _ ⟨rfl, rfl⟩
      rcases iteC h2 with ⟨hc, h2⟩ | ⟨hc, h2⟩
      · refine lQ.ifF rfl (decide_eq_false (fun z => z hc)) ?_
        refine lQ.push rfl ?_
        obtain rfl := Option.some.inj h2
        exact lQ.retI rfl rfl hz
      · refine lQ.ifT rfl (decide_eq_true hc) ?_
        refine lQ.loadN rfl rfl ?_
        refine lQ.loadI rfl rfl ?_
        refine lQ.loadI rfl rfl ?_
        refine lQ.loadI rfl rfl ?_
        obtain ⟨x6, hx, h2⟩ := bindC h2
        refine lQ.callVI (F := (fun y A => x6 = y ∧ A = tp ad x5.2 A0)) (G := fun _ _ => False) (args := [.ref (adr ad 0), .int v1, .int v3, .int v4]) (r := []) hR rfl rfl rfl (Nat.le_of_ble_eq_true rfl) (Nat.le_of_ble_eq_true rfl) rfl (tk_0 hn rfl) (ts_607 hR hn hx (cI_mk ⟨rfl, rfl⟩)) ?_ (fun _ _ _ z => z.elim)
        rintro _ _ ⟨rfl, rfl⟩
        refine lQ.stI rfl (lN2n rfl) ?_
        refine lQ.loadI rfl rfl ?_
        obtain ⟨v57, hy3, h3⟩ := bindC h2
        have hJ3 : lQ R E 3 cd_614 57 [(0, .ref (adr ad 0)), (1, .int v1), (2, .int v2), (3, .int v3), (4, .int v4)] [.int v57] (tp ad x5.2 A0) Z := by
          refine lQ.stI rfl (lN2n rfl) ?_
          refine lQ.loadI rfl rfl ?_
          obtain ⟨v75, hy4, h4⟩ := bindC h3
          have hJ4 : lQ R E 3 cd_614 75 [(0, .ref (adr ad 0)), (1, .int v1), (2, .int v2), (3, .int v3), (4, .int v4)] [.int v75] (tp ad x5.2 A0) Z := by
            refine lQ.stI rfl (lN2n rfl) ?_
            refine lQ.loadI rfl rfl ?_
            rcases iteC h4 with ⟨hc, h4⟩ | ⟨hc, h4⟩
            · refine lQ.ifF rfl (decide_eq_false (fun z => z hc)) ?_
              refine lQ.loadN rfl rfl ?_
              refine lQ.loadI rfl rfl ?_
              refine lQ.loadI rfl rfl ?_
              refine lQ.loadI rfl rfl ?_
              obtain ⟨x11, hx, h4⟩ := bindC h4
              refine lQ.callVV (F := (fun A => A = tp ad x11 A0)) (G := fun _ _ => False) (args := [.ref (adr ad 0), .int v1, .int v3, .int v4]) (r := []) hR rfl rfl rfl (Nat.le_of_ble_eq_true rfl) (Nat.le_of_ble_eq_true rfl) rfl (tk_0 hn rfl) (ts_612 hR hn hx (cV_mk rfl)) ?_ (fun _ _ _ z => z.elim)
              rintro _ rfl
              refine lQ.loadN rfl rfl ?_
              refine lQ.loadI rfl rfl ?_
              refine lQ.loadI rfl rfl ?_
              refine lQ.loadI rfl rfl ?_
              obtain ⟨x12, hx, h4⟩ := bindC h4
              refine lQ.callVV (F := (fun A => A = tp ad x12 A0)) (G := fun _ _ => False) (args := [.ref (adr ad 0), .int v2, .int v3, .int v4]) (r := []) hR rfl rfl rfl (Nat.le_of_ble_eq_true rfl) (Nat.le_of_ble_eq_true rfl) rfl (tk_0 hn rfl) (ts_612 hR hn hx (cV_mk rfl)) ?_ (fun _ _ _ z => z.elim)
              rintro _ rfl
              refine lQ.loadI rfl rfl ?_
              obtain rfl := Option.some.inj h4
              exact lQ.retI rfl rfl hz
            · refine lQ.ifT rfl (decide_eq_true hc) ?_
              refine lQ.loadI rfl rfl ?_
              obtain rfl := Option.some.inj h4
              exact lQ.retI rfl rfl hz
          obtain ⟨y5, hy5, h5⟩ := bindC hy4
          have hJ5 : ∀ v74, y5 = .inl v74 → lQ R E 3 cd_614 74 [(0, .ref (adr ad 0)), (1, .int v1), (2, .int v2), (3, .int v3), (4, .int v4), (6, .int v57)] [] (tp ad x5.2 A0) Z := by
            rintro v74 rfl
            have h5 := elimC h5
            refine lQ.loadI rfl rfl ?_
            obtain rfl := Option.some.inj h5
            exact lQ.sub (lSb rfl (lSb rfl (lSb rfl (lSb rfl (lSb rfl lSb0))))) hJ4
          rcases iteC hy5 with ⟨hc, hy5⟩ | ⟨hc, hy5⟩
          · refine lQ.ifF rfl (decide_eq_false (fun z => z hc)) ?_
            refine lQ.loadN rfl rfl ?_
            refine lQ.get hR rfl (tf_0_37 hn) ?_
            refine lQ.loadI rfl rfl ?_
            obtain ⟨x8, hx, hy5⟩ := bindC hy5
            refine lQ.ald hR rfl (ta_30 hn hx) ?_
            refine lQ.loadN rfl rfl ?_
            refine lQ.get hR rfl (tf_0_37 hn) ?_
            refine lQ.loadI rfl rfl ?_
            obtain ⟨x9, hx, hy5⟩ := bindC hy5
            refine lQ.ald hR rfl (ta_30 hn hx) ?_
            rcases iteC hy5 with ⟨hc, hy5⟩ | ⟨hc, hy5⟩
            · refine lQ.cmpF rfl (decide_eq_false (fun z => z hc)) ?_
              refine lQ.loadN rfl rfl ?_
              obtain ⟨x10, hx, hy5⟩ := bindC hy5
              refine lQ.callVI (F := (fun y A => x10 = y ∧ A = tp ad x5.2 A0)) (G := fun _ _ => False) (args := [.ref (adr ad 0)]) (r := []) hR rfl rfl rfl (Nat.le_of_ble_eq_true rfl) (Nat.le_of_ble_eq_true rfl) rfl (tk_0 hn rfl) (ts_608 hR hn hx (cI_mk ⟨rfl, rfl⟩)) ?_ (fun _ _ _ z => z.elim)
              rintro _ _ ⟨rfl, rfl⟩
              rcases iteC hy5 with ⟨hc, hy5⟩ | ⟨hc, hy5⟩
              · refine lQ.ifF rfl (decide_eq_false (fun z => z hc)) ?_
                refine lQ.push rfl ?_
                refine lQ.goto rfl ?_
                obtain rfl := Option.some.inj hy5
                obtain rfl := elimD h5
                exact lQ.sub (lSb rfl (lSb rfl (lSb rfl (lSb rfl (lSb rfl lSb0))))) hJ4
              · refine lQ.ifT rfl (decide_eq_true hc) ?_
                obtain rfl := Option.some.inj hy5
                exact lQ.sub (lSb rfl (lSb rfl (lSb rfl (lSb rfl (lSb rfl (lSb rfl lSb0)))))) (hJ5 _ rfl)
            · refine lQ.cmpT rfl (decide_eq_true hc) ?_
              obtain rfl := Option.some.inj hy5
              exact lQ.sub (lSb rfl (lSb rfl (lSb rfl (lSb rfl (lSb rfl (lSb rfl lSb0)))))) (hJ5 _ rfl)
          · refine lQ.ifT rfl (decide_eq_true hc) ?_
            obtain rfl := Option.some.inj hy5
            exact lQ.sub (lSb rfl (lSb rfl (lSb rfl (lSb rfl (lSb rfl (lSb rfl lSb0)))))) (hJ5 _ rfl)
        rcases iteC hy3 with ⟨hc, hy3⟩ | ⟨hc, hy3⟩
        · refine lQ.ifF rfl (decide_eq_false (Int32.not_le.mpr hc)) ?_
          refine lQ.loadI rfl rfl ?_
          refine lQ.goto rfl ?_
          obtain rfl := Option.some.inj hy3
          exact lQ.sub (lSb rfl (lSb rfl (lSb rfl (lSb rfl (lSb rfl lSb0))))) hJ3
        · refine lQ.ifT rfl (decide_eq_true (Int32.not_lt.mp hc)) ?_
          refine lQ.loadN rfl rfl ?_
          refine lQ.loadI rfl rfl ?_
          refine lQ.loadI rfl rfl ?_
          refine lQ.loadI rfl rfl ?_
          obtain ⟨x7, hx, hy3⟩ := bindC hy3
          refine lQ.callVI (F := (fun y A => x7 = y ∧ A = tp ad x5.2 A0)) (G := fun _ _ => False) (args := [.ref (adr ad 0), .int v2, .int v3, .int v4]) (r := []) hR rfl rfl rfl (Nat.le_of_ble_eq_true rfl) (Nat.le_of_ble_eq_true rfl) rfl (tk_0 hn rfl) (ts_607 hR hn hx (cI_mk ⟨rfl, rfl⟩)) ?_ (fun _ _ _ z => z.elim)
          rintro _ _ ⟨rfl, rfl⟩
          obtain rfl := Option.some.inj hy3
          exact lQ.sub (lSb rfl (lSb rfl (lSb rfl (lSb rfl (lSb rfl lSb0))))) hJ3
    rcases iteC hy2 with ⟨hc, hy2⟩ | ⟨hc, hy2⟩
    · refine lQ.ifT rfl (decide_eq_true hc) ?_
      refine lQ.push rfl ?_
      obtain rfl := Option.some.inj hy2
      exact lQ.sub (lSb rfl (lSb rfl (lSb rfl (lSb rfl (lSb rfl lSb0))))) hJ2
    · refine lQ.ifF rfl (decide_eq_false hc) ?_
      refine lQ.loadI rfl rfl ?_
      rcases iteC hy2 with ⟨hc, hy2⟩ | ⟨hc, hy2⟩
      · refine lQ.ifT rfl (decide_eq_true hc) ?_
        refine lQ.push rfl ?_
        refine lQ.goto rfl ?_
        obtain rfl := Option.some.inj hy2
        exact lQ.sub (lSb rfl (lSb rfl (lSb rfl (lSb rfl (lSb rfl lSb0))))) hJ2
      · refine lQ.ifF rfl (decide_eq_false hc) ?_
        refine lQ.loadN rfl rfl ?_
        refine lQ.get hR rfl (tf_0_20 hn) ?_
        refine lQ.loadI rfl rfl ?_
        obtain ⟨x4, hx, hy2⟩ := bindC hy2
        refine lQ.ald hR rfl (ta_16 hn hx) ?_
        refine lQ.push rfl ?_
        rcases iteC hy2 with ⟨hc, hy2⟩ | ⟨hc, hy2⟩
        · refine lQ.cmpF rfl (decide_eq_false (Int32.not_le.mpr hc)) ?_
          refine lQ.push rfl ?_
          refine lQ.goto rfl ?_
          obtain rfl := Option.some.inj hy2
          exact lQ.sub (lSb rfl (lSb rfl (lSb rfl (lSb rfl (lSb rfl lSb0))))) hJ2
        · refine lQ.cmpT rfl (decide_eq_true (Int32.not_lt.mp hc)) ?_
          refine lQ.push rfl ?_
          obtain rfl := Option.some.inj hy2
          exact lQ.sub (lSb rfl (lSb rfl (lSb rfl (lSb rfl (lSb rfl lSb0))))) hJ2
  rcases iteC hy1 with ⟨hc, hy1⟩ | ⟨hc, hy1⟩
  · refine lQ.ifT rfl (decide_eq_true hc) ?_
    refine lQ.push rfl ?_
    obtain rfl := Option.some.inj hy1
    exact lQ.sub (lSb rfl (lSb rfl (lSb rfl (lSb rfl (lSb rfl lSb0))))) hJ1
  · refine lQ.ifF rfl (decide_eq_false hc) ?_
    refine lQ.loadI rfl rfl ?_
    refine lQ.loadN rfl rfl ?_
    refine lQ.get hR rfl (tf_0_36 hn) ?_
    obtain ⟨x2, hx, hy1⟩ := bindC hy1
    refine lQ.callI (F := (fun y A => x2 = y ∧ A = tp ad s A0)) (G := fun _ _ => False) (args := [.int v2, .int (s.1 36)]) (r := []) hR rfl rfl rfl (Nat.le_of_ble_eq_true rfl) (Nat.le_of_ble_eq_true rfl) (ts_560 hR hn hx (cI_mk ⟨rfl, rfl⟩)) ?_ (fun _ _ _ z => z.elim)
    rintro _ _ ⟨rfl, rfl⟩
    rcases iteC hy1 with ⟨hc, hy1⟩ | ⟨hc, hy1⟩
    · refine lQ.ifT rfl (decide_eq_true hc) ?_
      refine lQ.push rfl ?_
      obtain rfl := Option.some.inj hy1
      exact lQ.sub (lSb rfl (lSb rfl (lSb rfl (lSb rfl (lSb rfl lSb0))))) hJ1
    · refine lQ.ifF rfl (decide_eq_false hc) ?_
      refine lQ.loadI rfl rfl ?_
      refine lQ.loadI rfl rfl ?_
      rcases iteC hy1 with ⟨hc, hy1⟩ | ⟨hc, hy1⟩
      · refine lQ.cmpT rfl (decide_eq_true hc) ?_
        refine lQ.push rfl ?_
        obtain rfl := Option.some.inj hy1
        exact lQ.sub (lSb rfl (lSb rfl (lSb rfl (lSb rfl (lSb rfl lSb0))))) hJ1
      · refine lQ.cmpF rfl (decide_eq_false hc) ?_
        refine lQ.loadN rfl rfl ?_
        refine lQ.loadI rfl rfl ?_
        refine lQ.loadI rfl rfl ?_
        obtain ⟨x3, hx, hy1⟩ := bindC hy1
        refine lQ.callVI (F := (fun y A => x3 = y ∧ A = tp ad s A0)) (G := fun _ _ => False) (args := [.ref (adr ad 0), .int v3, .int v4]) (r := []) hR rfl rfl rfl (Nat.le_of_ble_eq_true rfl) (Nat.le_of_ble_eq_true rfl) rfl (tk_0 hn rfl) (ts_606 hR hn hx (cI_mk ⟨rfl, rfl⟩)) ?_ (fun _ _ _ z => z.elim)
        rintro _ _ ⟨rfl, rfl⟩
        rcases iteC hy1 with ⟨hc, hy1⟩ | ⟨hc, hy1⟩
        · refine lQ.ifT rfl (decide_eq_true hc) ?_
          refine lQ.push rfl ?_
          obtain rfl := Option.some.inj hy1
          exact lQ.sub (lSb rfl (lSb rfl (lSb rfl (lSb rfl (lSb rfl lSb0))))) hJ1
        · refine lQ.ifF rfl (decide_eq_false hc) ?_
          refine lQ.push rfl ?_
          refine lQ.goto rfl ?_
          obtain rfl := Option.some.inj hy1
          exact lQ.sub (lSb rfl (lSb rfl (lSb rfl (lSb rfl (lSb rfl lSb0))))) hJ1
theorem ts_615 {R : lAR} (hR : lRok R) {E : lE} {ad : List Nat} (hn : tOk ad) {v1 : Int32} {v2 : Int32} {s : TS} {A0 : lMem} {x : Int32 × TS} (h : t_615 v1 v2 s = some x) {Z : lZ} (hz : Z (.inl (some (.int x.1))) (tp ad x.2 A0)) : lSQ R E 3 615 [.ref (adr ad 0), .int v1, .int v2] (tp ad s A0) Z := by
  refine lQ.sq pg_615 (Nat.le_of_ble_eq_true rfl) rfl ?_
  unfold t_615 at h
  refine lQ.loadN rfl rfl ?_
  refine lQ.loadI rfl rfl ?_
  refine lQ.loadN rfl rfl ?_
  refine lQ.get hR rfl (tf_0_10 hn) ?_
  obtain ⟨x1, hx, h⟩ := bindC h
  refine lQ.callI (F := (fun y A => x1 = y ∧ A = tp ad s A0)) (G := fun _ _ => False) (args := [.int v1, .int (s.1 10)]) (r := [.ref (adr ad 0)]) hR rfl rfl rfl (Nat.le_of_ble_eq_true rfl) (Nat.le_of_ble_eq_true rfl) (ts_560 hR hn hx (cI_mk ⟨rfl, rfl⟩)) ?_ (fun _ _ _ z => z.elim)
  rintro _ _ ⟨rfl, rfl⟩
  refine lQ.loadN rfl rfl ?_
  refine lQ.get hR rfl (tf_0_1 hn) ?_
  obtain ⟨x2, hx, h⟩ := bindC h
  refine lQ.callVI (F := (fun y A => x2.1 = y ∧ A = tp ad x2.2 A0)) (G := fun _ _ => False) (args := [.ref (adr ad 0), .int x1, .int (s.1 1)]) (r := []) hR rfl rfl rfl (Nat.le_of_ble_eq_true rfl) (Nat.le_of_ble_eq_true rfl) rfl (tk_0 hn rfl) (ts_558 hR hn hx (cI_mk ⟨rfl, rfl⟩)) ?_ (fun _ _ _ z => z.elim)
  rintro _ _ ⟨rfl, rfl⟩
  rcases iteC h with ⟨hc, h⟩ | ⟨hc, h⟩
  · refine lQ.ifF rfl (decide_eq_false (fun z => z hc)) ?_
    refine lQ.push rfl ?_
    obtain rfl := Option.some.inj h
    exact lQ.retI rfl rfl hz
  · refine lQ.ifT rfl (decide_eq_true hc) ?_
    refine lQ.loadI rfl rfl ?_
    rcases iteC h with ⟨hc, h⟩ | ⟨hc, h⟩
    · refine lQ.ifT rfl (decide_eq_true hc) ?_
      refine lQ.push rfl ?_
      refine lQ.stI rfl (lN2s rfl rfl) ?_
      obtain ⟨v129, hy1, h1⟩ := bindC h
      have hJ1 : lQ R E 2 cd_615 129 [(0, .ref (adr ad 0)), (1, .int v1)] [] (tp ad v129 A0) Z := by
        refine lQ.loadN rfl rfl ?_
        refine lQ.get hR rfl (tf_0_20 hn) ?_
        refine lQ.loadI rfl rfl ?_
        obtain ⟨x19, hx, h1⟩ := bindC h1
        refine lQ.ald hR rfl (ta_16 hn hx) ?_
        refine lQ.stI rfl (lN2n rfl) ?_
        refine lQ.loadN rfl rfl ?_
        refine lQ.get hR rfl (tf_0_20 hn) ?_
        refine lQ.loadI rfl rfl ?_
        refine lQ.push rfl ?_
        obtain ⟨s20, hx, h1⟩ := bindC h1
        refine lQ.ast hR rfl (tw_16 hn hx) ?_
        rintro _ rfl
        refine lQ.loadN rfl rfl ?_
        refine lQ.get hR rfl (tf_0_19 hn) ?_
        refine lQ.loadI rfl rfl ?_
        refine lQ.push rfl ?_
        obtain ⟨s21, hx, h1⟩ := bindC h1
        refine lQ.ast hR rfl (tw_15 hn hx) ?_
        rintro _ rfl
        refine lQ.loadI rfl rfl ?_
        obtain rfl := Option.some.inj h1
        exact lQ.retI rfl rfl hz
      refine lQ.sub (lSb rfl (lSb rfl (lSb rfl lSb0))) (wh_run (P := fun p34 => lQ R E 2 cd_615 34 [(0, .ref (adr ad 0)), (1, .int v1), (3, .int p34.2)] [] (tp ad p34.1 A0) Z) hy1 ?_)
      intro p34 r2 hb2 hI2 hX2
      refine lQ.loadI rfl rfl ?_
      refine lQ.loadN rfl rfl ?_
      refine lQ.get hR rfl (tf_0_20 hn) ?_
      refine lQ.loadI rfl rfl ?_
      obtain ⟨x3, hx, hb2⟩ := bindC hb2
      refine lQ.ald hR rfl (ta_16 hn hx) ?_
      rcases iteC hb2 with ⟨hc, hb2⟩ | ⟨hc, hb2⟩
      · refine lQ.cmpF rfl (decide_eq_false (Int32.not_le.mpr hc)) ?_
        refine lQ.push rfl ?_
        refine lQ.loadI rfl rfl ?_
        refine lQ.binI rfl ?_
        refine lQ.loadI rfl rfl ?_
        refine lQ.binI rfl ?_
        refine lQ.stI rfl (lN2s rfl rfl) ?_
        refine lQ.loadN rfl rfl ?_
        refine lQ.get hR rfl (tf_0_21 hn) ?_
        refine lQ.loadI rfl rfl ?_
        obtain ⟨x4, hx, hb2⟩ := bindC hb2
        refine lQ.ald hR rfl (ta_17 hn hx) ?_
        refine lQ.stI rfl (lN2s rfl rfl) ?_
        refine lQ.loadN rfl rfl ?_
        refine lQ.get hR rfl (tf_0_33 hn) ?_
        refine lQ.loadN rfl rfl ?_
        refine lQ.get hR rfl (tf_0_37 hn) ?_
        refine lQ.loadI rfl rfl ?_
        obtain ⟨x5, hx, hb2⟩ := bindC hb2
        refine lQ.ald hR rfl (ta_30 hn hx) ?_
        obtain ⟨x6, hx, hb2⟩ := bindC hb2
        refine lQ.ald hR rfl (ta_27 hn hx) ?_
        obtain ⟨v70, hy3, h3⟩ := bindC hb2
        have hJ3 : lQ R E 2 cd_615 70 [(0, .ref (adr ad 0)), (1, .int v1), (3, .int p34.2), (4, .int ((20 * v1) + p34.2)), (5, .int x4)] [] (tp ad v70 A0) Z := by
          refine lQ.loadN rfl rfl ?_
          refine lQ.loadI rfl rfl ?_
          refine lQ.loadN rfl rfl ?_
          refine lQ.get hR rfl (tf_0_22 hn) ?_
          refine lQ.loadI rfl rfl ?_
          obtain ⟨x10, hx, h3⟩ := bindC h3
          refine lQ.ald hR rfl (ta_18 hn hx) ?_
          refine lQ.loadN rfl rfl ?_
          refine lQ.get hR rfl (tf_0_23 hn) ?_
          refine lQ.loadI rfl rfl ?_
          obtain ⟨x11, hx, h3⟩ := bindC h3
          refine lQ.ald hR rfl (ta_19 hn hx) ?_
          refine lQ.push rfl ?_
          refine lQ.push rfl ?_
          obtain ⟨x12, hx, h3⟩ := bindC h3
          refine lQ.callVI (F := (fun y A => x12 = y ∧ A = tp ad v70 A0)) (G := fun _ _ => False) (args := [.ref (adr ad 0), .int x4, .int x10, .int x11, .int 1000000, .int (-1)]) (r := []) hR rfl rfl rfl (Nat.le_of_ble_eq_true rfl) (Nat.le_of_ble_eq_true rfl) rfl (tk_0 hn rfl) (ts_609 hR hn hx (cI_mk ⟨rfl, rfl⟩)) ?_ (fun _ _ _ z => z.elim)
          rintro _ _ ⟨rfl, rfl⟩
          refine lQ.stI rfl (lN2s rfl rfl) ?_
          refine lQ.loadI rfl rfl ?_
          obtain ⟨v117, hy4, h4⟩ := bindC h3
          have hJ4 : lQ R E 2 cd_615 117 [(0, .ref (adr ad 0)), (1, .int v1), (3, .int p34.2), (6, .int x12)] [] (tp ad v117 A0) Z := by
            refine lQ.loadN rfl rfl ?_
            refine lQ.dupN rfl ?_
            refine lQ.get hR rfl (tf_0_49 hn) ?_
            refine lQ.loadI rfl rfl ?_
            obtain ⟨v125, hy5, h5⟩ := bindC h4
            have hJ5 : lQ R E 2 cd_615 125 [(0, .ref (adr ad 0)), (1, .int v1), (3, .int p34.2)] [.int v125, .int (v117.1 49), .ref (adr ad 0)] (tp ad v117 A0) Z := by
              refine lQ.binI rfl ?_
              obtain ⟨s18, hx, h5⟩ := bindC h5
              refine lQ.put hR rfl rfl (tq_0_49 hn hx) ?_
              rintro _ rfl
              refine lQ.inc rfl rfl (lN2n rfl) ?_
              refine lQ.goto rfl ?_
              obtain rfl := Option.some.inj h5
              exact lQ.sub (lSb rfl (lSb rfl (lSb rfl lSb0))) (hI2 _ rfl)
            rcases iteC hy5 with ⟨hc, hy5⟩ | ⟨hc, hy5⟩
            · refine lQ.ifF rfl (decide_eq_false (Int32.not_le.mpr hc)) ?_
              refine lQ.push rfl ?_
              refine lQ.goto rfl ?_
              obtain rfl := Option.some.inj hy5
              exact lQ.sub (lSb rfl (lSb rfl (lSb rfl lSb0))) hJ5
            · refine lQ.ifT rfl (decide_eq_true (Int32.not_lt.mp hc)) ?_
              refine lQ.push rfl ?_
              obtain rfl := Option.some.inj hy5
              exact lQ.sub (lSb rfl (lSb rfl (lSb rfl lSb0))) hJ5
          rcases iteC hy4 with ⟨hc, hy4⟩ | ⟨hc, hy4⟩
          · refine lQ.ifF rfl (decide_eq_false (Int32.not_le.mpr hc)) ?_
            refine lQ.loadN rfl rfl ?_
            refine lQ.get hR rfl (tf_0_49 hn) ?_
            refine lQ.push rfl ?_
            rcases iteC hy4 with ⟨hc, hy4⟩ | ⟨hc, hy4⟩
            · refine lQ.cmpF rfl (decide_eq_false (Int32.not_le.mpr hc)) ?_
              refine lQ.loadN rfl rfl ?_
              refine lQ.get hR rfl (tf_0_50 hn) ?_
              refine lQ.loadN rfl rfl ?_
              refine lQ.get hR rfl (tf_0_49 hn) ?_
              refine lQ.loadI rfl rfl ?_
              obtain ⟨s13, hx, hy4⟩ := bindC hy4
              refine lQ.ast hR rfl (tw_40 hn hx) ?_
              rintro _ rfl
              refine lQ.loadN rfl rfl ?_
              refine lQ.get hR rfl (tf_0_51 hn) ?_
              refine lQ.loadN rfl rfl ?_
              refine lQ.get hR rfl (tf_0_49 hn) ?_
              refine lQ.loadI rfl rfl ?_
              obtain ⟨s14, hx, hy4⟩ := bindC hy4
              refine lQ.ast hR rfl (tw_41 hn hx) ?_
              rintro _ rfl
              refine lQ.loadN rfl rfl ?_
              refine lQ.get hR rfl (tf_0_52 hn) ?_
              refine lQ.loadN rfl rfl ?_
              refine lQ.get hR rfl (tf_0_49 hn) ?_
              refine lQ.loadN rfl rfl ?_
              refine lQ.get hR rfl (tf_0_23 hn) ?_
              refine lQ.loadI rfl rfl ?_
              obtain ⟨x15, hx, hy4⟩ := bindC hy4
              refine lQ.ald hR rfl (ta_19 hn hx) ?_
              obtain ⟨s16, hx, hy4⟩ := bindC hy4
              refine lQ.ast hR rfl (tw_42 hn hx) ?_
              rintro _ rfl
              refine lQ.loadN rfl rfl ?_
              refine lQ.get hR rfl (tf_0_53 hn) ?_
              refine lQ.loadN rfl rfl ?_
              refine lQ.get hR rfl (tf_0_49 hn) ?_
              refine lQ.loadI rfl rfl ?_
              obtain ⟨s17, hx, hy4⟩ := bindC hy4
              refine lQ.ast hR rfl (tw_43 hn hx) ?_
              rintro _ rfl
              obtain rfl := Option.some.inj hy4
              exact lQ.sub (lSb rfl (lSb rfl (lSb rfl (lSb rfl lSb0)))) hJ4
            · refine lQ.cmpT rfl (decide_eq_true (Int32.not_lt.mp hc)) ?_
              obtain rfl := Option.some.inj hy4
              exact lQ.sub (lSb rfl (lSb rfl (lSb rfl (lSb rfl lSb0)))) hJ4
          · refine lQ.ifT rfl (decide_eq_true (Int32.not_lt.mp hc)) ?_
            obtain rfl := Option.some.inj hy4
            exact lQ.sub (lSb rfl (lSb rfl (lSb rfl (lSb rfl lSb0)))) hJ4
        rcases iteC hy3 with ⟨hc, hy3⟩ | ⟨hc, hy3⟩
        · refine lQ.ifF rfl (decide_eq_false (Int32.not_le.mpr hc)) ?_
          refine lQ.loadN rfl rfl ?_
          refine lQ.loadN rfl rfl ?_
          refine lQ.get hR rfl (tf_0_37 hn) ?_
          refine lQ.loadI rfl rfl ?_
          obtain ⟨x7, hx, hy3⟩ := bindC hy3
          refine lQ.ald hR rfl (ta_30 hn hx) ?_
          refine lQ.loadI rfl rfl ?_
          refine lQ.loadN rfl rfl ?_
          refine lQ.get hR rfl (tf_0_22 hn) ?_
          refine lQ.loadI rfl rfl ?_
          obtain ⟨x8, hx, hy3⟩ := bindC hy3
          refine lQ.ald hR rfl (ta_18 hn hx) ?_
          obtain ⟨x9, hx, hy3⟩ := bindC hy3
          refine lQ.callVV (F := (fun A => A = tp ad x9 A0)) (G := fun _ _ => False) (args := [.ref (adr ad 0), .int x7, .int v1, .int x8]) (r := []) hR rfl rfl rfl (Nat.le_of_ble_eq_true rfl) (Nat.le_of_ble_eq_true rfl) rfl (tk_0 hn rfl) (ts_613 hR hn hx (cV_mk rfl)) ?_ (fun _ _ _ z => z.elim)
          rintro _ rfl
          obtain rfl := Option.some.inj hy3
          exact lQ.sub (lSb rfl (lSb rfl (lSb rfl (lSb rfl (lSb rfl lSb0))))) hJ3
        · refine lQ.ifT rfl (decide_eq_true (Int32.not_lt.mp hc)) ?_
          obtain rfl := Option.some.inj hy3
          exact lQ.sub (lSb rfl (lSb rfl (lSb rfl (lSb rfl (lSb rfl lSb0))))) hJ3
      · refine lQ.cmpT rfl (decide_eq_true (Int32.not_lt.mp hc)) ?_
        obtain rfl := Option.some.inj hb2
        obtain rfl := hX2 _ rfl
        exact lQ.sub (lSb rfl (lSb rfl lSb0)) hJ1
    · refine lQ.ifF rfl (decide_eq_false hc) ?_
      refine lQ.loadN rfl rfl ?_
      refine lQ.get hR rfl (tf_0_19 hn) ?_
      refine lQ.loadI rfl rfl ?_
      refine lQ.loadN rfl rfl ?_
      refine lQ.get hR rfl (tf_0_19 hn) ?_
      refine lQ.loadI rfl rfl ?_
      obtain ⟨x22, hx, h⟩ := bindC h
      refine lQ.ald hR rfl (ta_15 hn hx) ?_
      refine lQ.push rfl ?_
      obtain ⟨v29, hy6, h6⟩ := bindC h
      have hJ6 : lQ R E 2 cd_615 29 [] [.int v29, .int v1, .ref (adr ad 15)] (tp ad x2.2 A0) Z := by
        obtain ⟨s24, hx, h6⟩ := bindC h6
        refine lQ.ast hR rfl (tw_15 hn hx) ?_
        rintro _ rfl
        refine lQ.push rfl ?_
        obtain rfl := Option.some.inj h6
        exact lQ.retI rfl rfl hz
      rcases iteC hy6 with ⟨hc, hy6⟩ | ⟨hc, hy6⟩
      · refine lQ.cmpF rfl (decide_eq_false (fun z => z hc)) ?_
        refine lQ.loadN rfl rfl ?_
        refine lQ.get hR rfl (tf_0_45 hn) ?_
        refine lQ.goto rfl ?_
        obtain rfl := Option.some.inj hy6
        exact lQ.sub lSb0 hJ6
      · refine lQ.cmpT rfl (decide_eq_true hc) ?_
        refine lQ.loadN rfl rfl ?_
        refine lQ.get hR rfl (tf_0_19 hn) ?_
        refine lQ.loadI rfl rfl ?_
        obtain ⟨x23, hx, hy6⟩ := bindC hy6
        refine lQ.ald hR rfl (ta_15 hn hx) ?_
        obtain rfl := Option.some.inj hy6
        exact lQ.sub lSb0 hJ6
theorem ts_616 {R : lAR} (hR : lRok R) {E : lE} {ad : List Nat} (hn : tOk ad) {v1 : Int32} {v2 : Int32} {s : TS} {A0 : lMem} {x : Int32 × TS} (h : t_616 v1 v2 s = some x) {Z : lZ} (hz : Z (.inl (some (.int x.1))) (tp ad x.2 A0)) : lSQ R E 2 616 [.ref (adr ad 0), .int v1, .int v2] (tp ad s A0) Z := by
  refine lQ.sq pg_616 (Nat.le_of_ble_eq_true rfl) rfl ?_
  unfold t_616 at h
  refine lQ.loadN rfl rfl ?_
  refine lQ.loadI rfl rfl ?_
  refine lQ.loadN rfl rfl ?_
  refine lQ.get hR rfl (tf_0_27 hn) ?_
  obtain ⟨x1, hx, h⟩ := bindC h
  refine lQ.callI (F := (fun y A => x1 = y ∧ A = tp ad s A0)) (G := fun _ _ => False) (args := [.int v1, .int (s.1 27)]) (r := [.ref (adr ad 0)]) hR rfl rfl rfl (Nat.le_of_ble_eq_true rfl) (Nat.le_of_ble_eq_true rfl) (ts_560 hR hn hx (cI_mk ⟨rfl, rfl⟩)) ?_ (fun _ _ _ z => z.elim)
  rintro _ _ ⟨rfl, rfl⟩
  obtain ⟨v13, hy1, h1⟩ := bindC h
  have hJ1 : lQ R E 1 cd_616 13 [(0, .ref (adr ad 0)), (1, .int v1), (2, .int v2)] [.int v13, .ref (adr ad 0)] (tp ad s A0) Z := by
    refine lQ.loadN rfl rfl ?_
    refine lQ.get hR rfl (tf_0_1 hn) ?_
    obtain ⟨x3, hx, h1⟩ := bindC h1
    refine lQ.callVI (F := (fun y A => x3.1 = y ∧ A = tp ad x3.2 A0)) (G := fun _ _ => False) (args := [.ref (adr ad 0), .int v13, .int (s.1 1)]) (r := []) hR rfl rfl rfl (Nat.le_of_ble_eq_true rfl) (Nat.le_of_ble_eq_true rfl) rfl (tk_0 hn rfl) (ts_558 hR hn hx (cI_mk ⟨rfl, rfl⟩)) ?_ (fun _ _ _ z => z.elim)
    rintro _ _ ⟨rfl, rfl⟩
    rcases iteC h1 with ⟨hc, h1⟩ | ⟨hc, h1⟩
    · refine lQ.ifF rfl (decide_eq_false (fun z => z hc)) ?_
      refine lQ.push rfl ?_
      obtain rfl := Option.some.inj h1
      exact lQ.retI rfl rfl hz
    · refine lQ.ifT rfl (decide_eq_true hc) ?_
      refine lQ.loadI rfl rfl ?_
      rcases iteC h1 with ⟨hc, h1⟩ | ⟨hc, h1⟩
      · refine lQ.sw (j := 21) rfl (by unfold swT; rw [hc]; rfl) ?_
        refine lQ.loadN rfl rfl ?_
        refine lQ.get hR rfl (tf_0_30 hn) ?_
        refine lQ.loadI rfl rfl ?_
        obtain ⟨x9, hx, h1⟩ := bindC h1
        refine lQ.ald hR rfl (ta_24 hn hx) ?_
        obtain rfl := Option.some.inj h1
        exact lQ.retI rfl rfl hz
      · have e0 := hc
        rcases iteC h1 with ⟨hc, h1⟩ | ⟨hc, h1⟩
        · refine lQ.sw (j := 26) rfl (by unfold swT; rw [hc]; rfl) ?_
          refine lQ.loadN rfl rfl ?_
          refine lQ.get hR rfl (tf_0_31 hn) ?_
          refine lQ.loadI rfl rfl ?_
          obtain ⟨x8, hx, h1⟩ := bindC h1
          refine lQ.ald hR rfl (ta_25 hn hx) ?_
          obtain rfl := Option.some.inj h1
          exact lQ.retI rfl rfl hz
        · have e1 := hc
          rcases iteC h1 with ⟨hc, h1⟩ | ⟨hc, h1⟩
          · refine lQ.sw (j := 31) rfl (by unfold swT; rw [hc]; rfl) ?_
            refine lQ.loadN rfl rfl ?_
            refine lQ.get hR rfl (tf_0_32 hn) ?_
            refine lQ.loadI rfl rfl ?_
            obtain ⟨x7, hx, h1⟩ := bindC h1
            refine lQ.ald hR rfl (ta_26 hn hx) ?_
            obtain rfl := Option.some.inj h1
            exact lQ.retI rfl rfl hz
          · have e2 := hc
            rcases iteC h1 with ⟨hc, h1⟩ | ⟨hc, h1⟩
            · refine lQ.sw (j := 36) rfl (by unfold swT; rw [hc]; rfl) ?_
              refine lQ.loadN rfl rfl ?_
              refine lQ.get hR rfl (tf_0_33 hn) ?_
              refine lQ.loadI rfl rfl ?_
              obtain ⟨x6, hx, h1⟩ := bindC h1
              refine lQ.ald hR rfl (ta_27 hn hx) ?_
              obtain rfl := Option.some.inj h1
              exact lQ.retI rfl rfl hz
            · have e3 := hc
              rcases iteC h1 with ⟨hc, h1⟩ | ⟨hc, h1⟩
              · refine lQ.sw (j := 41) rfl (by unfold swT; rw [hc]; rfl) ?_
                refine lQ.loadN rfl rfl ?_
                refine lQ.get hR rfl (tf_0_34 hn) ?_
                refine lQ.loadI rfl rfl ?_
                obtain ⟨x5, hx, h1⟩ := bindC h1
                refine lQ.ald hR rfl (ta_28 hn hx) ?_
                obtain rfl := Option.some.inj h1
                exact lQ.retI rfl rfl hz
              · have e4 := hc
                refine lQ.sw (j := 46) rfl (swT_all ⟨Or.inr e0, ⟨Or.inr e1, ⟨Or.inr e2, ⟨Or.inr e3, ⟨Or.inr e4, trivial⟩⟩⟩⟩⟩) ?_
                refine lQ.loadN rfl rfl ?_
                refine lQ.get hR rfl (tf_0_35 hn) ?_
                refine lQ.loadI rfl rfl ?_
                obtain ⟨x4, hx, h1⟩ := bindC h1
                refine lQ.ald hR rfl (ta_29 hn hx) ?_
                obtain rfl := Option.some.inj h1
                exact lQ.retI rfl rfl hz
  rcases iteC hy1 with ⟨hc, hy1⟩ | ⟨hc, hy1⟩
  · refine lQ.ifT rfl (decide_eq_true hc) ?_
    refine lQ.push rfl ?_
    obtain rfl := Option.some.inj hy1
    exact lQ.sub (lSb rfl (lSb rfl (lSb rfl lSb0))) hJ1
  · refine lQ.ifF rfl (decide_eq_false hc) ?_
    refine lQ.loadI rfl rfl ?_
    refine lQ.push rfl ?_
    obtain ⟨x2, hx, hy1⟩ := bindC hy1
    refine lQ.callI (F := (fun y A => x2 = y ∧ A = tp ad s A0)) (G := fun _ _ => False) (args := [.int v2, .int 6]) (r := [.ref (adr ad 0)]) hR rfl rfl rfl (Nat.le_of_ble_eq_true rfl) (Nat.le_of_ble_eq_true rfl) (ts_560 hR hn hx (cI_mk ⟨rfl, rfl⟩)) ?_ (fun _ _ _ z => z.elim)
    rintro _ _ ⟨rfl, rfl⟩
    rcases iteC hy1 with ⟨hc, hy1⟩ | ⟨hc, hy1⟩
    · refine lQ.ifT rfl (decide_eq_true hc) ?_
      refine lQ.push rfl ?_
      obtain rfl := Option.some.inj hy1
      exact lQ.sub (lSb rfl (lSb rfl (lSb rfl lSb0))) hJ1
    · refine lQ.ifF rfl (decide_eq_false hc) ?_
      refine lQ.push rfl ?_
      refine lQ.goto rfl ?_
      obtain rfl := Option.some.inj hy1
      exact lQ.sub (lSb rfl (lSb rfl (lSb rfl lSb0))) hJ1
theorem ts_617 {R : lAR} (hR : lRok R) {E : lE} {ad : List Nat} (hn : tOk ad) {v1 : Int32} {s : TS} {A0 : lMem} {x : Int32 × TS} (h : t_617 v1 s = some x) {Z : lZ} (hz : Z (.inl (some (.int x.1))) (tp ad x.2 A0)) : lSQ R E 2 617 [.ref (adr ad 0), .int v1] (tp ad s A0) Z := by
  refine lQ.sq pg_617 (Nat.le_of_ble_eq_true rfl) rfl ?_
  unfold t_617 at h
  refine lQ.loadN rfl rfl ?_
  refine lQ.loadI rfl rfl ?_
  refine lQ.push rfl ?_
  obtain ⟨x1, hx, h⟩ := bindC h
  refine lQ.callI (F := (fun y A => x1 = y ∧ A = tp ad s A0)) (G := fun _ _ => False) (args := [.int v1, .int 10]) (r := [.ref (adr ad 0)]) hR rfl rfl rfl (Nat.le_of_ble_eq_true rfl) (Nat.le_of_ble_eq_true rfl) (ts_560 hR hn hx (cI_mk ⟨rfl, rfl⟩)) ?_ (fun _ _ _ z => z.elim)
  rintro _ _ ⟨rfl, rfl⟩
  refine lQ.loadN rfl rfl ?_
  refine lQ.get hR rfl (tf_0_1 hn) ?_
  obtain ⟨x2, hx, h⟩ := bindC h
  refine lQ.callVI (F := (fun y A => x2.1 = y ∧ A = tp ad x2.2 A0)) (G := fun _ _ => False) (args := [.ref (adr ad 0), .int x1, .int (s.1 1)]) (r := []) hR rfl rfl rfl (Nat.le_of_ble_eq_true rfl) (Nat.le_of_ble_eq_true rfl) rfl (tk_0 hn rfl) (ts_558 hR hn hx (cI_mk ⟨rfl, rfl⟩)) ?_ (fun _ _ _ z => z.elim)
  rintro _ _ ⟨rfl, rfl⟩
  rcases iteC h with ⟨hc, h⟩ | ⟨hc, h⟩
  · refine lQ.ifF rfl (decide_eq_false (fun z => z hc)) ?_
    refine lQ.push rfl ?_
    obtain rfl := Option.some.inj h
    exact lQ.retI rfl rfl hz
  · refine lQ.ifT rfl (decide_eq_true hc) ?_
    refine lQ.push rfl ?_
    refine lQ.stI rfl (lN2s rfl rfl) ?_
    refine lQ.push rfl ?_
    refine lQ.stI rfl (lN2s rfl rfl) ?_
    obtain ⟨v34, hy1, h1⟩ := bindC h
    have hJ1 : lQ R E 1 cd_617 34 [(2, .int v34)] [] (tp ad x2.2 A0) Z := by
      refine lQ.loadI rfl rfl ?_
      obtain rfl := Option.some.inj h1
      exact lQ.retI rfl rfl hz
    refine lQ.sub (lSb rfl (lSb rfl (lSb rfl (lSb rfl lSb0)))) (wh_run (P := fun p14 => lQ R E 1 cd_617 14 [(0, .ref (adr ad 0)), (1, .int v1), (2, .int p14.1), (3, .int p14.2)] [] (tp ad x2.2 A0) Z) hy1 ?_)
    intro p14 r2 hb2 hI2 hX2
    refine lQ.loadI rfl rfl ?_
    refine lQ.loadN rfl rfl ?_
    refine lQ.get hR rfl (tf_0_27 hn) ?_
    rcases iteC hb2 with ⟨hc, hb2⟩ | ⟨hc, hb2⟩
    · refine lQ.cmpF rfl (decide_eq_false (Int32.not_le.mpr hc)) ?_
      refine lQ.loadI rfl rfl ?_
      refine lQ.loadN rfl rfl ?_
      refine lQ.loadN rfl rfl ?_
      refine lQ.get hR rfl (tf_0_30 hn) ?_
      refine lQ.loadI rfl rfl ?_
      obtain ⟨x3, hx, hb2⟩ := bindC hb2
      refine lQ.ald hR rfl (ta_24 hn hx) ?_
      obtain ⟨x4, hx, hb2⟩ := bindC hb2
      refine lQ.callVI (F := (fun y A => x4 = y ∧ A = tp ad x2.2 A0)) (G := fun _ _ => False) (args := [.ref (adr ad 0), .int x3]) (r := [.int p14.1]) hR rfl rfl rfl (Nat.le_of_ble_eq_true rfl) (Nat.le_of_ble_eq_true rfl) rfl (tk_0 hn rfl) (ts_610 hR hn hx (cI_mk ⟨rfl, rfl⟩)) ?_ (fun _ _ _ z => z.elim)
      rintro _ _ ⟨rfl, rfl⟩
      refine lQ.loadI rfl rfl ?_
      obtain ⟨v30, hy3, h3⟩ := bindC hb2
      have hJ3 : lQ R E 1 cd_617 30 [(0, .ref (adr ad 0)), (1, .int v1), (3, .int p14.2)] [.int v30, .int p14.1] (tp ad x2.2 A0) Z := by
        refine lQ.binI rfl ?_
        refine lQ.stI rfl (lN2s rfl rfl) ?_
        refine lQ.inc rfl rfl (lN2s rfl rfl) ?_
        refine lQ.goto rfl ?_
        obtain rfl := Option.some.inj h3
        exact lQ.sub (lSb rfl (lSb rfl (lSb rfl (lSb rfl lSb0)))) (hI2 _ rfl)
      rcases iteC hy3 with ⟨hc, hy3⟩ | ⟨hc, hy3⟩
      · refine lQ.cmpF rfl (decide_eq_false (fun z => z hc)) ?_
        refine lQ.push rfl ?_
        refine lQ.goto rfl ?_
        obtain rfl := Option.some.inj hy3
        exact lQ.sub (lSb rfl (lSb rfl (lSb rfl lSb0))) hJ3
      · refine lQ.cmpT rfl (decide_eq_true hc) ?_
        refine lQ.push rfl ?_
        obtain rfl := Option.some.inj hy3
        exact lQ.sub (lSb rfl (lSb rfl (lSb rfl lSb0))) hJ3
    · refine lQ.cmpT rfl (decide_eq_true (Int32.not_lt.mp hc)) ?_
      obtain rfl := Option.some.inj hb2
      obtain rfl := hX2 _ rfl
      exact lQ.sub (lSb rfl lSb0) hJ1
