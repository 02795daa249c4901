set_option maxRecDepth 100000
theorem ts_730 {R : lAR} (hR : lRok R) {E : lE} {ad : List Nat} (hn : tOk ad) {v0 : Int64} {s : TS} {A0 : lMem} {x : Int32} (h : t_730 v0 s = some x) {Z : lZ} (hz : Z (.inl (some (.int x))) (tp ad s A0)) : lSQ R E 2 730 [.long v0] (tp ad s A0) Z := by
  refine lQ.sq pg_730 (Nat.le_of_ble_eq_true rfl) rfl ?_
  unfold t_730 at h
  refine lQ.push rfl ?_
  refine lQ.stI rfl (lN2n rfl) ?_
  refine lQ.push rfl ?_
  refine lQ.stI rfl (lN2s rfl rfl) ?_
  obtain ⟨y1, hy1, h1⟩ := bindC h
  have hJ1 : ∀ v31, y1 = .inl v31 → lQ R E 1 cd_730 31 [(2, .int v31)] [] (tp ad s A0) Z := by
    rintro v31 rfl
    have h1 := elimC h1
    refine lQ.loadI rfl rfl ?_
    obtain rfl := Option.some.inj h1
    exact lQ.retI rfl rfl hz
  obtain ⟨y2, hy2, h2⟩ := bindC hy1
  have hJ2 : ∀ v19, y2 = .inl v19 → lQ R E 1 cd_730 19 [] [] (tp ad s A0) Z := by
    rintro v19 rfl
    have h2 := elimC h2
    refine lQ.push rfl ?_
    obtain rfl := Option.some.inj h2
    obtain rfl := elimD h1
    exact lQ.retI rfl rfl hz
  refine lQ.sub (lSb rfl (lSb rfl (lSb rfl lSb0))) (wh_run (P := fun p4 => lQ R E 1 cd_730 4 [(0, .long v0), (2, .int p4.1), (3, .int p4.2)] [] (tp ad s A0) Z) hy2 ?_)
  intro p4 r3 hb3 hI3 hX3
  refine lQ.loadI rfl rfl ?_
  refine lQ.push rfl ?_
  rcases iteC hb3 with ⟨hc, hb3⟩ | ⟨hc, hb3⟩
  · refine lQ.cmpF rfl (decide_eq_false (Int32.not_le.mpr hc)) ?_
    refine lQ.loadL rfl rfl ?_
    refine lQ.loadI rfl rfl ?_
    obtain ⟨x1, hx, hb3⟩ := bindC hb3
    refine lQ.callI (F := (fun y A => x1 = y ∧ A = tp ad s A0)) (G := fun _ _ => False) (args := [.long v0, .int p4.2]) (r := []) hR rfl rfl rfl (Nat.le_of_ble_eq_true rfl) (Nat.le_of_ble_eq_true rfl) (ts_731 hR hn hx (cI_mk ⟨rfl, rfl⟩)) ?_ (fun _ _ _ z => z.elim)
    rintro _ _ ⟨rfl, rfl⟩
    refine lQ.stI rfl (lN2s rfl rfl) ?_
    refine lQ.loadI rfl rfl ?_
    obtain ⟨y4, hy4, h4⟩ := bindC hb3
    have hJ4 : ∀ v16, y4 = .inl v16 → lQ R E 1 cd_730 16 [(0, .long v0), (2, .int p4.1), (3, .int p4.2), (4, .int x1)] [] (tp ad s A0) Z := by
      rintro v16 rfl
      have h4 := elimC h4
      refine lQ.loadI rfl rfl ?_
      refine lQ.push rfl ?_
      rcases iteC h4 with ⟨hc, h4⟩ | ⟨hc, h4⟩
      · refine lQ.cmpF rfl (decide_eq_false (Int32.not_le.mpr hc)) ?_
        obtain rfl := Option.some.inj h4
        obtain rfl := hX3 _ rfl
        exact lQ.sub lSb0 (hJ2 _ rfl)
      · refine lQ.cmpT rfl (decide_eq_true (Int32.not_lt.mp hc)) ?_
        refine lQ.loadI rfl rfl ?_
        refine lQ.loadI rfl rfl ?_
        obtain ⟨v27, hy5, h5⟩ := bindC h4
        have hJ5 : lQ R E 1 cd_730 27 [(0, .long v0), (3, .int p4.2)] [.int v27, .int p4.1] (tp ad s A0) Z := by
          refine lQ.binI rfl ?_
          refine lQ.stI rfl (lN2n rfl) ?_
          refine lQ.inc rfl rfl (lN2s rfl rfl) ?_
          refine lQ.goto rfl ?_
          obtain rfl := Option.some.inj h5
          exact lQ.sub (lSb rfl (lSb rfl (lSb rfl lSb0))) (hI3 _ rfl)
        rcases iteC hy5 with ⟨hc, hy5⟩ | ⟨hc, hy5⟩
        · refine lQ.ifF rfl (decide_eq_false (Int32.not_le.mpr hc)) ?_
          refine lQ.push rfl ?_
          refine lQ.goto rfl ?_
          obtain rfl := Option.some.inj hy5
          exact lQ.sub (lSb rfl (lSb rfl lSb0)) hJ5
        · refine lQ.ifT rfl (decide_eq_true (Int32.not_lt.mp hc)) ?_
          refine lQ.push rfl ?_
          obtain rfl := Option.some.inj hy5
          exact lQ.sub (lSb rfl (lSb rfl lSb0)) hJ5
    rcases iteC hy4 with ⟨hc, hy4⟩ | ⟨hc, hy4⟩
    · refine lQ.ifF rfl (decide_eq_false (Int32.not_le.mpr hc)) ?_
      refine lQ.loadI rfl rfl ?_
      refine lQ.push rfl ?_
      rcases iteC hy4 with ⟨hc, hy4⟩ | ⟨hc, hy4⟩
      · refine lQ.cmpT rfl (decide_eq_true hc) ?_
        obtain rfl := Option.some.inj hy4
        obtain rfl := elimD h4
        obtain rfl := hX3 _ rfl
        exact lQ.sub lSb0 (hJ2 _ rfl)
      · refine lQ.cmpF rfl (decide_eq_false hc) ?_
        obtain rfl := Option.some.inj hy4
        exact lQ.sub (lSb rfl (lSb rfl (lSb rfl (lSb rfl lSb0)))) (hJ4 _ rfl)
    · refine lQ.ifT rfl (decide_eq_true (Int32.not_lt.mp hc)) ?_
      obtain rfl := Option.some.inj hy4
      exact lQ.sub (lSb rfl (lSb rfl (lSb rfl (lSb rfl lSb0)))) (hJ4 _ rfl)
  · refine lQ.cmpT rfl (decide_eq_true (Int32.not_lt.mp hc)) ?_
    obtain rfl := Option.some.inj hb3
    obtain rfl := hX3 _ rfl
    obtain rfl := elimD h2
    exact lQ.sub (lSb rfl lSb0) (hJ1 _ rfl)
theorem ts_732 {R : lAR} (hR : lRok R) {E : lE} {ad : List Nat} (hn : tOk ad) {v1 : Int64} {s : TS} {A0 : lMem} {x : Int32 × TS} (h : t_732 v1 s = some x) {Z : lZ} (hz : Z (.inl (some (.int x.1))) (tp ad x.2 A0)) : lSQ R E 2 732 [.ref (adr ad 2), .long v1] (tp ad s A0) Z := by
  refine lQ.sq pg_732 (Nat.le_of_ble_eq_true rfl) rfl ?_
  unfold t_732 at h
  refine lQ.push rfl ?_
  refine lQ.stI rfl (lN2n rfl) ?_
  obtain ⟨v24, hy1, h1⟩ := bindC h
  have hJ1 : lQ R E 1 cd_732 24 [(0, .ref (adr ad 2))] [] (tp ad v24 A0) Z := by
    refine lQ.loadN rfl rfl ?_
    refine lQ.get hR rfl (tf_2_1 hn) ?_
    obtain rfl := Option.some.inj h1
    exact lQ.retI rfl rfl hz
  refine lQ.sub (lSb rfl (lSb rfl (lSb rfl lSb0))) (wh_run (P := fun p2 => lQ R E 1 cd_732 2 [(0, .ref (adr ad 2)), (1, .long v1), (3, .int p2.2)] [] (tp ad p2.1 A0) Z) hy1 ?_)
  intro p2 r2 hb2 hI2 hX2
  refine lQ.loadI rfl rfl ?_
  rcases iteC hb2 with ⟨hc, hb2⟩ | ⟨hc, hb2⟩
  · refine lQ.ifT rfl (decide_eq_true hc) ?_
    obtain rfl := Option.some.inj hb2
    obtain rfl := hX2 _ rfl
    exact lQ.sub (lSb rfl lSb0) hJ1
  · refine lQ.ifF rfl (decide_eq_false hc) ?_
    refine lQ.loadL rfl rfl ?_
    refine lQ.loadI rfl rfl ?_
    obtain ⟨x1, hx, hb2⟩ := bindC hb2
    refine lQ.callI (F := (fun y A => x1 = y ∧ A = tp ad p2.1 A0)) (G := fun _ _ => False) (args := [.long v1, .int p2.2]) (r := []) hR rfl rfl rfl (Nat.le_of_ble_eq_true rfl) (Nat.le_of_ble_eq_true rfl) (ts_731 hR hn hx (cI_mk ⟨rfl, rfl⟩)) ?_ (fun _ _ _ z => z.elim)
    rintro _ _ ⟨rfl, rfl⟩
    obtain ⟨v22, hy3, h3⟩ := bindC hb2
    have hJ3 : lQ R E 1 cd_732 22 [(0, .ref (adr ad 2)), (1, .long v1), (3, .int p2.2)] [] (tp ad v22 A0) Z := by
      refine lQ.dec rfl rfl (Int32.sub_eq_add_neg p2.2 1).symm (lN2n rfl) ?_
      refine lQ.goto rfl ?_
      obtain rfl := Option.some.inj h3
      exact lQ.sub (lSb rfl (lSb rfl (lSb rfl lSb0))) (hI2 _ rfl)
    rcases iteC hy3 with ⟨hc, hy3⟩ | ⟨hc, hy3⟩
    · refine lQ.ifF rfl (decide_eq_false (Int32.not_le.mpr hc)) ?_
      refine lQ.loadN rfl rfl ?_
      refine lQ.get hR rfl (tf_2_0 hn) ?_
      refine lQ.loadN rfl rfl ?_
      refine lQ.get hR rfl (tf_2_1 hn) ?_
      refine lQ.loadL rfl rfl ?_
      refine lQ.loadI rfl rfl ?_
      obtain ⟨x2, hx, hy3⟩ := bindC hy3
      refine lQ.callI (F := (fun y A => x2 = y ∧ A = tp ad p2.1 A0)) (G := fun _ _ => False) (args := [.long v1, .int p2.2]) (r := [.int (p2.1.1 201), .ref (adr ad 76)]) hR rfl rfl rfl (Nat.le_of_ble_eq_true rfl) (Nat.le_of_ble_eq_true rfl) (ts_731 hR hn hx (cI_mk ⟨rfl, rfl⟩)) ?_ (fun _ _ _ z => z.elim)
      rintro _ _ ⟨rfl, rfl⟩
      obtain ⟨s3, hx, hy3⟩ := bindC hy3
      refine lQ.ast hR rfl (tw_76 hn hx) ?_
      rintro _ rfl
      refine lQ.loadN rfl rfl ?_
      refine lQ.dupN rfl ?_
      refine lQ.get hR rfl (tf_2_1 hn) ?_
      refine lQ.push rfl ?_
      refine lQ.binI rfl ?_
      obtain ⟨s4, hx, hy3⟩ := bindC hy3
      refine lQ.put hR rfl rfl (tq_2_1 hn hx) ?_
      rintro _ rfl
      obtain rfl := Option.some.inj hy3
      exact lQ.sub (lSb rfl (lSb rfl (lSb rfl lSb0))) hJ3
    · refine lQ.ifT rfl (decide_eq_true (Int32.not_lt.mp hc)) ?_
      obtain rfl := Option.some.inj hy3
      exact lQ.sub (lSb rfl (lSb rfl (lSb rfl lSb0))) hJ3
theorem ts_574 {R : lAR} (hR : lRok R) {E : lE} {ad : List Nat} (hn : tOk ad) {v1 : Int64} {s : TS} {A0 : lMem} {x : Int32 × TS} (h : t_574 v1 s = some x) {Z : lZ} (hz : Z (.inl (some (.int x.1))) (tp ad x.2 A0)) : lSQ R E 3 574 [.ref (adr ad 0), .long v1] (tp ad s A0) Z := by
  refine lQ.sq pg_574 (Nat.le_of_ble_eq_true rfl) rfl ?_
  unfold t_574 at h
  refine lQ.loadL rfl rfl ?_
  obtain ⟨x1, hx, h⟩ := bindC h
  refine lQ.callI (F := (fun y A => x1 = y ∧ A = tp ad s A0)) (G := fun _ _ => False) (args := [.long v1]) (r := []) hR rfl rfl rfl (Nat.le_of_ble_eq_true rfl) (Nat.le_of_ble_eq_true rfl) (ts_730 hR hn hx (cI_mk ⟨rfl, rfl⟩)) ?_ (fun _ _ _ z => z.elim)
  rintro _ _ ⟨rfl, rfl⟩
  refine lQ.stI rfl (lN2n rfl) ?_
  refine lQ.loadN rfl rfl ?_
  refine lQ.loadI rfl rfl ?_
  obtain ⟨v9, hy1, h1⟩ := bindC h
  have hJ1 : lQ R E 2 cd_574 9 [(0, .ref (adr ad 0)), (1, .long v1), (3, .int x1)] [.int v9, .ref (adr ad 0)] (tp ad s A0) Z := by
    refine lQ.loadN rfl rfl ?_
    refine lQ.get hR rfl (tf_0_4 hn) ?_
    refine lQ.get hR rfl (tf_2_1 hn) ?_
    refine lQ.loadI rfl rfl ?_
    refine lQ.binI rfl ?_
    refine lQ.push rfl ?_
    obtain ⟨v19, hy2, h2⟩ := bindC h1
    have hJ2 : lQ R E 2 cd_574 19 [(0, .ref (adr ad 0)), (1, .long v1)] [.int v19, .int v9, .ref (adr ad 0)] (tp ad s A0) Z := by
      obtain ⟨x2, hx, h2⟩ := bindC h2
      refine lQ.callVI (F := (fun y A => x2.1 = y ∧ A = tp ad x2.2 A0)) (G := fun _ _ => False) (args := [.ref (adr ad 0), .int v9, .int v19]) (r := []) hR rfl rfl rfl (Nat.le_of_ble_eq_true rfl) (Nat.le_of_ble_eq_true rfl) rfl (tk_0 hn rfl) (ts_558 hR hn hx (cI_mk ⟨rfl, rfl⟩)) ?_ (fun _ _ _ z => z.elim)
      rintro _ _ ⟨rfl, rfl⟩
      rcases iteC h2 with ⟨hc, h2⟩ | ⟨hc, h2⟩
      · refine lQ.ifT rfl (decide_eq_true hc) ?_
        refine lQ.push rfl ?_
        obtain rfl := Option.some.inj h2
        exact lQ.retI rfl rfl hz
      · refine lQ.ifF rfl (decide_eq_false hc) ?_
        refine lQ.loadN rfl rfl ?_
        refine lQ.get hR rfl (tf_0_4 hn) ?_
        refine lQ.loadL rfl rfl ?_
        obtain ⟨x3, hx, h2⟩ := bindC h2
        refine lQ.callVI (F := (fun y A => x3.1 = y ∧ A = tp ad x3.2 A0)) (G := fun _ _ => False) (args := [.ref (adr ad 2), .long v1]) (r := []) hR rfl rfl rfl (Nat.le_of_ble_eq_true rfl) (Nat.le_of_ble_eq_true rfl) rfl (tk_2 hn rfl) (ts_732 hR hn hx (cI_mk ⟨rfl, rfl⟩)) ?_ (fun _ _ _ z => z.elim)
        rintro _ _ ⟨rfl, rfl⟩
        refine lQ.goto rfl ?_
        obtain rfl := Option.some.inj h2
        exact lQ.retI rfl rfl hz
    rcases iteC hy2 with ⟨hc, hy2⟩ | ⟨hc, hy2⟩
    · refine lQ.cmpT rfl (decide_eq_true hc) ?_
      refine lQ.push rfl ?_
      obtain rfl := Option.some.inj hy2
      exact lQ.sub (lSb rfl (lSb rfl lSb0)) hJ2
    · refine lQ.cmpF rfl (decide_eq_false hc) ?_
      refine lQ.push rfl ?_
      refine lQ.goto rfl ?_
      obtain rfl := Option.some.inj hy2
      exact lQ.sub (lSb rfl (lSb rfl lSb0)) hJ2
  rcases iteC hy1 with ⟨hc, hy1⟩ | ⟨hc, hy1⟩
  · refine lQ.ifT rfl (decide_eq_true hc) ?_
    refine lQ.push rfl ?_
    obtain rfl := Option.some.inj hy1
    exact lQ.sub (lSb rfl (lSb rfl (lSb rfl lSb0))) hJ1
  · refine lQ.ifF rfl (decide_eq_false hc) ?_
    refine lQ.push rfl ?_
    refine lQ.goto rfl ?_
    obtain rfl := Option.some.inj hy1
    exact lQ.sub (lSb rfl (lSb rfl (lSb rfl lSb0))) hJ1
theorem ts_575 {R : lAR} (hR : lRok R) {E : lE} {ad : List Nat} (hn : tOk ad) {v1 : Int32} {s : TS} {A0 : lMem} {x : Int32 × TS} (h : t_575 v1 s = some x) {Z : lZ} (hz : Z (.inl (some (.int x.1))) (tp ad x.2 A0)) : lSQ R E 2 575 [.ref (adr ad 0), .int v1] (tp ad s A0) Z := by
  refine lQ.sq pg_575 (Nat.le_of_ble_eq_true rfl) rfl ?_
  unfold t_575 at h
  refine lQ.loadN rfl rfl ?_
  refine lQ.loadI rfl rfl ?_
  obtain ⟨v11, hy1, h1⟩ := bindC h
  have hJ1 : lQ R E 1 cd_575 11 [(0, .ref (adr ad 0)), (1, .int v1)] [.int v11, .ref (adr ad 0)] (tp ad s A0) Z := by
    refine lQ.push rfl ?_
    obtain ⟨x1, hx, h1⟩ := bindC h1
    refine lQ.callVI (F := (fun y A => x1.1 = y ∧ A = tp ad x1.2 A0)) (G := fun _ _ => False) (args := [.ref (adr ad 0), .int v11, .int 1]) (r := []) hR rfl rfl rfl (Nat.le_of_ble_eq_true rfl) (Nat.le_of_ble_eq_true rfl) rfl (tk_0 hn rfl) (ts_558 hR hn hx (cI_mk ⟨rfl, rfl⟩)) ?_ (fun _ _ _ z => z.elim)
    rintro _ _ ⟨rfl, rfl⟩
    rcases iteC h1 with ⟨hc, h1⟩ | ⟨hc, h1⟩
    · refine lQ.ifF rfl (decide_eq_false (fun z => z hc)) ?_
      refine lQ.push rfl ?_
      obtain rfl := Option.some.inj h1
      exact lQ.retI rfl rfl hz
    · refine lQ.ifT rfl (decide_eq_true hc) ?_
      refine lQ.loadN rfl rfl ?_
      refine lQ.get hR rfl (tf_0_4 hn) ?_
      refine lQ.dupN rfl ?_
      refine lQ.get hR rfl (tf_2_1 hn) ?_
      refine lQ.loadI rfl rfl ?_
      refine lQ.binI rfl ?_
      obtain ⟨s2, hx, h1⟩ := bindC h1
      refine lQ.put hR rfl rfl (tq_2_1 hn hx) ?_
      rintro _ rfl
      refine lQ.loadN rfl rfl ?_
      refine lQ.get hR rfl (tf_0_4 hn) ?_
      refine lQ.get hR rfl (tf_2_1 hn) ?_
      obtain rfl := Option.some.inj h1
      exact lQ.retI rfl rfl hz
  rcases iteC hy1 with ⟨hc, hy1⟩ | ⟨hc, hy1⟩
  · refine lQ.ifT rfl (decide_eq_true hc) ?_
    refine lQ.push rfl ?_
    obtain rfl := Option.some.inj hy1
    exact lQ.sub (lSb rfl (lSb rfl lSb0)) hJ1
  · refine lQ.ifF rfl (decide_eq_false hc) ?_
    refine lQ.loadI rfl rfl ?_
    refine lQ.loadN rfl rfl ?_
    refine lQ.get hR rfl (tf_0_4 hn) ?_
    refine lQ.get hR rfl (tf_2_1 hn) ?_
    rcases iteC hy1 with ⟨hc, hy1⟩ | ⟨hc, hy1⟩
    · refine lQ.cmpT rfl (decide_eq_true hc) ?_
      refine lQ.push rfl ?_
      obtain rfl := Option.some.inj hy1
      exact lQ.sub (lSb rfl (lSb rfl lSb0)) hJ1
    · refine lQ.cmpF rfl (decide_eq_false hc) ?_
      refine lQ.push rfl ?_
      refine lQ.goto rfl ?_
      obtain rfl := Option.some.inj hy1
      exact lQ.sub (lSb rfl (lSb rfl lSb0)) hJ1
theorem ts_735 {R : lAR} (hR : lRok R) {E : lE} {ad : List Nat} (hn : tOk ad) {v0 : Int32} {s : TS} {A0 : lMem} {x : Int32} (h : t_735 v0 s = some x) {Z : lZ} (hz : Z (.inl (some (.int x))) (tp ad s A0)) : lSQ R E 1 735 [.int v0] (tp ad s A0) Z := by
  refine lQ.sq pg_735 (Nat.le_of_ble_eq_true rfl) rfl ?_
  unfold t_735 at h
  refine lQ.loadI rfl rfl ?_
  refine lQ.push rfl ?_
  rcases iteC h with ⟨hc, h⟩ | ⟨hc, h⟩
  · refine lQ.cmpF rfl (decide_eq_false (Int32.not_le.mpr hc)) ?_
    refine lQ.loadI rfl rfl ?_
    refine lQ.push rfl ?_
    rcases iteC h with ⟨hc, h⟩ | ⟨hc, h⟩
    · refine lQ.cmpF rfl (decide_eq_false (Int32.not_le.mpr hc)) ?_
      refine lQ.push rfl ?_
      refine lQ.goto rfl ?_
      obtain rfl := Option.some.inj h
      exact lQ.retI rfl rfl hz
    · refine lQ.cmpT rfl (decide_eq_true (Int32.not_lt.mp hc)) ?_
      refine lQ.push rfl ?_
      obtain rfl := Option.some.inj h
      exact lQ.retI rfl rfl hz
  · refine lQ.cmpT rfl (decide_eq_true (Int32.not_lt.mp hc)) ?_
    refine lQ.push rfl ?_
    obtain rfl := Option.some.inj h
    exact lQ.retI rfl rfl hz
theorem ts_736 {R : lAR} (hR : lRok R) {E : lE} {ad : List Nat} (hn : tOk ad) {v1 : Int32} {s : TS} {A0 : lMem} {x : Int32} (h : t_736 v1 s = some x) {Z : lZ} (hz : Z (.inl (some (.int x))) (tp ad s A0)) : lSQ R E 1 736 [.ref (adr ad 2), .int v1] (tp ad s A0) Z := by
  refine lQ.sq pg_736 (Nat.le_of_ble_eq_true rfl) rfl ?_
  unfold t_736 at h
  refine lQ.loadI rfl rfl ?_
  refine lQ.loadN rfl rfl ?_
  refine lQ.get hR rfl (tf_2_1 hn) ?_
  rcases iteC h with ⟨hc, h⟩ | ⟨hc, h⟩
  · refine lQ.cmpF rfl (decide_eq_false (Int32.not_le.mpr hc)) ?_
    refine lQ.loadN rfl rfl ?_
    refine lQ.get hR rfl (tf_2_0 hn) ?_
    refine lQ.loadI rfl rfl ?_
    obtain ⟨x1, hx, h⟩ := bindC h
    refine lQ.ald hR rfl (ta_76 hn hx) ?_
    refine lQ.goto rfl ?_
    obtain rfl := Option.some.inj h
    exact lQ.retI rfl rfl hz
  · refine lQ.cmpT rfl (decide_eq_true (Int32.not_lt.mp hc)) ?_
    refine lQ.push rfl ?_
    obtain rfl := Option.some.inj h
    exact lQ.retI rfl rfl hz
theorem ts_737 {R : lAR} (hR : lRok R) {E : lE} {ad : List Nat} (hn : tOk ad) {v0 : Int32} {s : TS} {A0 : lMem} {x : Int32} (h : t_737 v0 s = some x) {Z : lZ} (hz : Z (.inl (some (.int x))) (tp ad s A0)) : lSQ R E 1 737 [.int v0] (tp ad s A0) Z := by
  refine lQ.sq pg_737 (Nat.le_of_ble_eq_true rfl) rfl ?_
  unfold t_737 at h
  refine lQ.loadI rfl rfl ?_
  refine lQ.push rfl ?_
  rcases iteC h with ⟨hc, h⟩ | ⟨hc, h⟩
  · refine lQ.cmpF rfl (decide_eq_false (Int32.not_le.mpr hc)) ?_
    refine lQ.loadI rfl rfl ?_
    refine lQ.push rfl ?_
    rcases iteC h with ⟨hc, h⟩ | ⟨hc, h⟩
    · refine lQ.cmpF rfl (decide_eq_false (Int32.not_le.mpr hc)) ?_
      refine lQ.push rfl ?_
      refine lQ.goto rfl ?_
      obtain rfl := Option.some.inj h
      exact lQ.retI rfl rfl hz
    · refine lQ.cmpT rfl (decide_eq_true (Int32.not_lt.mp hc)) ?_
      refine lQ.push rfl ?_
      obtain rfl := Option.some.inj h
      exact lQ.retI rfl rfl hz
  · refine lQ.cmpT rfl (decide_eq_true (Int32.not_lt.mp hc)) ?_
    refine lQ.push rfl ?_
    obtain rfl := Option.some.inj h
    exact lQ.retI rfl rfl hz
theorem ts_738 {R : lAR} (hR : lRok R) {E : lE} {ad : List Nat} (hn : tOk ad) {v0 : Int32} {s : TS} {A0 : lMem} {x : Int32} (h : t_738 v0 s = some x) {Z : lZ} (hz : Z (.inl (some (.int x))) (tp ad s A0)) : lSQ R E 1 738 [.int v0] (tp ad s A0) Z := by
  refine lQ.sq pg_738 (Nat.le_of_ble_eq_true rfl) rfl ?_
  unfold t_738 at h
  refine lQ.loadI rfl rfl ?_
  refine lQ.push rfl ?_
  rcases iteC h with ⟨hc, h⟩ | ⟨hc, h⟩
  · refine lQ.cmpT rfl (decide_eq_true hc) ?_
    refine lQ.push rfl ?_
    refine lQ.goto rfl ?_
    obtain rfl := Option.some.inj h
    exact lQ.retI rfl rfl hz
  · refine lQ.cmpF rfl (decide_eq_false hc) ?_
    refine lQ.loadI rfl rfl ?_
    refine lQ.push rfl ?_
    rcases iteC h with ⟨hc, h⟩ | ⟨hc, h⟩
    · refine lQ.cmpT rfl (decide_eq_true hc) ?_
      refine lQ.push rfl ?_
      refine lQ.goto rfl ?_
      obtain rfl := Option.some.inj h
      exact lQ.retI rfl rfl hz
    · refine lQ.cmpF rfl (decide_eq_false hc) ?_
      refine lQ.loadI rfl rfl ?_
      refine lQ.push rfl ?_
      rcases iteC h with ⟨hc, h⟩ | ⟨hc, h⟩
      · refine lQ.cmpT rfl (decide_eq_true hc) ?_
        refine lQ.push rfl ?_
        refine lQ.goto rfl ?_
        obtain rfl := Option.some.inj h
        exact lQ.retI rfl rfl hz
      · refine lQ.cmpF rfl (decide_eq_false hc) ?_
        refine lQ.loadI rfl rfl ?_
        refine lQ.push rfl ?_
        rcases iteC h with ⟨hc, h⟩ | ⟨hc, h⟩
        · refine lQ.cmpT rfl (decide_eq_true hc) ?_
          refine lQ.push rfl ?_
          refine lQ.goto rfl ?_
          obtain rfl := Option.some.inj h
          exact lQ.retI rfl rfl hz
        · refine lQ.cmpF rfl (decide_eq_false hc) ?_
          refine lQ.loadI rfl rfl ?_
          refine lQ.push rfl ?_
          rcases iteC h with ⟨hc, h⟩ | ⟨hc, h⟩
          · refine lQ.cmpT rfl (decide_eq_true hc) ?_
            refine lQ.push rfl ?_
            refine lQ.goto rfl ?_
            obtain rfl := Option.some.inj h
            exact lQ.retI rfl rfl hz
          · refine lQ.cmpF rfl (decide_eq_false hc) ?_
            refine lQ.loadI rfl rfl ?_
            refine lQ.push rfl ?_
            rcases iteC h with ⟨hc, h⟩ | ⟨hc, h⟩
            · refine lQ.cmpT rfl (decide_eq_true hc) ?_
              refine lQ.push rfl ?_
              refine lQ.goto rfl ?_
              obtain rfl := Option.some.inj h
              exact lQ.retI rfl rfl hz
            · refine lQ.cmpF rfl (decide_eq_false hc) ?_
              refine lQ.loadI rfl rfl ?_
              refine lQ.push rfl ?_
              rcases iteC h with ⟨hc, h⟩ | ⟨hc, h⟩
              · refine lQ.cmpT rfl (decide_eq_true hc) ?_
                refine lQ.push rfl ?_
                refine lQ.goto rfl ?_
                obtain rfl := Option.some.inj h
                exact lQ.retI rfl rfl hz
              · refine lQ.cmpF rfl (decide_eq_false hc) ?_
                refine lQ.loadI rfl rfl ?_
                refine lQ.push rfl ?_
                rcases iteC h with ⟨hc, h⟩ | ⟨hc, h⟩
                · refine lQ.cmpT rfl (decide_eq_true hc) ?_
                  refine lQ.push rfl ?_
                  refine lQ.goto rfl ?_
                  obtain rfl := Option.some.inj h
                  exact lQ.retI rfl rfl hz
                · refine lQ.cmpF rfl (decide_eq_false hc) ?_
                  refine lQ.loadI rfl rfl ?_
                  refine lQ.push rfl ?_
                  rcases iteC h with ⟨hc, h⟩ | ⟨hc, h⟩
                  · refine lQ.cmpT rfl (decide_eq_true hc) ?_
                    refine lQ.push rfl ?_
                    refine lQ.goto rfl ?_
                    obtain rfl := Option.some.inj h
                    exact lQ.retI rfl rfl hz
                  · refine lQ.cmpF rfl (decide_eq_false hc) ?_
                    refine lQ.loadI rfl rfl ?_
                    refine lQ.push rfl ?_
                    rcases iteC h with ⟨hc, h⟩ | ⟨hc, h⟩
                    · refine lQ.cmpT rfl (decide_eq_true hc) ?_
                      refine lQ.push rfl ?_
                      refine lQ.goto rfl ?_
                      obtain rfl := Option.some.inj h
                      exact lQ.retI rfl rfl hz
                    · refine lQ.cmpF rfl (decide_eq_false hc) ?_
                      refine lQ.loadI rfl rfl ?_
                      refine lQ.push rfl ?_
                      rcases iteC h with ⟨hc, h⟩ | ⟨hc, h⟩
                      · refine lQ.cmpT rfl (decide_eq_true hc) ?_
                        refine lQ.push rfl ?_
                        refine lQ.goto rfl ?_
                        obtain rfl := Option.some.inj h
                        exact lQ.retI rfl rfl hz
                      · refine lQ.cmpF rfl (decide_eq_false hc) ?_
                        refine lQ.loadI rfl rfl ?_
                        refine lQ.push rfl ?_
                        rcases iteC h with ⟨hc, h⟩ | ⟨hc, h⟩
                        · refine lQ.cmpT rfl (decide_eq_true hc) ?_
                          refine lQ.push rfl ?_
                          refine lQ.goto rfl ?_
                          obtain rfl := Option.some.inj h
                          exact lQ.retI rfl rfl hz
                        · refine lQ.cmpF rfl (decide_eq_false hc) ?_
                          refine lQ.loadI rfl rfl ?_
                          refine lQ.push rfl ?_
                          rcases iteC h with ⟨hc, h⟩ | ⟨hc, h⟩
                          · refine lQ.cmpF rfl (decide_eq_false (fun z => z hc)) ?_
                            refine lQ.push rfl ?_
                            refine lQ.goto rfl ?_
                            obtain rfl := Option.some.inj h
                            exact lQ.retI rfl rfl hz
                          · refine lQ.cmpT rfl (decide_eq_true hc) ?_
                            refine lQ.push rfl ?_
                            obtain rfl := Option.some.inj h
                            exact lQ.retI rfl rfl hz
theorem ts_734 {R : lAR} (hR : lRok R) {E : lE} {ad : List Nat} (hn : tOk ad) {s : TS} {A0 : lMem} {x : TS} (h : t_734 s = some x) {Z : lZ} (hz : Z (.inl none) (tp ad x A0)) : lSQ R E 2 734 [.ref (adr ad 2)] (tp ad s A0) Z := by
  refine lQ.sq pg_734 (Nat.le_of_ble_eq_true rfl) rfl ?_
  unfold t_734 at h
  obtain ⟨v19, hy1, h1⟩ := bindC h
  have hJ1 : lQ R E 1 cd_734 19 [(0, .ref (adr ad 2))] [] (tp ad v19 A0) Z := by
    refine lQ.loadN rfl rfl ?_
    refine lQ.loadN rfl rfl ?_
    refine lQ.get hR rfl (tf_2_27 hn) ?_
    obtain ⟨s3, hx, h1⟩ := bindC h1
    refine lQ.put hR rfl rfl (tq_2_26 hn hx) ?_
    rintro _ rfl
    refine lQ.loadN rfl rfl ?_
    refine lQ.push rfl ?_
    obtain ⟨s4, hx, h1⟩ := bindC h1
    refine lQ.put hR rfl rfl (tq_2_28 hn hx) ?_
    rintro _ rfl
    refine lQ.loadN rfl rfl ?_
    refine lQ.push rfl ?_
    obtain ⟨s5, hx, h1⟩ := bindC h1
    refine lQ.put hR rfl rfl (tq_2_29 hn hx) ?_
    rintro _ rfl
    refine lQ.loadN rfl rfl ?_
    refine lQ.get hR rfl (tf_2_26 hn) ?_
    refine lQ.loadN rfl rfl ?_
    refine lQ.get hR rfl (tf_2_1 hn) ?_
    rcases iteC h1 with ⟨hc, h1⟩ | ⟨hc, h1⟩
    · refine lQ.cmpF rfl (decide_eq_false (fun z => z hc)) ?_
      obtain rfl := Option.some.inj h1
      exact lQ.retV rfl hz
    · refine lQ.cmpT rfl (decide_eq_true hc) ?_
      refine lQ.loadN rfl rfl ?_
      refine lQ.get hR rfl (tf_2_0 hn) ?_
      refine lQ.loadN rfl rfl ?_
      refine lQ.get hR rfl (tf_2_26 hn) ?_
      obtain ⟨x6, hx, h1⟩ := bindC h1
      refine lQ.ald hR rfl (ta_76 hn hx) ?_
      refine lQ.stI rfl (lN2s rfl rfl) ?_
      refine lQ.loadN rfl rfl ?_
      refine lQ.dupN rfl ?_
      refine lQ.get hR rfl (tf_2_30 hn) ?_
      refine lQ.push rfl ?_
      refine lQ.binI rfl ?_
      obtain ⟨s7, hx, h1⟩ := bindC h1
      refine lQ.put hR rfl rfl (tq_2_30 hn hx) ?_
      rintro _ rfl
      refine lQ.loadI rfl rfl ?_
      obtain ⟨x8, hx, h1⟩ := bindC h1
      refine lQ.callI (F := (fun y A => x8 = y ∧ A = tp ad s7 A0)) (G := fun _ _ => False) (args := [.int x6]) (r := []) hR rfl rfl rfl (Nat.le_of_ble_eq_true rfl) (Nat.le_of_ble_eq_true rfl) (ts_735 hR hn hx (cI_mk ⟨rfl, rfl⟩)) ?_ (fun _ _ _ z => z.elim)
      rintro _ _ ⟨rfl, rfl⟩
      obtain ⟨v192, hy2, h2⟩ := bindC h1
      have hJ2 : lQ R E 1 cd_734 192 [(0, .ref (adr ad 2))] [] (tp ad v192 A0) Z := by
        refine lQ.loadN rfl rfl ?_
        refine lQ.loadN rfl rfl ?_
        refine lQ.get hR rfl (tf_2_31 hn) ?_
        obtain ⟨v203, hy3, h3⟩ := bindC h2
        have hJ3 : lQ R E 1 cd_734 203 [] [.int v203, .ref (adr ad 2)] (tp ad v192 A0) Z := by
          rcases iteC h3 with ⟨hg, h3⟩ | ⟨_, h3⟩
          case inr => cases h3
          obtain ⟨s29, hx, h3⟩ := bindC h3
          refine lQ.put hR rfl (fitB hg) (tq_2_31 hn hx) ?_
          rintro _ rfl
          obtain rfl := Option.some.inj h3
          exact lQ.retV rfl hz
        rcases iteC hy3 with ⟨hc, hy3⟩ | ⟨hc, hy3⟩
        · refine lQ.ifF rfl (decide_eq_false (fun z => z hc)) ?_
          refine lQ.loadN rfl rfl ?_
          refine lQ.get hR rfl (tf_2_30 hn) ?_
          refine lQ.push rfl ?_
          rcases iteC hy3 with ⟨hc, hy3⟩ | ⟨hc, hy3⟩
          · refine lQ.cmpF rfl (decide_eq_false (Int32.not_le.mpr hc)) ?_
            refine lQ.push rfl ?_
            refine lQ.goto rfl ?_
            obtain rfl := Option.some.inj hy3
            exact lQ.sub lSb0 hJ3
          · refine lQ.cmpT rfl (decide_eq_true (Int32.not_lt.mp hc)) ?_
            refine lQ.push rfl ?_
            obtain rfl := Option.some.inj hy3
            exact lQ.sub lSb0 hJ3
        · refine lQ.ifT rfl (decide_eq_true hc) ?_
          refine lQ.push rfl ?_
          refine lQ.goto rfl ?_
          obtain rfl := Option.some.inj hy3
          exact lQ.sub lSb0 hJ3
      rcases iteC hy2 with ⟨hc, hy2⟩ | ⟨hc, hy2⟩
      · refine lQ.ifT rfl (decide_eq_true hc) ?_
        refine lQ.loadI rfl rfl ?_
        obtain ⟨x9, hx, hy2⟩ := bindC hy2
        refine lQ.callI (F := (fun y A => x9 = y ∧ A = tp ad s7 A0)) (G := fun _ _ => False) (args := [.int x6]) (r := []) hR rfl rfl rfl (Nat.le_of_ble_eq_true rfl) (Nat.le_of_ble_eq_true rfl) (ts_737 hR hn hx (cI_mk ⟨rfl, rfl⟩)) ?_ (fun _ _ _ z => z.elim)
        rintro _ _ ⟨rfl, rfl⟩
        rcases iteC hy2 with ⟨hc, hy2⟩ | ⟨hc, hy2⟩
        · refine lQ.ifT rfl (decide_eq_true hc) ?_
          refine lQ.loadI rfl rfl ?_
          refine lQ.push rfl ?_
          obtain ⟨v164, hy4, h4⟩ := bindC hy2
          have hJ4 : lQ R E 1 cd_734 164 [(0, .ref (adr ad 2)), (1, .int x6)] [.int v164] (tp ad s7 A0) Z := by
            refine lQ.stI rfl (lN2s rfl rfl) ?_
            refine lQ.loadN rfl rfl ?_
            refine lQ.loadI rfl rfl ?_
            obtain ⟨v173, hy5, h5⟩ := bindC h4
            have hJ5 : lQ R E 1 cd_734 173 [(0, .ref (adr ad 2)), (1, .int x6), (2, .int v164)] [.int v173, .ref (adr ad 2)] (tp ad s7 A0) Z := by
              obtain ⟨s11, hx, h5⟩ := bindC h5
              refine lQ.put hR rfl rfl (tq_2_28 hn hx) ?_
              rintro _ rfl
              refine lQ.loadN rfl rfl ?_
              refine lQ.dupN rfl ?_
              refine lQ.get hR rfl (tf_2_27 hn) ?_
              refine lQ.loadI rfl rfl ?_
              obtain ⟨v182, hy6, h6⟩ := bindC h5
              have hJ6 : lQ R E 1 cd_734 182 [(0, .ref (adr ad 2)), (1, .int x6)] [.int v182, .int (s11.1 227), .ref (adr ad 2)] (tp ad s11 A0) Z := by
                refine lQ.binI rfl ?_
                obtain ⟨s12, hx, h6⟩ := bindC h6
                refine lQ.put hR rfl rfl (tq_2_27 hn hx) ?_
                rintro _ rfl
                refine lQ.loadN rfl rfl ?_
                refine lQ.loadI rfl rfl ?_
                obtain ⟨x13, hx, h6⟩ := bindC h6
                refine lQ.callI (F := (fun y A => x13 = y ∧ A = tp ad s12 A0)) (G := fun _ _ => False) (args := [.int x6]) (r := [.ref (adr ad 2)]) hR rfl rfl rfl (Nat.le_of_ble_eq_true rfl) (Nat.le_of_ble_eq_true rfl) (ts_738 hR hn hx (cI_mk ⟨rfl, rfl⟩)) ?_ (fun _ _ _ z => z.elim)
                rintro _ _ ⟨rfl, rfl⟩
                obtain ⟨v191, hy7, h7⟩ := bindC h6
                have hJ7 : lQ R E 1 cd_734 191 [(0, .ref (adr ad 2))] [.int v191, .ref (adr ad 2)] (tp ad s12 A0) Z := by
                  rcases iteC h7 with ⟨hg, h7⟩ | ⟨_, h7⟩
                  case inr => cases h7
                  obtain ⟨s14, hx, h7⟩ := bindC h7
                  refine lQ.put hR rfl (fitB hg) (tq_2_31 hn hx) ?_
                  rintro _ rfl
                  obtain rfl := Option.some.inj h7
                  exact lQ.sub (lSb rfl lSb0) hJ2
                rcases iteC hy7 with ⟨hc, hy7⟩ | ⟨hc, hy7⟩
                · refine lQ.ifF rfl (decide_eq_false (fun z => z hc)) ?_
                  refine lQ.push rfl ?_
                  refine lQ.goto rfl ?_
                  obtain rfl := Option.some.inj hy7
                  exact lQ.sub (lSb rfl lSb0) hJ7
                · refine lQ.ifT rfl (decide_eq_true hc) ?_
                  refine lQ.push rfl ?_
                  obtain rfl := Option.some.inj hy7
                  exact lQ.sub (lSb rfl lSb0) hJ7
              rcases iteC hy6 with ⟨hc, hy6⟩ | ⟨hc, hy6⟩
              · refine lQ.ifT rfl (decide_eq_true hc) ?_
                refine lQ.push rfl ?_
                obtain rfl := Option.some.inj hy6
                exact lQ.sub (lSb rfl (lSb rfl lSb0)) hJ6
              · refine lQ.ifF rfl (decide_eq_false hc) ?_
                refine lQ.push rfl ?_
                refine lQ.goto rfl ?_
                obtain rfl := Option.some.inj hy6
                exact lQ.sub (lSb rfl (lSb rfl lSb0)) hJ6
            rcases iteC hy5 with ⟨hc, hy5⟩ | ⟨hc, hy5⟩
            · refine lQ.ifT rfl (decide_eq_true hc) ?_
              refine lQ.loadI rfl rfl ?_
              obtain rfl := Option.some.inj hy5
              exact lQ.sub (lSb rfl (lSb rfl (lSb rfl lSb0))) hJ5
            · refine lQ.ifF rfl (decide_eq_false hc) ?_
              refine lQ.loadI rfl rfl ?_
              refine lQ.push rfl ?_
              refine lQ.binI rfl ?_
              refine lQ.goto rfl ?_
              obtain rfl := Option.some.inj hy5
              exact lQ.sub (lSb rfl (lSb rfl (lSb rfl lSb0))) hJ5
          obtain ⟨y8, hy8, h8⟩ := bindC hy4
          have hJ8 : ∀ v153, y8 = .inl v153 → lQ R E 1 cd_734 153 [(0, .ref (adr ad 2)), (1, .int x6)] [] (tp ad s7 A0) Z := by
            rintro v153 rfl
            have h8 := elimC h8
            refine lQ.loadN rfl rfl ?_
            refine lQ.loadN rfl rfl ?_
            refine lQ.get hR rfl (tf_2_26 hn) ?_
            refine lQ.push rfl ?_
            refine lQ.binI rfl ?_
            obtain ⟨x10, hx, h8⟩ := bindC h8
            refine lQ.callVI (F := (fun y A => x10 = y ∧ A = tp ad s7 A0)) (G := fun _ _ => False) (args := [.ref (adr ad 2), .int ((s7.1 226) + 1)]) (r := []) hR rfl rfl rfl (Nat.le_of_ble_eq_true rfl) (Nat.le_of_ble_eq_true rfl) rfl (tk_2 hn rfl) (ts_736 hR hn hx (cI_mk ⟨rfl, rfl⟩)) ?_ (fun _ _ _ z => z.elim)
            rintro _ _ ⟨rfl, rfl⟩
            refine lQ.push rfl ?_
            rcases iteC h8 with ⟨hc, h8⟩ | ⟨hc, h8⟩
            · refine lQ.cmpF rfl (decide_eq_false (fun z => z hc)) ?_
              refine lQ.push rfl ?_
              refine lQ.goto rfl ?_
              obtain rfl := Option.some.inj h8
              exact lQ.sub (lSb rfl (lSb rfl lSb0)) hJ4
            · refine lQ.cmpT rfl (decide_eq_true hc) ?_
              refine lQ.push rfl ?_
              obtain rfl := Option.some.inj h8
              exact lQ.sub (lSb rfl (lSb rfl lSb0)) hJ4
          rcases iteC hy8 with ⟨hc, hy8⟩ | ⟨hc, hy8⟩
          · refine lQ.cmpT rfl (decide_eq_true hc) ?_
            obtain rfl := Option.some.inj hy8
            exact lQ.sub (lSb rfl (lSb rfl lSb0)) (hJ8 _ rfl)
          · refine lQ.cmpF rfl (decide_eq_false hc) ?_
            refine lQ.loadI rfl rfl ?_
            refine lQ.push rfl ?_
            rcases iteC hy8 with ⟨hc, hy8⟩ | ⟨hc, hy8⟩
            · refine lQ.cmpF rfl (decide_eq_false (fun z => z hc)) ?_
              obtain rfl := Option.some.inj hy8
              exact lQ.sub (lSb rfl (lSb rfl lSb0)) (hJ8 _ rfl)
            · refine lQ.cmpT rfl (decide_eq_true hc) ?_
              refine lQ.push rfl ?_
              obtain rfl := Option.some.inj hy8
              obtain rfl := elimD h8
              exact lQ.sub (lSb rfl (lSb rfl lSb0)) hJ4
        · refine lQ.ifF rfl (decide_eq_false hc) ?_
          refine lQ.loadN rfl rfl ?_
          refine lQ.push rfl ?_
          obtain ⟨s15, hx, hy2⟩ := bindC hy2
          refine lQ.put hR rfl rfl (tq_2_28 hn hx) ?_
          rintro _ rfl
          obtain ⟨v134, hy9, h9⟩ := bindC hy2
          have hJ9 : lQ R E 1 cd_734 134 [(0, .ref (adr ad 2))] [] (tp ad v134 A0) Z := by
            refine lQ.loadN rfl rfl ?_
            refine lQ.loadN rfl rfl ?_
            refine lQ.get hR rfl (tf_2_27 hn) ?_
            refine lQ.loadN rfl rfl ?_
            refine lQ.get hR rfl (tf_2_26 hn) ?_
            refine lQ.binI rfl ?_
            refine lQ.push rfl ?_
            obtain ⟨v145, hy10, h10⟩ := bindC h9
            have hJ10 : lQ R E 1 cd_734 145 [(0, .ref (adr ad 2))] [.int v145, .ref (adr ad 2)] (tp ad v134 A0) Z := by
              rcases iteC h10 with ⟨hg, h10⟩ | ⟨_, h10⟩
              case inr => cases h10
              obtain ⟨s21, hx, h10⟩ := bindC h10
              refine lQ.put hR rfl (fitB hg) (tq_2_31 hn hx) ?_
              rintro _ rfl
              refine lQ.goto rfl ?_
              obtain rfl := Option.some.inj h10
              exact lQ.sub (lSb rfl lSb0) hJ2
            rcases iteC hy10 with ⟨hc, hy10⟩ | ⟨hc, hy10⟩
            · refine lQ.cmpF rfl (decide_eq_false (Int32.not_le.mpr hc)) ?_
              refine lQ.push rfl ?_
              refine lQ.goto rfl ?_
              obtain rfl := Option.some.inj hy10
              exact lQ.sub (lSb rfl lSb0) hJ10
            · refine lQ.cmpT rfl (decide_eq_true (Int32.not_lt.mp hc)) ?_
              refine lQ.push rfl ?_
              obtain rfl := Option.some.inj hy10
              exact lQ.sub (lSb rfl lSb0) hJ10
          refine lQ.sub (lSb rfl lSb0) (wh_run (P := fun p109 => lQ R E 1 cd_734 109 [(0, .ref (adr ad 2))] [] (tp ad p109 A0) Z) hy9 ?_)
          intro p109 r11 hb11 hI11 hX11
          refine lQ.loadN rfl rfl ?_
          refine lQ.loadN rfl rfl ?_
          refine lQ.get hR rfl (tf_2_27 hn) ?_
          obtain ⟨x16, hx, hb11⟩ := bindC hb11
          refine lQ.callVI (F := (fun y A => x16 = y ∧ A = tp ad p109 A0)) (G := fun _ _ => False) (args := [.ref (adr ad 2), .int (p109.1 227)]) (r := []) hR rfl rfl rfl (Nat.le_of_ble_eq_true rfl) (Nat.le_of_ble_eq_true rfl) rfl (tk_2 hn rfl) (ts_736 hR hn hx (cI_mk ⟨rfl, rfl⟩)) ?_ (fun _ _ _ z => z.elim)
          rintro _ _ ⟨rfl, rfl⟩
          obtain ⟨x17, hx, hb11⟩ := bindC hb11
          refine lQ.callI (F := (fun y A => x17 = y ∧ A = tp ad p109 A0)) (G := fun _ _ => False) (args := [.int x16]) (r := []) hR rfl rfl rfl (Nat.le_of_ble_eq_true rfl) (Nat.le_of_ble_eq_true rfl) (ts_737 hR hn hx (cI_mk ⟨rfl, rfl⟩)) ?_ (fun _ _ _ z => z.elim)
          rintro _ _ ⟨rfl, rfl⟩
          rcases iteC hb11 with ⟨hc, hb11⟩ | ⟨hc, hb11⟩
          · refine lQ.ifT rfl (decide_eq_true hc) ?_
            obtain rfl := Option.some.inj hb11
            obtain rfl := hX11 _ rfl
            exact lQ.sub (lSb rfl lSb0) hJ9
          · refine lQ.ifF rfl (decide_eq_false hc) ?_
            refine lQ.loadN rfl rfl ?_
            refine lQ.loadN rfl rfl ?_
            refine lQ.get hR rfl (tf_2_29 hn) ?_
            refine lQ.push rfl ?_
            refine lQ.shL rfl ?_
            refine lQ.loadN rfl rfl ?_
            refine lQ.loadN rfl rfl ?_
            refine lQ.get hR rfl (tf_2_27 hn) ?_
            obtain ⟨x18, hx, hb11⟩ := bindC hb11
            refine lQ.callVI (F := (fun y A => x18 = y ∧ A = tp ad p109 A0)) (G := fun _ _ => False) (args := [.ref (adr ad 2), .int (p109.1 227)]) (r := [.long ((p109.2.1 229) <<< ((8 : Int32).toInt64 &&& 63)), .ref (adr ad 2)]) hR rfl rfl rfl (Nat.le_of_ble_eq_true rfl) (Nat.le_of_ble_eq_true rfl) rfl (tk_2 hn rfl) (ts_736 hR hn hx (cI_mk ⟨rfl, rfl⟩)) ?_ (fun _ _ _ z => z.elim)
            rintro _ _ ⟨rfl, rfl⟩
            refine lQ.i2l rfl ?_
            refine lQ.binL rfl ?_
            obtain ⟨s19, hx, hb11⟩ := bindC hb11
            refine lQ.put hR rfl rfl (tq_2_29 hn hx) ?_
            rintro _ rfl
            refine lQ.loadN rfl rfl ?_
            refine lQ.dupN rfl ?_
            refine lQ.get hR rfl (tf_2_27 hn) ?_
            refine lQ.push rfl ?_
            refine lQ.binI rfl ?_
            obtain ⟨s20, hx, hb11⟩ := bindC hb11
            refine lQ.put hR rfl rfl (tq_2_27 hn hx) ?_
            rintro _ rfl
            refine lQ.goto rfl ?_
            obtain rfl := Option.some.inj hb11
            exact lQ.sub (lSb rfl lSb0) (hI11 _ rfl)
      · refine lQ.ifF rfl (decide_eq_false hc) ?_
        refine lQ.loadN rfl rfl ?_
        refine lQ.push rfl ?_
        obtain ⟨s22, hx, hy2⟩ := bindC hy2
        refine lQ.put hR rfl rfl (tq_2_28 hn hx) ?_
        rintro _ rfl
        obtain ⟨v90, hy12, h12⟩ := bindC hy2
        have hJ12 : lQ R E 1 cd_734 90 [(0, .ref (adr ad 2))] [] (tp ad v90 A0) Z := by
          refine lQ.loadN rfl rfl ?_
          refine lQ.loadN rfl rfl ?_
          refine lQ.get hR rfl (tf_2_27 hn) ?_
          refine lQ.loadN rfl rfl ?_
          refine lQ.get hR rfl (tf_2_26 hn) ?_
          refine lQ.binI rfl ?_
          refine lQ.push rfl ?_
          obtain ⟨v101, hy13, h13⟩ := bindC h12
          have hJ13 : lQ R E 1 cd_734 101 [(0, .ref (adr ad 2))] [.int v101, .ref (adr ad 2)] (tp ad v90 A0) Z := by
            rcases iteC h13 with ⟨hg, h13⟩ | ⟨_, h13⟩
            case inr => cases h13
            obtain ⟨s28, hx, h13⟩ := bindC h13
            refine lQ.put hR rfl (fitB hg) (tq_2_31 hn hx) ?_
            rintro _ rfl
            refine lQ.goto rfl ?_
            obtain rfl := Option.some.inj h13
            exact lQ.sub (lSb rfl lSb0) hJ2
          rcases iteC hy13 with ⟨hc, hy13⟩ | ⟨hc, hy13⟩
          · refine lQ.cmpF rfl (decide_eq_false (Int32.not_le.mpr hc)) ?_
            refine lQ.push rfl ?_
            refine lQ.goto rfl ?_
            obtain rfl := Option.some.inj hy13
            exact lQ.sub (lSb rfl lSb0) hJ13
          · refine lQ.cmpT rfl (decide_eq_true (Int32.not_lt.mp hc)) ?_
            refine lQ.push rfl ?_
            obtain rfl := Option.some.inj hy13
            exact lQ.sub (lSb rfl lSb0) hJ13
        refine lQ.sub (lSb rfl lSb0) (wh_run (P := fun p53 => lQ R E 1 cd_734 53 [(0, .ref (adr ad 2))] [] (tp ad p53 A0) Z) hy12 ?_)
        intro p53 r14 hb14 hI14 hX14
        refine lQ.loadN rfl rfl ?_
        refine lQ.loadN rfl rfl ?_
        refine lQ.get hR rfl (tf_2_27 hn) ?_
        obtain ⟨x23, hx, hb14⟩ := bindC hb14
        refine lQ.callVI (F := (fun y A => x23 = y ∧ A = tp ad p53 A0)) (G := fun _ _ => False) (args := [.ref (adr ad 2), .int (p53.1 227)]) (r := []) hR rfl rfl rfl (Nat.le_of_ble_eq_true rfl) (Nat.le_of_ble_eq_true rfl) rfl (tk_2 hn rfl) (ts_736 hR hn hx (cI_mk ⟨rfl, rfl⟩)) ?_ (fun _ _ _ z => z.elim)
        rintro _ _ ⟨rfl, rfl⟩
        obtain ⟨x24, hx, hb14⟩ := bindC hb14
        refine lQ.callI (F := (fun y A => x24 = y ∧ A = tp ad p53 A0)) (G := fun _ _ => False) (args := [.int x23]) (r := []) hR rfl rfl rfl (Nat.le_of_ble_eq_true rfl) (Nat.le_of_ble_eq_true rfl) (ts_735 hR hn hx (cI_mk ⟨rfl, rfl⟩)) ?_ (fun _ _ _ z => z.elim)
        rintro _ _ ⟨rfl, rfl⟩
        rcases iteC hb14 with ⟨hc, hb14⟩ | ⟨hc, hb14⟩
        · refine lQ.ifT rfl (decide_eq_true hc) ?_
          obtain rfl := Option.some.inj hb14
          obtain rfl := hX14 _ rfl
          exact lQ.sub (lSb rfl lSb0) hJ12
        · refine lQ.ifF rfl (decide_eq_false hc) ?_
          refine lQ.loadN rfl rfl ?_
          refine lQ.loadN rfl rfl ?_
          refine lQ.get hR rfl (tf_2_27 hn) ?_
          refine lQ.loadN rfl rfl ?_
          refine lQ.get hR rfl (tf_2_26 hn) ?_
          refine lQ.binI rfl ?_
          refine lQ.push rfl ?_
          obtain ⟨v82, hy15, h15⟩ := bindC hb14
          have hJ15 : lQ R E 1 cd_734 82 [(0, .ref (adr ad 2))] [.long v82, .ref (adr ad 2)] (tp ad p53 A0) Z := by
            obtain ⟨s26, hx, h15⟩ := bindC h15
            refine lQ.put hR rfl rfl (tq_2_29 hn hx) ?_
            rintro _ rfl
            refine lQ.loadN rfl rfl ?_
            refine lQ.dupN rfl ?_
            refine lQ.get hR rfl (tf_2_27 hn) ?_
            refine lQ.push rfl ?_
            refine lQ.binI rfl ?_
            obtain ⟨s27, hx, h15⟩ := bindC h15
            refine lQ.put hR rfl rfl (tq_2_27 hn hx) ?_
            rintro _ rfl
            refine lQ.goto rfl ?_
            obtain rfl := Option.some.inj h15
            exact lQ.sub (lSb rfl lSb0) (hI14 _ rfl)
          rcases iteC hy15 with ⟨hc, hy15⟩ | ⟨hc, hy15⟩
          · refine lQ.cmpF rfl (decide_eq_false (Int32.not_le.mpr hc)) ?_
            refine lQ.push rfl ?_
            refine lQ.loadN rfl rfl ?_
            refine lQ.get hR rfl (tf_2_29 hn) ?_
            refine lQ.binL rfl ?_
            refine lQ.loadN rfl rfl ?_
            refine lQ.loadN rfl rfl ?_
            refine lQ.get hR rfl (tf_2_27 hn) ?_
            obtain ⟨x25, hx, hy15⟩ := bindC hy15
            refine lQ.callVI (F := (fun y A => x25 = y ∧ A = tp ad p53 A0)) (G := fun _ _ => False) (args := [.ref (adr ad 2), .int (p53.1 227)]) (r := [.long (10 * (p53.2.1 229)), .ref (adr ad 2)]) hR rfl rfl rfl (Nat.le_of_ble_eq_true rfl) (Nat.le_of_ble_eq_true rfl) rfl (tk_2 hn rfl) (ts_736 hR hn hx (cI_mk ⟨rfl, rfl⟩)) ?_ (fun _ _ _ z => z.elim)
            rintro _ _ ⟨rfl, rfl⟩
            refine lQ.i2l rfl ?_
            refine lQ.binL rfl ?_
            refine lQ.push rfl ?_
            refine lQ.binL rfl ?_
            refine lQ.goto rfl ?_
            obtain rfl := Option.some.inj hy15
            exact lQ.sub (lSb rfl lSb0) hJ15
          · refine lQ.cmpT rfl (decide_eq_true (Int32.not_lt.mp hc)) ?_
            refine lQ.loadN rfl rfl ?_
            refine lQ.get hR rfl (tf_2_29 hn) ?_
            obtain rfl := Option.some.inj hy15
            exact lQ.sub (lSb rfl lSb0) hJ15
  refine lQ.sub (lSb rfl lSb0) (wh_run (P := fun p0 => lQ R E 1 cd_734 0 [(0, .ref (adr ad 2))] [] (tp ad p0 A0) Z) hy1 ?_)
  intro p0 r16 hb16 hI16 hX16
  refine lQ.loadN rfl rfl ?_
  refine lQ.get hR rfl (tf_2_27 hn) ?_
  refine lQ.loadN rfl rfl ?_
  refine lQ.get hR rfl (tf_2_1 hn) ?_
  rcases iteC hb16 with ⟨hc, hb16⟩ | ⟨hc, hb16⟩
  · refine lQ.cmpF rfl (decide_eq_false (Int32.not_le.mpr hc)) ?_
    refine lQ.loadN rfl rfl ?_
    refine lQ.get hR rfl (tf_2_0 hn) ?_
    refine lQ.loadN rfl rfl ?_
    refine lQ.get hR rfl (tf_2_27 hn) ?_
    obtain ⟨x1, hx, hb16⟩ := bindC hb16
    refine lQ.ald hR rfl (ta_76 hn hx) ?_
    refine lQ.push rfl ?_
    rcases iteC hb16 with ⟨hc, hb16⟩ | ⟨hc, hb16⟩
    · refine lQ.cmpF rfl (decide_eq_false (fun z => z hc)) ?_
      refine lQ.loadN rfl rfl ?_
      refine lQ.dupN rfl ?_
      refine lQ.get hR rfl (tf_2_27 hn) ?_
      refine lQ.push rfl ?_
      refine lQ.binI rfl ?_
      obtain ⟨s2, hx, hb16⟩ := bindC hb16
      refine lQ.put hR rfl rfl (tq_2_27 hn hx) ?_
      rintro _ rfl
      refine lQ.goto rfl ?_
      obtain rfl := Option.some.inj hb16
      exact lQ.sub (lSb rfl lSb0) (hI16 _ rfl)
    · refine lQ.cmpT rfl (decide_eq_true hc) ?_
      obtain rfl := Option.some.inj hb16
      obtain rfl := hX16 _ rfl
      exact lQ.sub (lSb rfl lSb0) hJ1
  · refine lQ.cmpT rfl (decide_eq_true (Int32.not_lt.mp hc)) ?_
    obtain rfl := Option.some.inj hb16
    obtain rfl := hX16 _ rfl
    exact lQ.sub (lSb rfl lSb0) hJ1
theorem ts_740 {R : lAR} (hR : lRok R) {E : lE} {ad : List Nat} (hn : tOk ad) {v1 : Int64} {s : TS} {A0 : lMem} {x : Int32} (h : t_740 v1 s = some x) {Z : lZ} (hz : Z (.inl (some (.int x))) (tp ad s A0)) : lSQ R E 1 740 [.ref (adr ad 2), .long v1] (tp ad s A0) Z := by
  refine lQ.sq pg_740 (Nat.le_of_ble_eq_true rfl) rfl ?_
  unfold t_740 at h
  refine lQ.push rfl ?_
  refine lQ.stI rfl (lN2n rfl) ?_
  refine lQ.push rfl ?_
  refine lQ.stI rfl (lN2s rfl rfl) ?_
  obtain ⟨v25, hy1, h1⟩ := bindC h
  have hJ1 : lQ R E 0 cd_740 25 [(3, .int v25)] [] (tp ad s A0) Z := by
    refine lQ.loadI rfl rfl ?_
    rcases iteC h1 with ⟨hg, h1⟩ | ⟨_, h1⟩
    case inr => cases h1
    have hb := hg
    obtain rfl := Option.some.inj h1
    exact lQ.retI rfl (fitB hb) hz
  refine lQ.sub (lSb rfl (lSb rfl (lSb rfl (lSb rfl lSb0)))) (wh_run (P := fun p4 => lQ R E 0 cd_740 4 [(0, .ref (adr ad 2)), (1, .long v1), (3, .int p4.1), (4, .int p4.2)] [] (tp ad s A0) Z) hy1 ?_)
  intro p4 r2 hb2 hI2 hX2
  refine lQ.loadI rfl rfl ?_
  refine lQ.loadN rfl rfl ?_
  refine lQ.get hR rfl (tf_2_32 hn) ?_
  rcases iteC hb2 with ⟨hc, hb2⟩ | ⟨hc, hb2⟩
  · refine lQ.cmpF rfl (decide_eq_false (Int32.not_le.mpr hc)) ?_
    refine lQ.loadI rfl rfl ?_
    obtain ⟨v22, hy3, h3⟩ := bindC hb2
    have hJ3 : lQ R E 0 cd_740 22 [(0, .ref (adr ad 2)), (1, .long v1), (4, .int p4.2)] [.int v22] (tp ad s A0) Z := by
      refine lQ.stI rfl (lN2n rfl) ?_
      refine lQ.inc rfl rfl (lN2s rfl rfl) ?_
      refine lQ.goto rfl ?_
      obtain rfl := Option.some.inj h3
      exact lQ.sub (lSb rfl (lSb rfl (lSb rfl (lSb rfl lSb0)))) (hI2 _ rfl)
    rcases iteC hy3 with ⟨hc, hy3⟩ | ⟨hc, hy3⟩
    · refine lQ.ifT rfl (decide_eq_true hc) ?_
      refine lQ.push rfl ?_
      obtain rfl := Option.some.inj hy3
      exact lQ.sub (lSb rfl (lSb rfl (lSb rfl lSb0))) hJ3
    · refine lQ.ifF rfl (decide_eq_false hc) ?_
      refine lQ.loadN rfl rfl ?_
      refine lQ.get hR rfl (tf_2_6 hn) ?_
      refine lQ.push rfl ?_
      refine lQ.loadI rfl rfl ?_
      refine lQ.binI rfl ?_
      obtain ⟨x1, hx, hy3⟩ := bindC hy3
      refine lQ.ald hR rfl (ta_79 hn hx) ?_
      refine lQ.loadL rfl rfl ?_
      refine lQ.lcmp rfl ?_
      rcases iteC hy3 with ⟨hc, hy3⟩ | ⟨hc, hy3⟩
      · refine lQ.ifT rfl (decide_eq_true hc) ?_
        refine lQ.push rfl ?_
        obtain rfl := Option.some.inj hy3
        exact lQ.sub (lSb rfl (lSb rfl (lSb rfl lSb0))) hJ3
      · refine lQ.ifF rfl (decide_eq_false hc) ?_
        refine lQ.push rfl ?_
        refine lQ.goto rfl ?_
        obtain rfl := Option.some.inj hy3
        exact lQ.sub (lSb rfl (lSb rfl (lSb rfl lSb0))) hJ3
  · refine lQ.cmpT rfl (decide_eq_true (Int32.not_lt.mp hc)) ?_
    obtain rfl := Option.some.inj hb2
    obtain rfl := hX2 _ rfl
    exact lQ.sub (lSb rfl lSb0) hJ1
theorem ts_741 {R : lAR} (hR : lRok R) {E : lE} {ad : List Nat} (hn : tOk ad) {v1 : Int32} {s : TS} {A0 : lMem} {x : TS} (h : t_741 v1 s = some x) {Z : lZ} (hz : Z (.inl none) (tp ad x A0)) : lSQ R E 3 741 [.ref (adr ad 2), .int v1] (tp ad s A0) Z := by
  refine lQ.sq pg_741 (Nat.le_of_ble_eq_true rfl) rfl ?_
  unfold t_741 at h
  refine lQ.loadN rfl rfl ?_
  refine lQ.loadN rfl rfl ?_
  refine lQ.get hR rfl (tf_2_31 hn) ?_
  obtain ⟨v9, hy1, h1⟩ := bindC h
  have hJ1 : lQ R E 2 cd_741 9 [(0, .ref (adr ad 2))] [.int v9, .ref (adr ad 2)] (tp ad s A0) Z := by
    rcases iteC h1 with ⟨hg, h1⟩ | ⟨_, h1⟩
    case inr => cases h1
    obtain ⟨s1, hx, h1⟩ := bindC h1
    refine lQ.put hR rfl (fitB hg) (tq_2_31 hn hx) ?_
    rintro _ rfl
    refine lQ.loadN rfl rfl ?_
    refine lQ.get hR rfl (tf_2_31 hn) ?_
    rcases iteC h1 with ⟨hc, h1⟩ | ⟨hc, h1⟩
    · refine lQ.ifF rfl (decide_eq_false (fun z => z hc)) ?_
      refine lQ.loadN rfl rfl ?_
      obtain ⟨x2, hx, h1⟩ := bindC h1
      refine lQ.callVV (F := (fun A => A = tp ad x2 A0)) (G := fun _ _ => False) (args := [.ref (adr ad 2)]) (r := []) hR rfl rfl rfl (Nat.le_of_ble_eq_true rfl) (Nat.le_of_ble_eq_true rfl) rfl (tk_2 hn rfl) (ts_734 hR hn hx (cV_mk rfl)) ?_ (fun _ _ _ z => z.elim)
      rintro _ rfl
      obtain rfl := Option.some.inj h1
      exact lQ.retV rfl hz
    · refine lQ.ifT rfl (decide_eq_true hc) ?_
      obtain rfl := Option.some.inj h1
      exact lQ.retV rfl hz
  rcases iteC hy1 with ⟨hc, hy1⟩ | ⟨hc, hy1⟩
  · refine lQ.ifF rfl (decide_eq_false (fun z => z hc)) ?_
    refine lQ.loadI rfl rfl ?_
    rcases iteC hy1 with ⟨hc, hy1⟩ | ⟨hc, hy1⟩
    · refine lQ.ifF rfl (decide_eq_false (fun z => z hc)) ?_
      refine lQ.push rfl ?_
      refine lQ.goto rfl ?_
      obtain rfl := Option.some.inj hy1
      exact lQ.sub (lSb rfl lSb0) hJ1
    · refine lQ.ifT rfl (decide_eq_true hc) ?_
      refine lQ.push rfl ?_
      obtain rfl := Option.some.inj hy1
      exact lQ.sub (lSb rfl lSb0) hJ1
  · refine lQ.ifT rfl (decide_eq_true hc) ?_
    refine lQ.push rfl ?_
    refine lQ.goto rfl ?_
    obtain rfl := Option.some.inj hy1
    exact lQ.sub (lSb rfl lSb0) hJ1
theorem ts_744 {R : lAR} (hR : lRok R) {E : lE} {ad : List Nat} (hn : tOk ad) {v0 : Int32} {s : TS} {A0 : lMem} {x : Int32} (h : t_744 v0 s = some x) {Z : lZ} (hz : Z (.inl (some (.int x))) (tp ad s A0)) : lSQ R E 1 744 [.int v0] (tp ad s A0) Z := by
  refine lQ.sq pg_744 (Nat.le_of_ble_eq_true rfl) rfl ?_
  unfold t_744 at h
  refine lQ.loadI rfl rfl ?_
  refine lQ.push rfl ?_
  rcases iteC h with ⟨hc, h⟩ | ⟨hc, h⟩
  · refine lQ.cmpF rfl (decide_eq_false (fun z => z hc)) ?_
    refine lQ.push rfl ?_
    refine lQ.goto rfl ?_
    obtain rfl := Option.some.inj h
    exact lQ.retI rfl rfl hz
  · refine lQ.cmpT rfl (decide_eq_true hc) ?_
    refine lQ.loadI rfl rfl ?_
    refine lQ.push rfl ?_
    rcases iteC h with ⟨hc, h⟩ | ⟨hc, h⟩
    · refine lQ.cmpF rfl (decide_eq_false (fun z => z hc)) ?_
      refine lQ.push rfl ?_
      refine lQ.goto rfl ?_
      obtain rfl := Option.some.inj h
      exact lQ.retI rfl rfl hz
    · refine lQ.cmpT rfl (decide_eq_true hc) ?_
      refine lQ.loadI rfl rfl ?_
      refine lQ.push rfl ?_
      rcases iteC h with ⟨hc, h⟩ | ⟨hc, h⟩
      · refine lQ.cmpF rfl (decide_eq_false (fun z => z hc)) ?_
        refine lQ.push rfl ?_
        refine lQ.goto rfl ?_
        obtain rfl := Option.some.inj h
        exact lQ.retI rfl rfl hz
      · refine lQ.cmpT rfl (decide_eq_true hc) ?_
        refine lQ.loadI rfl rfl ?_
        refine lQ.push rfl ?_
        rcases iteC h with ⟨hc, h⟩ | ⟨hc, h⟩
        · refine lQ.cmpF rfl (decide_eq_false (fun z => z hc)) ?_
          refine lQ.push rfl ?_
          refine lQ.goto rfl ?_
          obtain rfl := Option.some.inj h
          exact lQ.retI rfl rfl hz
        · refine lQ.cmpT rfl (decide_eq_true hc) ?_
          refine lQ.push rfl ?_
          obtain rfl := Option.some.inj h
          exact lQ.retI rfl rfl hz
theorem ts_745 {R : lAR} (hR : lRok R) {E : lE} {ad : List Nat} (hn : tOk ad) {v1 : Int32} {v2 : Int64} {s : TS} {A0 : lMem} {x : TS} (h : t_745 v1 v2 s = some x) {Z : lZ} (hz : Z (.inl none) (tp ad x A0)) : lSQ R E 1 745 [.ref (adr ad 2), .int v1, .long v2] (tp ad s A0) Z := by
  refine lQ.sq pg_745 (Nat.le_of_ble_eq_true rfl) rfl ?_
  unfold t_745 at h
  refine lQ.loadN rfl rfl ?_
  refine lQ.get hR rfl (tf_2_16 hn) ?_
  refine lQ.push rfl ?_
  refine lQ.loadN rfl rfl ?_
  refine lQ.get hR rfl (tf_2_34 hn) ?_
  refine lQ.binI rfl ?_
  refine lQ.loadI rfl rfl ?_
  obtain ⟨s1, hx, h⟩ := bindC h
  refine lQ.ast hR rfl (tw_87 hn hx) ?_
  rintro _ rfl
  refine lQ.loadN rfl rfl ?_
  refine lQ.get hR rfl (tf_2_17 hn) ?_
  refine lQ.push rfl ?_
  refine lQ.loadN rfl rfl ?_
  refine lQ.get hR rfl (tf_2_34 hn) ?_
  refine lQ.binI rfl ?_
  refine lQ.loadL rfl rfl ?_
  obtain ⟨s2, hx, h⟩ := bindC h
  refine lQ.lst hR rfl (tw_88 hn hx) ?_
  rintro _ rfl
  refine lQ.loadN rfl rfl ?_
  refine lQ.dupN rfl ?_
  refine lQ.get hR rfl (tf_2_34 hn) ?_
  refine lQ.push rfl ?_
  refine lQ.binI rfl ?_
  obtain ⟨s3, hx, h⟩ := bindC h
  refine lQ.put hR rfl rfl (tq_2_34 hn hx) ?_
  rintro _ rfl
  obtain rfl := Option.some.inj h
  exact lQ.retV rfl hz
theorem ts_746 {R : lAR} (hR : lRok R) {E : lE} {ad : List Nat} (hn : tOk ad) {v1 : Int32} {s : TS} {A0 : lMem} {x : TS} (h : t_746 v1 s = some x) {Z : lZ} (hz : Z (.inl none) (tp ad x A0)) : lSQ R E 2 746 [.ref (adr ad 2), .int v1] (tp ad s A0) Z := by
  refine lQ.sq pg_746 (Nat.le_of_ble_eq_true rfl) rfl ?_
  unfold t_746 at h
  obtain ⟨v39, hy1, h1⟩ := bindC h
  have hJ1 : lQ R E 1 cd_746 39 [] [] (tp ad v39 A0) Z := by
    obtain rfl := Option.some.inj h1
    exact lQ.retV rfl hz
  refine lQ.sub (lSb rfl (lSb rfl lSb0)) (wh_run (P := fun p0 => lQ R E 1 cd_746 0 [(0, .ref (adr ad 2)), (1, .int v1)] [] (tp ad p0 A0) Z) hy1 ?_)
  intro p0 r2 hb2 hI2 hX2
  refine lQ.loadN rfl rfl ?_
  refine lQ.get hR rfl (tf_2_36 hn) ?_
  rcases iteC hb2 with ⟨hc, hb2⟩ | ⟨hc, hb2⟩
  · refine lQ.ifF rfl (decide_eq_false (Int32.not_le.mpr hc)) ?_
    refine lQ.loadN rfl rfl ?_
    refine lQ.get hR rfl (tf_2_35 hn) ?_
    refine lQ.loadN rfl rfl ?_
    refine lQ.get hR rfl (tf_2_36 hn) ?_
    refine lQ.push rfl ?_
    refine lQ.binI rfl ?_
    obtain ⟨x1, hx, hb2⟩ := bindC hb2
    refine lQ.ald hR rfl (ta_96 hn hx) ?_
    refine lQ.push rfl ?_
    rcases iteC hb2 with ⟨hc, hb2⟩ | ⟨hc, hb2⟩
    · refine lQ.cmpF rfl (decide_eq_false (Int32.not_le.mpr hc)) ?_
      refine lQ.loadN rfl rfl ?_
      refine lQ.get hR rfl (tf_2_35 hn) ?_
      refine lQ.loadN rfl rfl ?_
      refine lQ.get hR rfl (tf_2_36 hn) ?_
      refine lQ.push rfl ?_
      refine lQ.binI rfl ?_
      obtain ⟨x2, hx, hb2⟩ := bindC hb2
      refine lQ.ald hR rfl (ta_96 hn hx) ?_
      refine lQ.push rfl ?_
      obtain ⟨y3, hy3, h3⟩ := bindC hb2
      have hJ3 : ∀ v24, y3 = .inl v24 → lQ R E 1 cd_746 24 [(0, .ref (adr ad 2)), (1, .int v1)] [] (tp ad p0 A0) Z := by
        rintro v24 rfl
        have h3 := elimC h3
        refine lQ.loadN rfl rfl ?_
        refine lQ.dupN rfl ?_
        refine lQ.get hR rfl (tf_2_36 hn) ?_
        refine lQ.push rfl ?_
        refine lQ.binI rfl ?_
        obtain ⟨s3, hx, h3⟩ := bindC h3
        refine lQ.put hR rfl rfl (tq_2_36 hn hx) ?_
        rintro _ rfl
        refine lQ.loadN rfl rfl ?_
        refine lQ.loadN rfl rfl ?_
        refine lQ.get hR rfl (tf_2_35 hn) ?_
        refine lQ.loadN rfl rfl ?_
        refine lQ.get hR rfl (tf_2_36 hn) ?_
        obtain ⟨x4, hx, h3⟩ := bindC h3
        refine lQ.ald hR rfl (ta_96 hn hx) ?_
        refine lQ.push rfl ?_
        obtain ⟨x5, hx, h3⟩ := bindC h3
        refine lQ.callVV (F := (fun A => A = tp ad x5 A0)) (G := fun _ _ => False) (args := [.ref (adr ad 2), .int x4, .long 0]) (r := []) hR rfl rfl rfl (Nat.le_of_ble_eq_true rfl) (Nat.le_of_ble_eq_true rfl) rfl (tk_2 hn rfl) (ts_745 hR hn hx (cV_mk rfl)) ?_ (fun _ _ _ z => z.elim)
        rintro _ rfl
        refine lQ.goto rfl ?_
        obtain rfl := Option.some.inj h3
        exact lQ.sub (lSb rfl (lSb rfl lSb0)) (hI2 _ rfl)
      rcases iteC hy3 with ⟨hc, hy3⟩ | ⟨hc, hy3⟩
      · refine lQ.cmpT rfl (decide_eq_true hc) ?_
        obtain rfl := Option.some.inj hy3
        exact lQ.sub (lSb rfl (lSb rfl lSb0)) (hJ3 _ rfl)
      · refine lQ.cmpF rfl (decide_eq_false hc) ?_
        refine lQ.loadI rfl rfl ?_
        refine lQ.push rfl ?_
        rcases iteC hy3 with ⟨hc, hy3⟩ | ⟨hc, hy3⟩
        · refine lQ.cmpF rfl (decide_eq_false (Int32.not_le.mpr hc)) ?_
          obtain rfl := Option.some.inj hy3
          exact lQ.sub (lSb rfl (lSb rfl lSb0)) (hJ3 _ rfl)
        · refine lQ.cmpT rfl (decide_eq_true (Int32.not_lt.mp hc)) ?_
          obtain rfl := Option.some.inj hy3
          obtain rfl := elimD h3
          obtain rfl := hX2 _ rfl
          exact lQ.sub lSb0 hJ1
    · refine lQ.cmpT rfl (decide_eq_true (Int32.not_lt.mp hc)) ?_
      obtain rfl := Option.some.inj hb2
      obtain rfl := hX2 _ rfl
      exact lQ.sub lSb0 hJ1
  · refine lQ.ifT rfl (decide_eq_true (Int32.not_lt.mp hc)) ?_
    obtain rfl := Option.some.inj hb2
    obtain rfl := hX2 _ rfl
    exact lQ.sub lSb0 hJ1
theorem ts_743 {R : lAR} (hR : lRok R) {E : lE} {ad : List Nat} (hn : tOk ad) {s : TS} {A0 : lMem} {x : TS} (h : t_743 s = some x) {Z : lZ} (hz : Z (.inl none) (tp ad x A0)) : lSQ R E 4 743 [.ref (adr ad 2)] (tp ad s A0) Z := by
  refine lQ.sq pg_743 (Nat.le_of_ble_eq_true rfl) rfl ?_
  unfold t_743 at h
  refine lQ.push rfl ?_
  refine lQ.stI rfl (lN2s rfl rfl) ?_
  refine lQ.push rfl ?_
  refine lQ.stI rfl (lN2s rfl rfl) ?_
  refine lQ.push rfl ?_
  refine lQ.stI rfl (lN2s rfl rfl) ?_
  refine lQ.push rfl ?_
  refine lQ.stI rfl (lN2s rfl rfl) ?_
  refine lQ.loadN rfl rfl ?_
  refine lQ.push rfl ?_
  obtain ⟨s1, hx, h⟩ := bindC h
  refine lQ.put hR rfl rfl (tq_2_36 hn hx) ?_
  rintro _ rfl
  obtain ⟨v172, hy1, h1⟩ := bindC h
  have hJ1 : lQ R E 3 cd_743 172 [(0, .ref (adr ad 2))] [] (tp ad v172 A0) Z := by
    refine lQ.loadN rfl rfl ?_
    refine lQ.push rfl ?_
    obtain ⟨x21, hx, h1⟩ := bindC h1
    refine lQ.callVV (F := (fun A => A = tp ad x21 A0)) (G := fun _ _ => False) (args := [.ref (adr ad 2), .int 1]) (r := []) hR rfl rfl rfl (Nat.le_of_ble_eq_true rfl) (Nat.le_of_ble_eq_true rfl) rfl (tk_2 hn rfl) (ts_746 hR hn hx (cV_mk rfl)) ?_ (fun _ _ _ z => z.elim)
    rintro _ rfl
    obtain rfl := Option.some.inj h1
    exact lQ.retV rfl hz
  refine lQ.sub (lSb rfl (lSb rfl (lSb rfl (lSb rfl (lSb rfl lSb0))))) (wh_run (P := fun p11 => lQ R E 3 cd_743 11 [(0, .ref (adr ad 2)), (1, .int p11.2.1), (2, .int p11.2.2.1), (3, .int p11.2.2.2.1), (4, .int p11.2.2.2.2)] [] (tp ad p11.1 A0) Z) hy1 ?_)
  intro p11 r2 hb2 hI2 hX2
  refine lQ.loadI rfl rfl ?_
  rcases iteC hb2 with ⟨hc, hb2⟩ | ⟨hc, hb2⟩
  · refine lQ.ifT rfl (decide_eq_true hc) ?_
    obtain rfl := Option.some.inj hb2
    obtain rfl := hX2 _ rfl
    exact lQ.sub (lSb rfl lSb0) hJ1
  · refine lQ.ifF rfl (decide_eq_false hc) ?_
    refine lQ.loadN rfl rfl ?_
    refine lQ.get hR rfl (tf_2_31 hn) ?_
    rcases iteC hb2 with ⟨hc, hb2⟩ | ⟨hc, hb2⟩
    · refine lQ.ifF rfl (decide_eq_false (fun z => z hc)) ?_
      refine lQ.loadN rfl rfl ?_
      refine lQ.get hR rfl (tf_2_28 hn) ?_
      obtain ⟨x2, hx, hb2⟩ := bindC hb2
      refine lQ.callI (F := (fun y A => x2 = y ∧ A = tp ad p11.1 A0)) (G := fun _ _ => False) (args := [.int (p11.1.1 228)]) (r := []) hR rfl rfl rfl (Nat.le_of_ble_eq_true rfl) (Nat.le_of_ble_eq_true rfl) (ts_744 hR hn hx (cI_mk ⟨rfl, rfl⟩)) ?_ (fun _ _ _ z => z.elim)
      rintro _ _ ⟨rfl, rfl⟩
      refine lQ.stI rfl (lN2s rfl rfl) ?_
      refine lQ.loadI rfl rfl ?_
      obtain ⟨v171, hy3, h3⟩ := bindC hb2
      have hJ3 : lQ R E 3 cd_743 171 [(0, .ref (adr ad 2)), (1, .int v171.2.1), (2, .int v171.2.2.1), (3, .int v171.2.2.2.1), (4, .int v171.2.2.2.2)] [] (tp ad v171.1 A0) Z := by
        refine lQ.goto rfl ?_
        obtain rfl := Option.some.inj h3
        exact lQ.sub (lSb rfl (lSb rfl (lSb rfl (lSb rfl (lSb rfl lSb0))))) (hI2 _ rfl)
      obtain ⟨y4, hy4, h4⟩ := bindC hy3
      have hJ4 : ∀ v50, y4 = .inl v50 → lQ R E 3 cd_743 50 [(0, .ref (adr ad 2)), (1, .int p11.2.1), (2, .int p11.2.2.1), (3, .int p11.2.2.2.1), (4, .int p11.2.2.2.2), (5, .int x2)] [] (tp ad p11.1 A0) Z := by
        rintro v50 rfl
        have h4 := elimC h4
        refine lQ.loadI rfl rfl ?_
        obtain ⟨y5, hy5, h5⟩ := bindC h4
        have hJ5 : ∀ v83, y5 = .inl v83 → lQ R E 3 cd_743 83 [(0, .ref (adr ad 2)), (1, .int p11.2.1), (2, .int p11.2.2.1), (3, .int p11.2.2.2.1), (4, .int p11.2.2.2.2), (5, .int x2)] [] (tp ad p11.1 A0) Z := by
          rintro v83 rfl
          have h5 := elimC h5
          refine lQ.loadI rfl rfl ?_
          rcases iteC h5 with ⟨hc, h5⟩ | ⟨hc, h5⟩
          · refine lQ.ifT rfl (decide_eq_true hc) ?_
            refine lQ.loadI rfl rfl ?_
            rcases iteC h5 with ⟨hc, h5⟩ | ⟨hc, h5⟩
            · refine lQ.ifF rfl (decide_eq_false (Int32.not_le.mpr hc)) ?_
              refine lQ.loadN rfl rfl ?_
              refine lQ.loadI rfl rfl ?_
              refine lQ.push rfl ?_
              obtain ⟨v121, hy6, h6⟩ := bindC h5
              have hJ6 : lQ R E 3 cd_743 121 [(0, .ref (adr ad 2)), (1, .int p11.2.1), (4, .int p11.2.2.2.2), (5, .int x2)] [.int v121, .ref (adr ad 2)] (tp ad p11.1 A0) Z := by
                obtain ⟨x15, hx, h6⟩ := bindC h6
                refine lQ.callVV (F := (fun A => A = tp ad x15 A0)) (G := fun _ _ => False) (args := [.ref (adr ad 2), .int v121]) (r := []) hR rfl rfl rfl (Nat.le_of_ble_eq_true rfl) (Nat.le_of_ble_eq_true rfl) rfl (tk_2 hn rfl) (ts_746 hR hn hx (cV_mk rfl)) ?_ (fun _ _ _ z => z.elim)
                rintro _ rfl
                refine lQ.loadN rfl rfl ?_
                refine lQ.get hR rfl (tf_2_35 hn) ?_
                refine lQ.loadN rfl rfl ?_
                refine lQ.get hR rfl (tf_2_36 hn) ?_
                refine lQ.loadI rfl rfl ?_
                obtain ⟨s16, hx, h6⟩ := bindC h6
                refine lQ.ast hR rfl (tw_96 hn hx) ?_
                rintro _ rfl
                refine lQ.loadN rfl rfl ?_
                refine lQ.dupN rfl ?_
                refine lQ.get hR rfl (tf_2_36 hn) ?_
                refine lQ.push rfl ?_
                refine lQ.binI rfl ?_
                obtain ⟨s17, hx, h6⟩ := bindC h6
                refine lQ.put hR rfl rfl (tq_2_36 hn hx) ?_
                rintro _ rfl
                refine lQ.push rfl ?_
                refine lQ.stI rfl (lN2n rfl) ?_
                refine lQ.push rfl ?_
                refine lQ.stI rfl (lN2s rfl rfl) ?_
                refine lQ.loadN rfl rfl ?_
                refine lQ.push rfl ?_
                obtain ⟨x18, hx, h6⟩ := bindC h6
                refine lQ.callVV (F := (fun A => A = tp ad x18 A0)) (G := fun _ _ => False) (args := [.ref (adr ad 2), .int 1]) (r := []) hR rfl rfl rfl (Nat.le_of_ble_eq_true rfl) (Nat.le_of_ble_eq_true rfl) rfl (tk_2 hn rfl) (ts_741 hR hn hx (cV_mk rfl)) ?_ (fun _ _ _ z => z.elim)
                rintro _ rfl
                refine lQ.goto rfl ?_
                obtain rfl := Option.some.inj h6
                exact lQ.sub (lSb rfl (lSb rfl (lSb rfl (lSb rfl (lSb rfl lSb0))))) hJ3
              rcases iteC hy6 with ⟨hc, hy6⟩ | ⟨hc, hy6⟩
              · refine lQ.cmpF rfl (decide_eq_false (Int32.not_le.mpr hc)) ?_
                refine lQ.push rfl ?_
                refine lQ.goto rfl ?_
                obtain rfl := Option.some.inj hy6
                exact lQ.sub (lSb rfl (lSb rfl (lSb rfl (lSb rfl lSb0)))) hJ6
              · refine lQ.cmpT rfl (decide_eq_true (Int32.not_lt.mp hc)) ?_
                refine lQ.push rfl ?_
                obtain rfl := Option.some.inj hy6
                exact lQ.sub (lSb rfl (lSb rfl (lSb rfl (lSb rfl lSb0)))) hJ6
            · refine lQ.ifT rfl (decide_eq_true (Int32.not_lt.mp hc)) ?_
              refine lQ.loadN rfl rfl ?_
              refine lQ.get hR rfl (tf_2_28 hn) ?_
              refine lQ.push rfl ?_
              obtain ⟨y7, hy7, h7⟩ := bindC h5
              have hJ7 : ∀ v162, y7 = .inl v162 → lQ R E 3 cd_743 162 [(0, .ref (adr ad 2)), (1, .int p11.2.1), (2, .int p11.2.2.1), (3, .int p11.2.2.2.1)] [] (tp ad p11.1 A0) Z := by
                rintro v162 rfl
                have h7 := elimC h7
                refine lQ.loadN rfl rfl ?_
                refine lQ.loadI rfl rfl ?_
                obtain ⟨v168, hy8, h8⟩ := bindC h7
                have hJ8 : lQ R E 3 cd_743 168 [(0, .ref (adr ad 2)), (1, .int p11.2.1), (2, .int p11.2.2.1), (3, .int p11.2.2.2.1)] [.int v168, .ref (adr ad 2)] (tp ad p11.1 A0) Z := by
                  rcases iteC h8 with ⟨hg, h8⟩ | ⟨_, h8⟩
                  case inr => cases h8
                  obtain ⟨s14, hx, h8⟩ := bindC h8
                  refine lQ.put hR rfl (fitB hg) (tq_2_31 hn hx) ?_
                  rintro _ rfl
                  refine lQ.push rfl ?_
                  refine lQ.stI rfl (lN2s rfl rfl) ?_
                  obtain rfl := Option.some.inj h8
                  exact lQ.sub (lSb rfl (lSb rfl (lSb rfl (lSb rfl (lSb rfl lSb0))))) hJ3
                rcases iteC hy8 with ⟨hc, hy8⟩ | ⟨hc, hy8⟩
                · refine lQ.ifF rfl (decide_eq_false (Int32.not_le.mpr hc)) ?_
                  refine lQ.push rfl ?_
                  refine lQ.goto rfl ?_
                  obtain rfl := Option.some.inj hy8
                  exact lQ.sub (lSb rfl (lSb rfl (lSb rfl (lSb rfl lSb0)))) hJ8
                · refine lQ.ifT rfl (decide_eq_true (Int32.not_lt.mp hc)) ?_
                  refine lQ.push rfl ?_
                  obtain rfl := Option.some.inj hy8
                  exact lQ.sub (lSb rfl (lSb rfl (lSb rfl (lSb rfl lSb0)))) hJ8
              rcases iteC hy7 with ⟨hc, hy7⟩ | ⟨hc, hy7⟩
              · refine lQ.cmpF rfl (decide_eq_false (fun z => z hc)) ?_
                refine lQ.loadI rfl rfl ?_
                rcases iteC hy7 with ⟨hc, hy7⟩ | ⟨hc, hy7⟩
                · refine lQ.ifF rfl (decide_eq_false (Int32.not_le.mpr hc)) ?_
                  refine lQ.loadN rfl rfl ?_
                  refine lQ.push rfl ?_
                  obtain ⟨x11, hx, hy7⟩ := bindC hy7
                  refine lQ.callVV (F := (fun A => A = tp ad x11 A0)) (G := fun _ _ => False) (args := [.ref (adr ad 2), .int 1]) (r := []) hR rfl rfl rfl (Nat.le_of_ble_eq_true rfl) (Nat.le_of_ble_eq_true rfl) rfl (tk_2 hn rfl) (ts_746 hR hn hx (cV_mk rfl)) ?_ (fun _ _ _ z => z.elim)
                  rintro _ rfl
                  refine lQ.loadN rfl rfl ?_
                  refine lQ.dupN rfl ?_
                  refine lQ.get hR rfl (tf_2_36 hn) ?_
                  refine lQ.push rfl ?_
                  refine lQ.binI rfl ?_
                  obtain ⟨s12, hx, hy7⟩ := bindC hy7
                  refine lQ.put hR rfl rfl (tq_2_36 hn hx) ?_
                  rintro _ rfl
                  refine lQ.dec rfl rfl (Int32.sub_eq_add_neg p11.2.1 1).symm (lN2s rfl rfl) ?_
                  refine lQ.loadN rfl rfl ?_
                  refine lQ.push rfl ?_
                  obtain ⟨x13, hx, hy7⟩ := bindC hy7
                  refine lQ.callVV (F := (fun A => A = tp ad x13 A0)) (G := fun _ _ => False) (args := [.ref (adr ad 2), .int 1]) (r := []) hR rfl rfl rfl (Nat.le_of_ble_eq_true rfl) (Nat.le_of_ble_eq_true rfl) rfl (tk_2 hn rfl) (ts_741 hR hn hx (cV_mk rfl)) ?_ (fun _ _ _ z => z.elim)
                  rintro _ rfl
                  refine lQ.goto rfl ?_
                  obtain rfl := Option.some.inj hy7
                  obtain rfl := elimD h7
                  exact lQ.sub (lSb rfl (lSb rfl (lSb rfl (lSb rfl (lSb rfl lSb0))))) hJ3
                · refine lQ.ifT rfl (decide_eq_true (Int32.not_lt.mp hc)) ?_
                  obtain rfl := Option.some.inj hy7
                  exact lQ.sub (lSb rfl (lSb rfl (lSb rfl (lSb rfl lSb0)))) (hJ7 _ rfl)
              · refine lQ.cmpT rfl (decide_eq_true hc) ?_
                obtain rfl := Option.some.inj hy7
                exact lQ.sub (lSb rfl (lSb rfl (lSb rfl (lSb rfl lSb0)))) (hJ7 _ rfl)
          · refine lQ.ifF rfl (decide_eq_false hc) ?_
            refine lQ.loadN rfl rfl ?_
            refine lQ.loadN rfl rfl ?_
            refine lQ.get hR rfl (tf_2_28 hn) ?_
            refine lQ.push rfl ?_
            obtain ⟨v93, hy9, h9⟩ := bindC h5
            have hJ9 : lQ R E 3 cd_743 93 [(0, .ref (adr ad 2)), (1, .int p11.2.1), (2, .int p11.2.2.1), (4, .int p11.2.2.2.2)] [.int v93, .ref (adr ad 2)] (tp ad p11.1 A0) Z := by
              refine lQ.loadN rfl rfl ?_
              refine lQ.get hR rfl (tf_2_29 hn) ?_
              obtain ⟨x19, hx, h9⟩ := bindC h9
              refine lQ.callVV (F := (fun A => A = tp ad x19 A0)) (G := fun _ _ => False) (args := [.ref (adr ad 2), .int v93, .long (p11.1.2.1 229)]) (r := []) hR rfl rfl rfl (Nat.le_of_ble_eq_true rfl) (Nat.le_of_ble_eq_true rfl) rfl (tk_2 hn rfl) (ts_745 hR hn hx (cV_mk rfl)) ?_ (fun _ _ _ z => z.elim)
              rintro _ rfl
              refine lQ.push rfl ?_
              refine lQ.stI rfl (lN2s rfl rfl) ?_
              refine lQ.loadN rfl rfl ?_
              refine lQ.loadN rfl rfl ?_
              refine lQ.get hR rfl (tf_2_28 hn) ?_
              refine lQ.push rfl ?_
              obtain ⟨v110, hy10, h10⟩ := bindC h9
              have hJ10 : lQ R E 3 cd_743 110 [(0, .ref (adr ad 2)), (1, .int p11.2.1), (2, .int p11.2.2.1), (3, .int 0), (4, .int p11.2.2.2.2)] [.int v110, .ref (adr ad 2)] (tp ad x19 A0) Z := by
                obtain ⟨x20, hx, h10⟩ := bindC h10
                refine lQ.callVV (F := (fun A => A = tp ad x20 A0)) (G := fun _ _ => False) (args := [.ref (adr ad 2), .int v110]) (r := []) hR rfl rfl rfl (Nat.le_of_ble_eq_true rfl) (Nat.le_of_ble_eq_true rfl) rfl (tk_2 hn rfl) (ts_741 hR hn hx (cV_mk rfl)) ?_ (fun _ _ _ z => z.elim)
                rintro _ rfl
                refine lQ.goto rfl ?_
                obtain rfl := Option.some.inj h10
                exact lQ.sub (lSb rfl (lSb rfl (lSb rfl (lSb rfl (lSb rfl lSb0))))) hJ3
              rcases iteC hy10 with ⟨hc, hy10⟩ | ⟨hc, hy10⟩
              · refine lQ.cmpT rfl (decide_eq_true hc) ?_
                refine lQ.push rfl ?_
                refine lQ.goto rfl ?_
                obtain rfl := Option.some.inj hy10
                exact lQ.sub (lSb rfl (lSb rfl (lSb rfl (lSb rfl (lSb rfl lSb0))))) hJ10
              · refine lQ.cmpF rfl (decide_eq_false hc) ?_
                refine lQ.loadN rfl rfl ?_
                refine lQ.get hR rfl (tf_2_28 hn) ?_
                refine lQ.push rfl ?_
                rcases iteC hy10 with ⟨hc, hy10⟩ | ⟨hc, hy10⟩
                · refine lQ.cmpF rfl (decide_eq_false (fun z => z hc)) ?_
                  refine lQ.push rfl ?_
                  refine lQ.goto rfl ?_
                  obtain rfl := Option.some.inj hy10
                  exact lQ.sub (lSb rfl (lSb rfl (lSb rfl (lSb rfl (lSb rfl lSb0))))) hJ10
                · refine lQ.cmpT rfl (decide_eq_true hc) ?_
                  refine lQ.push rfl ?_
                  obtain rfl := Option.some.inj hy10
                  exact lQ.sub (lSb rfl (lSb rfl (lSb rfl (lSb rfl (lSb rfl lSb0))))) hJ10
            rcases iteC hy9 with ⟨hc, hy9⟩ | ⟨hc, hy9⟩
            · refine lQ.cmpF rfl (decide_eq_false (fun z => z hc)) ?_
              refine lQ.push rfl ?_
              refine lQ.goto rfl ?_
              obtain rfl := Option.some.inj hy9
              exact lQ.sub (lSb rfl (lSb rfl (lSb rfl (lSb rfl lSb0)))) hJ9
            · refine lQ.cmpT rfl (decide_eq_true hc) ?_
              refine lQ.push rfl ?_
              obtain rfl := Option.some.inj hy9
              exact lQ.sub (lSb rfl (lSb rfl (lSb rfl (lSb rfl lSb0)))) hJ9
        rcases iteC hy5 with ⟨hc, hy5⟩ | ⟨hc, hy5⟩
        · refine lQ.ifT rfl (decide_eq_true hc) ?_
          obtain rfl := Option.some.inj hy5
          exact lQ.sub (lSb rfl (lSb rfl (lSb rfl (lSb rfl (lSb rfl (lSb rfl lSb0)))))) (hJ5 _ rfl)
        · refine lQ.ifF rfl (decide_eq_false hc) ?_
          refine lQ.loadN rfl rfl ?_
          refine lQ.get hR rfl (tf_2_28 hn) ?_
          refine lQ.push rfl ?_
          rcases iteC hy5 with ⟨hc, hy5⟩ | ⟨hc, hy5⟩
          · refine lQ.cmpF rfl (decide_eq_false (fun z => z hc)) ?_
            refine lQ.loadN rfl rfl ?_
            refine lQ.loadI rfl rfl ?_
            refine lQ.push rfl ?_
            obtain ⟨v63, hy11, h11⟩ := bindC hy5
            have hJ11 : lQ R E 3 cd_743 63 [(0, .ref (adr ad 2)), (1, .int p11.2.1), (3, .int p11.2.2.2.1), (4, .int p11.2.2.2.2)] [.int v63, .ref (adr ad 2)] (tp ad p11.1 A0) Z := by
              rcases iteC h11 with ⟨hg, h11⟩ | ⟨_, h11⟩
              case inr => cases h11
              obtain ⟨s7, hx, h11⟩ := bindC h11
              refine lQ.put hR rfl (fitB hg) (tq_2_31 hn hx) ?_
              rintro _ rfl
              refine lQ.inc rfl rfl (lN2s rfl rfl) ?_
              refine lQ.loadN rfl rfl ?_
              refine lQ.get hR rfl (tf_2_35 hn) ?_
              refine lQ.loadN rfl rfl ?_
              refine lQ.get hR rfl (tf_2_36 hn) ?_
              refine lQ.push rfl ?_
              obtain ⟨s8, hx, h11⟩ := bindC h11
              refine lQ.ast hR rfl (tw_96 hn hx) ?_
              rintro _ rfl
              refine lQ.loadN rfl rfl ?_
              refine lQ.dupN rfl ?_
              refine lQ.get hR rfl (tf_2_36 hn) ?_
              refine lQ.push rfl ?_
              refine lQ.binI rfl ?_
              obtain ⟨s9, hx, h11⟩ := bindC h11
              refine lQ.put hR rfl rfl (tq_2_36 hn hx) ?_
              rintro _ rfl
              refine lQ.push rfl ?_
              refine lQ.stI rfl (lN2s rfl rfl) ?_
              refine lQ.loadN rfl rfl ?_
              refine lQ.push rfl ?_
              obtain ⟨x10, hx, h11⟩ := bindC h11
              refine lQ.callVV (F := (fun A => A = tp ad x10 A0)) (G := fun _ _ => False) (args := [.ref (adr ad 2), .int 1]) (r := []) hR rfl rfl rfl (Nat.le_of_ble_eq_true rfl) (Nat.le_of_ble_eq_true rfl) rfl (tk_2 hn rfl) (ts_741 hR hn hx (cV_mk rfl)) ?_ (fun _ _ _ z => z.elim)
              rintro _ rfl
              refine lQ.goto rfl ?_
              obtain rfl := Option.some.inj h11
              obtain rfl := elimD h5
              exact lQ.sub (lSb rfl (lSb rfl (lSb rfl (lSb rfl (lSb rfl lSb0))))) hJ3
            rcases iteC hy11 with ⟨hc, hy11⟩ | ⟨hc, hy11⟩
            · refine lQ.cmpF rfl (decide_eq_false (fun z => z hc)) ?_
              refine lQ.push rfl ?_
              refine lQ.goto rfl ?_
              obtain rfl := Option.some.inj hy11
              exact lQ.sub (lSb rfl (lSb rfl (lSb rfl (lSb rfl lSb0)))) hJ11
            · refine lQ.cmpT rfl (decide_eq_true hc) ?_
              refine lQ.push rfl ?_
              obtain rfl := Option.some.inj hy11
              exact lQ.sub (lSb rfl (lSb rfl (lSb rfl (lSb rfl lSb0)))) hJ11
          · refine lQ.cmpT rfl (decide_eq_true hc) ?_
            obtain rfl := Option.some.inj hy5
            exact lQ.sub (lSb rfl (lSb rfl (lSb rfl (lSb rfl (lSb rfl (lSb rfl lSb0)))))) (hJ5 _ rfl)
      rcases iteC hy4 with ⟨hc, hy4⟩ | ⟨hc, hy4⟩
      · refine lQ.ifT rfl (decide_eq_true hc) ?_
        obtain rfl := Option.some.inj hy4
        exact lQ.sub (lSb rfl (lSb rfl (lSb rfl (lSb rfl (lSb rfl (lSb rfl lSb0)))))) (hJ4 _ rfl)
      · refine lQ.ifF rfl (decide_eq_false hc) ?_
        refine lQ.loadI rfl rfl ?_
        rcases iteC hy4 with ⟨hc, hy4⟩ | ⟨hc, hy4⟩
        · refine lQ.ifT rfl (decide_eq_true hc) ?_
          obtain rfl := Option.some.inj hy4
          exact lQ.sub (lSb rfl (lSb rfl (lSb rfl (lSb rfl (lSb rfl (lSb rfl lSb0)))))) (hJ4 _ rfl)
        · refine lQ.ifF rfl (decide_eq_false hc) ?_
          refine lQ.loadN rfl rfl ?_
          refine lQ.get hR rfl (tf_2_28 hn) ?_
          refine lQ.push rfl ?_
          rcases iteC hy4 with ⟨hc, hy4⟩ | ⟨hc, hy4⟩
          · refine lQ.cmpF rfl (decide_eq_false (fun z => z hc)) ?_
            refine lQ.loadN rfl rfl ?_
            refine lQ.push rfl ?_
            refine lQ.push rfl ?_
            obtain ⟨x3, hx, hy4⟩ := bindC hy4
            refine lQ.callVV (F := (fun A => A = tp ad x3 A0)) (G := fun _ _ => False) (args := [.ref (adr ad 2), .int 0, .long 0]) (r := []) hR rfl rfl rfl (Nat.le_of_ble_eq_true rfl) (Nat.le_of_ble_eq_true rfl) rfl (tk_2 hn rfl) (ts_745 hR hn hx (cV_mk rfl)) ?_ (fun _ _ _ z => z.elim)
            rintro _ rfl
            refine lQ.loadN rfl rfl ?_
            refine lQ.get hR rfl (tf_2_35 hn) ?_
            refine lQ.loadN rfl rfl ?_
            refine lQ.get hR rfl (tf_2_36 hn) ?_
            refine lQ.push rfl ?_
            obtain ⟨s4, hx, hy4⟩ := bindC hy4
            refine lQ.ast hR rfl (tw_96 hn hx) ?_
            rintro _ rfl
            refine lQ.loadN rfl rfl ?_
            refine lQ.dupN rfl ?_
            refine lQ.get hR rfl (tf_2_36 hn) ?_
            refine lQ.push rfl ?_
            refine lQ.binI rfl ?_
            obtain ⟨s5, hx, hy4⟩ := bindC hy4
            refine lQ.put hR rfl rfl (tq_2_36 hn hx) ?_
            rintro _ rfl
            refine lQ.push rfl ?_
            refine lQ.stI rfl (lN2s rfl rfl) ?_
            refine lQ.loadN rfl rfl ?_
            refine lQ.push rfl ?_
            obtain ⟨x6, hx, hy4⟩ := bindC hy4
            refine lQ.callVV (F := (fun A => A = tp ad x6 A0)) (G := fun _ _ => False) (args := [.ref (adr ad 2), .int 1]) (r := []) hR rfl rfl rfl (Nat.le_of_ble_eq_true rfl) (Nat.le_of_ble_eq_true rfl) rfl (tk_2 hn rfl) (ts_741 hR hn hx (cV_mk rfl)) ?_ (fun _ _ _ z => z.elim)
            rintro _ rfl
            refine lQ.goto rfl ?_
            obtain rfl := Option.some.inj hy4
            obtain rfl := elimD h4
            exact lQ.sub (lSb rfl (lSb rfl (lSb rfl (lSb rfl (lSb rfl lSb0))))) hJ3
          · refine lQ.cmpT rfl (decide_eq_true hc) ?_
            obtain rfl := Option.some.inj hy4
            exact lQ.sub (lSb rfl (lSb rfl (lSb rfl (lSb rfl (lSb rfl (lSb rfl lSb0)))))) (hJ4 _ rfl)
    · refine lQ.ifT rfl (decide_eq_true hc) ?_
      obtain rfl := Option.some.inj hb2
      obtain rfl := hX2 _ rfl
      exact lQ.sub (lSb rfl lSb0) hJ1
theorem ts_747 {R : lAR} (hR : lRok R) {E : lE} {ad : List Nat} (hn : tOk ad) {v0 : Int32} {s : TS} {A0 : lMem} {x : Int32} (h : t_747 v0 s = some x) {Z : lZ} (hz : Z (.inl (some (.int x))) (tp ad s A0)) : lSQ R E 1 747 [.int v0] (tp ad s A0) Z := by
  refine lQ.sq pg_747 (Nat.le_of_ble_eq_true rfl) rfl ?_
  unfold t_747 at h
  refine lQ.loadI rfl rfl ?_
  refine lQ.push rfl ?_
  rcases iteC h with ⟨hc, h⟩ | ⟨hc, h⟩
  · refine lQ.cmpF rfl (decide_eq_false (fun z => z hc)) ?_
    refine lQ.push rfl ?_
    refine lQ.goto rfl ?_
    obtain rfl := Option.some.inj h
    exact lQ.retI rfl rfl hz
  · refine lQ.cmpT rfl (decide_eq_true hc) ?_
    refine lQ.loadI rfl rfl ?_
    refine lQ.push rfl ?_
    rcases iteC h with ⟨hc, h⟩ | ⟨hc, h⟩
    · refine lQ.cmpF rfl (decide_eq_false (fun z => z hc)) ?_
      refine lQ.push rfl ?_
      refine lQ.goto rfl ?_
      obtain rfl := Option.some.inj h
      exact lQ.retI rfl rfl hz
    · refine lQ.cmpT rfl (decide_eq_true hc) ?_
      refine lQ.loadI rfl rfl ?_
      refine lQ.push rfl ?_
      rcases iteC h with ⟨hc, h⟩ | ⟨hc, h⟩
      · refine lQ.cmpF rfl (decide_eq_false (fun z => z hc)) ?_
        refine lQ.push rfl ?_
        refine lQ.goto rfl ?_
        obtain rfl := Option.some.inj h
        exact lQ.retI rfl rfl hz
      · refine lQ.cmpT rfl (decide_eq_true hc) ?_
        refine lQ.loadI rfl rfl ?_
        refine lQ.push rfl ?_
        rcases iteC h with ⟨hc, h⟩ | ⟨hc, h⟩
        · refine lQ.cmpF rfl (decide_eq_false (fun z => z hc)) ?_
          refine lQ.push rfl ?_
          refine lQ.goto rfl ?_
          obtain rfl := Option.some.inj h
          exact lQ.retI rfl rfl hz
        · refine lQ.cmpT rfl (decide_eq_true hc) ?_
          refine lQ.loadI rfl rfl ?_
          refine lQ.push rfl ?_
          rcases iteC h with ⟨hc, h⟩ | ⟨hc, h⟩
          · refine lQ.cmpF rfl (decide_eq_false (fun z => z hc)) ?_
            refine lQ.push rfl ?_
            refine lQ.goto rfl ?_
            obtain rfl := Option.some.inj h
            exact lQ.retI rfl rfl hz
          · refine lQ.cmpT rfl (decide_eq_true hc) ?_
            refine lQ.push rfl ?_
            obtain rfl := Option.some.inj h
            exact lQ.retI rfl rfl hz
theorem ts_742 {R : lAR} (hR : lRok R) {E : lE} {ad : List Nat} (hn : tOk ad) {s : TS} {A0 : lMem} {x : TS} (h : t_742 s = some x) {Z : lZ} (hz : Z (.inl none) (tp ad x A0)) : lSQ R E 5 742 [.ref (adr ad 2)] (tp ad s A0) Z := by
  refine lQ.sq pg_742 (Nat.le_of_ble_eq_true rfl) rfl ?_
  unfold t_742 at h
  refine lQ.push rfl ?_
  refine lQ.loadN rfl rfl ?_
  refine lQ.get hR rfl (tf_2_33 hn) ?_
  refine lQ.binI rfl ?_
  refine lQ.stI rfl (lN2s rfl rfl) ?_
  refine lQ.loadN rfl rfl ?_
  refine lQ.dupN rfl ?_
  refine lQ.get hR rfl (tf_2_33 hn) ?_
  refine lQ.push rfl ?_
  refine lQ.binI rfl ?_
  obtain ⟨s1, hx, h⟩ := bindC h
  refine lQ.put hR rfl rfl (tq_2_33 hn hx) ?_
  rintro _ rfl
  refine lQ.loadN rfl rfl ?_
  refine lQ.get hR rfl (tf_2_11 hn) ?_
  refine lQ.loadI rfl rfl ?_
  refine lQ.loadN rfl rfl ?_
  refine lQ.get hR rfl (tf_2_34 hn) ?_
  obtain ⟨s2, hx, h⟩ := bindC h
  refine lQ.ast hR rfl (tw_83 hn hx) ?_
  rintro _ rfl
  refine lQ.loadN rfl rfl ?_
  obtain ⟨x3, hx, h⟩ := bindC h
  refine lQ.callVV (F := (fun A => A = tp ad x3 A0)) (G := fun _ _ => False) (args := [.ref (adr ad 2)]) (r := []) hR rfl rfl rfl (Nat.le_of_ble_eq_true rfl) (Nat.le_of_ble_eq_true rfl) rfl (tk_2 hn rfl) (ts_743 hR hn hx (cV_mk rfl)) ?_ (fun _ _ _ z => z.elim)
  rintro _ rfl
  refine lQ.loadN rfl rfl ?_
  refine lQ.get hR rfl (tf_2_12 hn) ?_
  refine lQ.loadI rfl rfl ?_
  refine lQ.loadN rfl rfl ?_
  refine lQ.get hR rfl (tf_2_34 hn) ?_
  obtain ⟨s4, hx, h⟩ := bindC h
  refine lQ.ast hR rfl (tw_84 hn hx) ?_
  rintro _ rfl
  refine lQ.loadN rfl rfl ?_
  refine lQ.get hR rfl (tf_2_14 hn) ?_
  refine lQ.loadI rfl rfl ?_
  refine lQ.loadN rfl rfl ?_
  refine lQ.get hR rfl (tf_2_28 hn) ?_
  obtain ⟨x5, hx, h⟩ := bindC h
  refine lQ.callI (F := (fun y A => x5 = y ∧ A = tp ad s4 A0)) (G := fun _ _ => False) (args := [.int (s4.1 228)]) (r := [.int (60 + (s.1 233)), .ref (adr ad 86)]) hR rfl rfl rfl (Nat.le_of_ble_eq_true rfl) (Nat.le_of_ble_eq_true rfl) (ts_747 hR hn hx (cI_mk ⟨rfl, rfl⟩)) ?_ (fun _ _ _ z => z.elim)
  rintro _ _ ⟨rfl, rfl⟩
  obtain ⟨s6, hx, h⟩ := bindC h
  refine lQ.ast hR rfl (tw_86 hn hx) ?_
  rintro _ rfl
  refine lQ.loadN rfl rfl ?_
  refine lQ.loadN rfl rfl ?_
  refine lQ.get hR rfl (tf_2_31 hn) ?_
  obtain ⟨v43, hy1, h1⟩ := bindC h
  have hJ1 : lQ R E 4 cd_742 43 [(0, .ref (adr ad 2)), (1, .int (60 + (s.1 233)))] [.int v43, .ref (adr ad 2)] (tp ad s6 A0) Z := by
    obtain ⟨x8, hx, h1⟩ := bindC h1
    refine lQ.callVV (F := (fun A => A = tp ad x8 A0)) (G := fun _ _ => False) (args := [.ref (adr ad 2), .int v43]) (r := []) hR rfl rfl rfl (Nat.le_of_ble_eq_true rfl) (Nat.le_of_ble_eq_true rfl) rfl (tk_2 hn rfl) (ts_741 hR hn hx (cV_mk rfl)) ?_ (fun _ _ _ z => z.elim)
    rintro _ rfl
    refine lQ.loadN rfl rfl ?_
    refine lQ.get hR rfl (tf_2_31 hn) ?_
    obtain ⟨v49, hy2, h2⟩ := bindC h1
    have hJ2 : lQ R E 4 cd_742 49 [(0, .ref (adr ad 2)), (1, .int (60 + (s.1 233)))] [] (tp ad v49 A0) Z := by
      refine lQ.loadN rfl rfl ?_
      refine lQ.get hR rfl (tf_2_13 hn) ?_
      refine lQ.loadI rfl rfl ?_
      refine lQ.loadN rfl rfl ?_
      refine lQ.get hR rfl (tf_2_34 hn) ?_
      obtain ⟨s10, hx, h2⟩ := bindC h2
      refine lQ.ast hR rfl (tw_85 hn hx) ?_
      rintro _ rfl
      obtain rfl := Option.some.inj h2
      exact lQ.retV rfl hz
    rcases iteC hy2 with ⟨hc, hy2⟩ | ⟨hc, hy2⟩
    · refine lQ.ifF rfl (decide_eq_false (fun z => z hc)) ?_
      refine lQ.loadN rfl rfl ?_
      obtain ⟨x9, hx, hy2⟩ := bindC hy2
      refine lQ.callVV (F := (fun A => A = tp ad x9 A0)) (G := fun _ _ => False) (args := [.ref (adr ad 2)]) (r := []) hR rfl rfl rfl (Nat.le_of_ble_eq_true rfl) (Nat.le_of_ble_eq_true rfl) rfl (tk_2 hn rfl) (ts_743 hR hn hx (cV_mk rfl)) ?_ (fun _ _ _ z => z.elim)
      rintro _ rfl
      obtain rfl := Option.some.inj hy2
      exact lQ.sub (lSb rfl (lSb rfl lSb0)) hJ2
    · refine lQ.ifT rfl (decide_eq_true hc) ?_
      obtain rfl := Option.some.inj hy2
      exact lQ.sub (lSb rfl (lSb rfl lSb0)) hJ2
  rcases iteC hy1 with ⟨hc, hy1⟩ | ⟨hc, hy1⟩
  · refine lQ.ifF rfl (decide_eq_false (fun z => z hc)) ?_
    refine lQ.loadN rfl rfl ?_
    refine lQ.get hR rfl (tf_2_28 hn) ?_
    obtain ⟨x7, hx, hy1⟩ := bindC hy1
    refine lQ.callI (F := (fun y A => x7 = y ∧ A = tp ad s6 A0)) (G := fun _ _ => False) (args := [.int (s6.1 228)]) (r := [.ref (adr ad 2)]) hR rfl rfl rfl (Nat.le_of_ble_eq_true rfl) (Nat.le_of_ble_eq_true rfl) (ts_747 hR hn hx (cI_mk ⟨rfl, rfl⟩)) ?_ (fun _ _ _ z => z.elim)
    rintro _ _ ⟨rfl, rfl⟩
    rcases iteC hy1 with ⟨hc, hy1⟩ | ⟨hc, hy1⟩
    · refine lQ.ifT rfl (decide_eq_true hc) ?_
      refine lQ.push rfl ?_
      obtain rfl := Option.some.inj hy1
      exact lQ.sub (lSb rfl (lSb rfl lSb0)) hJ1
    · refine lQ.ifF rfl (decide_eq_false hc) ?_
      refine lQ.push rfl ?_
      refine lQ.goto rfl ?_
      obtain rfl := Option.some.inj hy1
      exact lQ.sub (lSb rfl (lSb rfl lSb0)) hJ1
  · refine lQ.ifT rfl (decide_eq_true hc) ?_
    refine lQ.push rfl ?_
    obtain rfl := Option.some.inj hy1
    exact lQ.sub (lSb rfl (lSb rfl lSb0)) hJ1
theorem ts_739 {R : lAR} (hR : lRok R) {E : lE} {ad : List Nat} (hn : tOk ad) {s : TS} {A0 : lMem} {x : TS} (h : t_739 s = some x) {Z : lZ} (hz : Z (.inl none) (tp ad x A0)) : lSQ R E 6 739 [.ref (adr ad 2)] (tp ad s A0) Z := by
  refine lQ.sq pg_739 (Nat.le_of_ble_eq_true rfl) rfl ?_
  unfold t_739 at h
  refine lQ.loadN rfl rfl ?_
  refine lQ.loadN rfl rfl ?_
  refine lQ.get hR rfl (tf_2_31 hn) ?_
  obtain ⟨v20, hy1, h1⟩ := bindC h
  have hJ1 : lQ R E 5 cd_739 20 [(0, .ref (adr ad 2))] [.int v20, .ref (adr ad 2)] (tp ad s A0) Z := by
    rcases iteC h1 with ⟨hg, h1⟩ | ⟨_, h1⟩
    case inr => cases h1
    obtain ⟨s2, hx, h1⟩ := bindC h1
    refine lQ.put hR rfl (fitB hg) (tq_2_31 hn hx) ?_
    rintro _ rfl
    refine lQ.loadN rfl rfl ?_
    refine lQ.get hR rfl (tf_2_31 hn) ?_
    rcases iteC h1 with ⟨hc, h1⟩ | ⟨hc, h1⟩
    · refine lQ.ifT rfl (decide_eq_true hc) ?_
      refine lQ.push rfl ?_
      refine lQ.loadN rfl rfl ?_
      refine lQ.get hR rfl (tf_2_32 hn) ?_
      refine lQ.binI rfl ?_
      refine lQ.stI rfl (lN2s rfl rfl) ?_
      refine lQ.loadN rfl rfl ?_
      refine lQ.dupN rfl ?_
      refine lQ.get hR rfl (tf_2_32 hn) ?_
      refine lQ.push rfl ?_
      refine lQ.binI rfl ?_
      obtain ⟨s3, hx, h1⟩ := bindC h1
      refine lQ.put hR rfl rfl (tq_2_32 hn hx) ?_
      rintro _ rfl
      refine lQ.loadN rfl rfl ?_
      refine lQ.get hR rfl (tf_2_6 hn) ?_
      refine lQ.loadI rfl rfl ?_
      refine lQ.loadN rfl rfl ?_
      refine lQ.get hR rfl (tf_2_29 hn) ?_
      obtain ⟨s4, hx, h1⟩ := bindC h1
      refine lQ.lst hR rfl (tw_79 hn hx) ?_
      rintro _ rfl
      refine lQ.loadN rfl rfl ?_
      refine lQ.get hR rfl (tf_2_7 hn) ?_
      refine lQ.loadI rfl rfl ?_
      refine lQ.loadN rfl rfl ?_
      refine lQ.get hR rfl (tf_2_33 hn) ?_
      obtain ⟨s5, hx, h1⟩ := bindC h1
      refine lQ.ast hR rfl (tw_80 hn hx) ?_
      rintro _ rfl
      refine lQ.loadN rfl rfl ?_
      refine lQ.get hR rfl (tf_2_8 hn) ?_
      refine lQ.loadI rfl rfl ?_
      refine lQ.push rfl ?_
      obtain ⟨s6, hx, h1⟩ := bindC h1
      refine lQ.ast hR rfl (tw_81 hn hx) ?_
      rintro _ rfl
      refine lQ.loadN rfl rfl ?_
      refine lQ.get hR rfl (tf_2_9 hn) ?_
      refine lQ.loadI rfl rfl ?_
      refine lQ.push rfl ?_
      obtain ⟨s7, hx, h1⟩ := bindC h1
      refine lQ.ast hR rfl (tw_82 hn hx) ?_
      rintro _ rfl
      refine lQ.loadN rfl rfl ?_
      refine lQ.push rfl ?_
      obtain ⟨x8, hx, h1⟩ := bindC h1
      refine lQ.callVV (F := (fun A => A = tp ad x8 A0)) (G := fun _ _ => False) (args := [.ref (adr ad 2), .int 1]) (r := []) hR rfl rfl rfl (Nat.le_of_ble_eq_true rfl) (Nat.le_of_ble_eq_true rfl) rfl (tk_2 hn rfl) (ts_741 hR hn hx (cV_mk rfl)) ?_ (fun _ _ _ z => z.elim)
      rintro _ rfl
      refine lQ.loadN rfl rfl ?_
      refine lQ.loadN rfl rfl ?_
      refine lQ.get hR rfl (tf_2_28 hn) ?_
      refine lQ.push rfl ?_
      obtain ⟨v69, hy2, h2⟩ := bindC h1
      have hJ2 : lQ R E 5 cd_739 69 [(0, .ref (adr ad 2)), (1, .int (12 + (s2.1 232)))] [.int v69, .ref (adr ad 2)] (tp ad x8 A0) Z := by
        obtain ⟨x9, hx, h2⟩ := bindC h2
        refine lQ.callVV (F := (fun A => A = tp ad x9 A0)) (G := fun _ _ => False) (args := [.ref (adr ad 2), .int v69]) (r := []) hR rfl rfl rfl (Nat.le_of_ble_eq_true rfl) (Nat.le_of_ble_eq_true rfl) rfl (tk_2 hn rfl) (ts_741 hR hn hx (cV_mk rfl)) ?_ (fun _ _ _ z => z.elim)
        rintro _ rfl
        refine lQ.loadN rfl rfl ?_
        refine lQ.get hR rfl (tf_2_31 hn) ?_
        obtain ⟨v75, hy3, h3⟩ := bindC h2
        have hJ3 : lQ R E 5 cd_739 75 [(0, .ref (adr ad 2)), (1, .int (12 + (s2.1 232)))] [] (tp ad v75 A0) Z := by
          obtain ⟨v99, hy4, h4⟩ := bindC h3
          have hJ4 : lQ R E 5 cd_739 99 [(0, .ref (adr ad 2)), (1, .int (12 + (s2.1 232)))] [] (tp ad v99 A0) Z := by
            refine lQ.loadN rfl rfl ?_
            refine lQ.get hR rfl (tf_2_31 hn) ?_
            rcases iteC h4 with ⟨hc, h4⟩ | ⟨hc, h4⟩
            · refine lQ.ifF rfl (decide_eq_false (fun z => z hc)) ?_
              refine lQ.loadN rfl rfl ?_
              refine lQ.get hR rfl (tf_2_28 hn) ?_
              refine lQ.push rfl ?_
              rcases iteC h4 with ⟨hc, h4⟩ | ⟨hc, h4⟩
              · refine lQ.cmpF rfl (decide_eq_false (fun z => z hc)) ?_
                refine lQ.loadN rfl rfl ?_
                refine lQ.push rfl ?_
                obtain ⟨x15, hx, h4⟩ := bindC h4
                refine lQ.callVV (F := (fun A => A = tp ad x15 A0)) (G := fun _ _ => False) (args := [.ref (adr ad 2), .int 1]) (r := []) hR rfl rfl rfl (Nat.le_of_ble_eq_true rfl) (Nat.le_of_ble_eq_true rfl) rfl (tk_2 hn rfl) (ts_741 hR hn hx (cV_mk rfl)) ?_ (fun _ _ _ z => z.elim)
                rintro _ rfl
                refine lQ.loadN rfl rfl ?_
                refine lQ.get hR rfl (tf_2_9 hn) ?_
                refine lQ.loadI rfl rfl ?_
                refine lQ.loadN rfl rfl ?_
                refine lQ.get hR rfl (tf_2_29 hn) ?_
                refine lQ.l2i rfl ?_
                obtain ⟨s16, hx, h4⟩ := bindC h4
                refine lQ.ast hR rfl (tw_82 hn hx) ?_
                rintro _ rfl
                refine lQ.loadN rfl rfl ?_
                refine lQ.loadN rfl rfl ?_
                refine lQ.get hR rfl (tf_2_28 hn) ?_
                refine lQ.push rfl ?_
                obtain ⟨v124, hy5, h5⟩ := bindC h4
                have hJ5 : lQ R E 5 cd_739 124 [] [.int v124, .ref (adr ad 2)] (tp ad s16 A0) Z := by
                  obtain ⟨x17, hx, h5⟩ := bindC h5
                  refine lQ.callVV (F := (fun A => A = tp ad x17 A0)) (G := fun _ _ => False) (args := [.ref (adr ad 2), .int v124]) (r := []) hR rfl rfl rfl (Nat.le_of_ble_eq_true rfl) (Nat.le_of_ble_eq_true rfl) rfl (tk_2 hn rfl) (ts_741 hR hn hx (cV_mk rfl)) ?_ (fun _ _ _ z => z.elim)
                  rintro _ rfl
                  obtain rfl := Option.some.inj h5
                  exact lQ.retV rfl hz
                rcases iteC hy5 with ⟨hc, hy5⟩ | ⟨hc, hy5⟩
                · refine lQ.cmpF rfl (decide_eq_false (fun z => z hc)) ?_
                  refine lQ.push rfl ?_
                  refine lQ.goto rfl ?_
                  obtain rfl := Option.some.inj hy5
                  exact lQ.sub lSb0 hJ5
                · refine lQ.cmpT rfl (decide_eq_true hc) ?_
                  refine lQ.push rfl ?_
                  obtain rfl := Option.some.inj hy5
                  exact lQ.sub lSb0 hJ5
              · refine lQ.cmpT rfl (decide_eq_true hc) ?_
                obtain rfl := Option.some.inj h4
                exact lQ.retV rfl hz
            · refine lQ.ifT rfl (decide_eq_true hc) ?_
              obtain rfl := Option.some.inj h4
              exact lQ.retV rfl hz
          refine lQ.sub (lSb rfl (lSb rfl lSb0)) (wh_run (P := fun p75 => lQ R E 5 cd_739 75 [(0, .ref (adr ad 2)), (1, .int (12 + (s2.1 232)))] [] (tp ad p75 A0) Z) hy4 ?_)
          intro p75 r6 hb6 hI6 hX6
          refine lQ.loadN rfl rfl ?_
          refine lQ.get hR rfl (tf_2_31 hn) ?_
          rcases iteC hb6 with ⟨hc, hb6⟩ | ⟨hc, hb6⟩
          · refine lQ.ifF rfl (decide_eq_false (fun z => z hc)) ?_
            refine lQ.loadN rfl rfl ?_
            refine lQ.get hR rfl (tf_2_28 hn) ?_
            refine lQ.push rfl ?_
            rcases iteC hb6 with ⟨hc, hb6⟩ | ⟨hc, hb6⟩
            · refine lQ.cmpF rfl (decide_eq_false (fun z => z hc)) ?_
              refine lQ.loadN rfl rfl ?_
              refine lQ.push rfl ?_
              obtain ⟨x11, hx, hb6⟩ := bindC hb6
              refine lQ.callVV (F := (fun A => A = tp ad x11 A0)) (G := fun _ _ => False) (args := [.ref (adr ad 2), .int 1]) (r := []) hR rfl rfl rfl (Nat.le_of_ble_eq_true rfl) (Nat.le_of_ble_eq_true rfl) rfl (tk_2 hn rfl) (ts_741 hR hn hx (cV_mk rfl)) ?_ (fun _ _ _ z => z.elim)
              rintro _ rfl
              refine lQ.loadN rfl rfl ?_
              refine lQ.get hR rfl (tf_2_31 hn) ?_
              rcases iteC hb6 with ⟨hc, hb6⟩ | ⟨hc, hb6⟩
              · refine lQ.ifF rfl (decide_eq_false (fun z => z hc)) ?_
                refine lQ.loadN rfl rfl ?_
                refine lQ.get hR rfl (tf_2_8 hn) ?_
                refine lQ.loadI rfl rfl ?_
                refine lQ.dup2 rfl rfl rfl ?_
                obtain ⟨x12, hx, hb6⟩ := bindC hb6
                refine lQ.ald hR rfl (ta_81 hn hx) ?_
                refine lQ.push rfl ?_
                refine lQ.binI rfl ?_
                obtain ⟨s13, hx, hb6⟩ := bindC hb6
                refine lQ.ast hR rfl (tw_81 hn hx) ?_
                rintro _ rfl
                refine lQ.loadN rfl rfl ?_
                obtain ⟨x14, hx, hb6⟩ := bindC hb6
                refine lQ.callVV (F := (fun A => A = tp ad x14 A0)) (G := fun _ _ => False) (args := [.ref (adr ad 2)]) (r := []) hR rfl rfl rfl (Nat.le_of_ble_eq_true rfl) (Nat.le_of_ble_eq_true rfl) rfl (tk_2 hn rfl) (ts_742 hR hn hx (cV_mk rfl)) ?_ (fun _ _ _ z => z.elim)
                rintro _ rfl
                refine lQ.goto rfl ?_
                obtain rfl := Option.some.inj hb6
                exact lQ.sub (lSb rfl (lSb rfl lSb0)) (hI6 _ rfl)
              · refine lQ.ifT rfl (decide_eq_true hc) ?_
                obtain rfl := Option.some.inj hb6
                exact lQ.sub (lSb rfl (lSb rfl lSb0)) (hI6 _ rfl)
            · refine lQ.cmpT rfl (decide_eq_true hc) ?_
              obtain rfl := Option.some.inj hb6
              obtain rfl := hX6 _ rfl
              exact lQ.sub (lSb rfl (lSb rfl lSb0)) hJ4
          · refine lQ.ifT rfl (decide_eq_true hc) ?_
            obtain rfl := Option.some.inj hb6
            obtain rfl := hX6 _ rfl
            exact lQ.sub (lSb rfl (lSb rfl lSb0)) hJ4
        rcases iteC hy3 with ⟨hc, hy3⟩ | ⟨hc, hy3⟩
        · refine lQ.ifF rfl (decide_eq_false (fun z => z hc)) ?_
          refine lQ.loadN rfl rfl ?_
          obtain ⟨x10, hx, hy3⟩ := bindC hy3
          refine lQ.callVV (F := (fun A => A = tp ad x10 A0)) (G := fun _ _ => False) (args := [.ref (adr ad 2)]) (r := []) hR rfl rfl rfl (Nat.le_of_ble_eq_true rfl) (Nat.le_of_ble_eq_true rfl) rfl (tk_2 hn rfl) (ts_742 hR hn hx (cV_mk rfl)) ?_ (fun _ _ _ z => z.elim)
          rintro _ rfl
          obtain rfl := Option.some.inj hy3
          exact lQ.sub (lSb rfl (lSb rfl lSb0)) hJ3
        · refine lQ.ifT rfl (decide_eq_true hc) ?_
          obtain rfl := Option.some.inj hy3
          exact lQ.sub (lSb rfl (lSb rfl lSb0)) hJ3
      rcases iteC hy2 with ⟨hc, hy2⟩ | ⟨hc, hy2⟩
      · refine lQ.cmpF rfl (decide_eq_false (fun z => z hc)) ?_
        refine lQ.push rfl ?_
        refine lQ.goto rfl ?_
        obtain rfl := Option.some.inj hy2
        exact lQ.sub (lSb rfl (lSb rfl lSb0)) hJ2
      · refine lQ.cmpT rfl (decide_eq_true hc) ?_
        refine lQ.push rfl ?_
        obtain rfl := Option.some.inj hy2
        exact lQ.sub (lSb rfl (lSb rfl lSb0)) hJ2
    · refine lQ.ifF rfl (decide_eq_false hc) ?_
      obtain rfl := Option.some.inj h1
      exact lQ.retV rfl hz
  rcases iteC hy1 with ⟨hc, hy1⟩ | ⟨hc, hy1⟩
  · refine lQ.ifF rfl (decide_eq_false (fun z => z hc)) ?_
    refine lQ.loadN rfl rfl ?_
    refine lQ.get hR rfl (tf_2_28 hn) ?_
    refine lQ.push rfl ?_
    rcases iteC hy1 with ⟨hc, hy1⟩ | ⟨hc, hy1⟩
    · refine lQ.cmpF rfl (decide_eq_false (fun z => z hc)) ?_
      refine lQ.loadN rfl rfl ?_
      refine lQ.get hR rfl (tf_2_32 hn) ?_
      refine lQ.push rfl ?_
      rcases iteC hy1 with ⟨hc, hy1⟩ | ⟨hc, hy1⟩
      · refine lQ.cmpT rfl (decide_eq_true hc) ?_
        refine lQ.push rfl ?_
        refine lQ.goto rfl ?_
        obtain rfl := Option.some.inj hy1
        exact lQ.sub (lSb rfl lSb0) hJ1
      · refine lQ.cmpF rfl (decide_eq_false hc) ?_
        refine lQ.loadN rfl rfl ?_
        refine lQ.loadN rfl rfl ?_
        refine lQ.get hR rfl (tf_2_29 hn) ?_
        obtain ⟨x1, hx, hy1⟩ := bindC hy1
        refine lQ.callVI (F := (fun y A => x1 = y ∧ A = tp ad s A0)) (G := fun _ _ => False) (args := [.ref (adr ad 2), .long (s.2.1 229)]) (r := [.ref (adr ad 2)]) hR rfl rfl rfl (Nat.le_of_ble_eq_true rfl) (Nat.le_of_ble_eq_true rfl) rfl (tk_2 hn rfl) (ts_740 hR hn hx (cI_mk ⟨rfl, rfl⟩)) ?_ (fun _ _ _ z => z.elim)
        rintro _ _ ⟨rfl, rfl⟩
        rcases iteC hy1 with ⟨hc, hy1⟩ | ⟨hc, hy1⟩
        · refine lQ.ifF rfl (decide_eq_false (fun z => z hc)) ?_
          refine lQ.push rfl ?_
          refine lQ.goto rfl ?_
          obtain rfl := Option.some.inj hy1
          exact lQ.sub (lSb rfl lSb0) hJ1
        · refine lQ.ifT rfl (decide_eq_true hc) ?_
          refine lQ.push rfl ?_
          obtain rfl := Option.some.inj hy1
          exact lQ.sub (lSb rfl lSb0) hJ1
    · refine lQ.cmpT rfl (decide_eq_true hc) ?_
      refine lQ.push rfl ?_
      refine lQ.goto rfl ?_
      obtain rfl := Option.some.inj hy1
      exact lQ.sub (lSb rfl lSb0) hJ1
  · refine lQ.ifT rfl (decide_eq_true hc) ?_
    refine lQ.push rfl ?_
    refine lQ.goto rfl ?_
    obtain rfl := Option.some.inj hy1
    exact lQ.sub (lSb rfl lSb0) hJ1
theorem ts_748 {R : lAR} (hR : lRok R) {E : lE} {ad : List Nat} (hn : tOk ad) {s : TS} {A0 : lMem} {x : TS} (h : t_748 s = some x) {Z : lZ} (hz : Z (.inl none) (tp ad x A0)) : lSQ R E 1 748 [.ref (adr ad 2)] (tp ad s A0) Z := by
  refine lQ.sq pg_748 (Nat.le_of_ble_eq_true rfl) rfl ?_
  unfold t_748 at h
  refine lQ.loadN rfl rfl ?_
  refine lQ.loadN rfl rfl ?_
  refine lQ.get hR rfl (tf_2_32 hn) ?_
  obtain ⟨s1, hx, h⟩ := bindC h
  refine lQ.put hR rfl rfl (tq_2_5 hn hx) ?_
  rintro _ rfl
  refine lQ.loadN rfl rfl ?_
  refine lQ.loadN rfl rfl ?_
  refine lQ.get hR rfl (tf_2_33 hn) ?_
  obtain ⟨s2, hx, h⟩ := bindC h
  refine lQ.put hR rfl rfl (tq_2_10 hn hx) ?_
  rintro _ rfl
  refine lQ.loadN rfl rfl ?_
  refine lQ.loadN rfl rfl ?_
  refine lQ.get hR rfl (tf_2_34 hn) ?_
  obtain ⟨s3, hx, h⟩ := bindC h
  refine lQ.put hR rfl rfl (tq_2_15 hn hx) ?_
  rintro _ rfl
  refine lQ.push rfl ?_
  refine lQ.stI rfl (lN2s rfl rfl) ?_
  obtain ⟨v60, hy1, h1⟩ := bindC h
  have hJ1 : lQ R E 0 cd_748 60 [(0, .ref (adr ad 2))] [] (tp ad v60 A0) Z := by
    refine lQ.push rfl ?_
    refine lQ.stI rfl (lN2s rfl rfl) ?_
    obtain ⟨v108, hy2, h2⟩ := bindC h1
    have hJ2 : lQ R E 0 cd_748 108 [(0, .ref (adr ad 2))] [] (tp ad v108 A0) Z := by
      refine lQ.push rfl ?_
      refine lQ.stI rfl (lN2s rfl rfl) ?_
      obtain ⟨v136, hy3, h3⟩ := bindC h2
      have hJ3 : lQ R E 0 cd_748 136 [] [] (tp ad v136 A0) Z := by
        obtain rfl := Option.some.inj h3
        exact lQ.retV rfl hz
      refine lQ.sub (lSb rfl (lSb rfl lSb0)) (wh_run (P := fun p110 => lQ R E 0 cd_748 110 [(0, .ref (adr ad 2)), (1, .int p110.2)] [] (tp ad p110.1 A0) Z) hy3 ?_)
      intro p110 r4 hb4 hI4 hX4
      refine lQ.loadI rfl rfl ?_
      refine lQ.loadN rfl rfl ?_
      refine lQ.get hR rfl (tf_2_15 hn) ?_
      rcases iteC hb4 with ⟨hc, hb4⟩ | ⟨hc, hb4⟩
      · refine lQ.cmpF rfl (decide_eq_false (Int32.not_le.mpr hc)) ?_
        refine lQ.loadN rfl rfl ?_
        refine lQ.get hR rfl (tf_2_16 hn) ?_
        refine lQ.loadI rfl rfl ?_
        refine lQ.loadN rfl rfl ?_
        refine lQ.get hR rfl (tf_2_16 hn) ?_
        refine lQ.push rfl ?_
        refine lQ.loadI rfl rfl ?_
        refine lQ.binI rfl ?_
        obtain ⟨x20, hx, hb4⟩ := bindC hb4
        refine lQ.ald hR rfl (ta_87 hn hx) ?_
        obtain ⟨s21, hx, hb4⟩ := bindC hb4
        refine lQ.ast hR rfl (tw_87 hn hx) ?_
        rintro _ rfl
        refine lQ.loadN rfl rfl ?_
        refine lQ.get hR rfl (tf_2_17 hn) ?_
        refine lQ.loadI rfl rfl ?_
        refine lQ.loadN rfl rfl ?_
        refine lQ.get hR rfl (tf_2_17 hn) ?_
        refine lQ.push rfl ?_
        refine lQ.loadI rfl rfl ?_
        refine lQ.binI rfl ?_
        obtain ⟨x22, hx, hb4⟩ := bindC hb4
        refine lQ.ald hR rfl (ta_88 hn hx) ?_
        obtain ⟨s23, hx, hb4⟩ := bindC hb4
        refine lQ.lst hR rfl (tw_88 hn hx) ?_
        rintro _ rfl
        refine lQ.inc rfl rfl (lN2s rfl rfl) ?_
        refine lQ.goto rfl ?_
        obtain rfl := Option.some.inj hb4
        exact lQ.sub (lSb rfl (lSb rfl lSb0)) (hI4 _ rfl)
      · refine lQ.cmpT rfl (decide_eq_true (Int32.not_lt.mp hc)) ?_
        obtain rfl := Option.some.inj hb4
        obtain rfl := hX4 _ rfl
        exact lQ.sub lSb0 hJ3
    refine lQ.sub (lSb rfl (lSb rfl lSb0)) (wh_run (P := fun p62 => lQ R E 0 cd_748 62 [(0, .ref (adr ad 2)), (1, .int p62.2)] [] (tp ad p62.1 A0) Z) hy2 ?_)
    intro p62 r5 hb5 hI5 hX5
    refine lQ.loadI rfl rfl ?_
    refine lQ.loadN rfl rfl ?_
    refine lQ.get hR rfl (tf_2_10 hn) ?_
    rcases iteC hb5 with ⟨hc, hb5⟩ | ⟨hc, hb5⟩
    · refine lQ.cmpF rfl (decide_eq_false (Int32.not_le.mpr hc)) ?_
      refine lQ.loadN rfl rfl ?_
      refine lQ.get hR rfl (tf_2_11 hn) ?_
      refine lQ.loadI rfl rfl ?_
      refine lQ.loadN rfl rfl ?_
      refine lQ.get hR rfl (tf_2_11 hn) ?_
      refine lQ.push rfl ?_
      refine lQ.loadI rfl rfl ?_
      refine lQ.binI rfl ?_
      obtain ⟨x12, hx, hb5⟩ := bindC hb5
      refine lQ.ald hR rfl (ta_83 hn hx) ?_
      obtain ⟨s13, hx, hb5⟩ := bindC hb5
      refine lQ.ast hR rfl (tw_83 hn hx) ?_
      rintro _ rfl
      refine lQ.loadN rfl rfl ?_
      refine lQ.get hR rfl (tf_2_12 hn) ?_
      refine lQ.loadI rfl rfl ?_
      refine lQ.loadN rfl rfl ?_
      refine lQ.get hR rfl (tf_2_12 hn) ?_
      refine lQ.push rfl ?_
      refine lQ.loadI rfl rfl ?_
      refine lQ.binI rfl ?_
      obtain ⟨x14, hx, hb5⟩ := bindC hb5
      refine lQ.ald hR rfl (ta_84 hn hx) ?_
      obtain ⟨s15, hx, hb5⟩ := bindC hb5
      refine lQ.ast hR rfl (tw_84 hn hx) ?_
      rintro _ rfl
      refine lQ.loadN rfl rfl ?_
      refine lQ.get hR rfl (tf_2_13 hn) ?_
      refine lQ.loadI rfl rfl ?_
      refine lQ.loadN rfl rfl ?_
      refine lQ.get hR rfl (tf_2_13 hn) ?_
      refine lQ.push rfl ?_
      refine lQ.loadI rfl rfl ?_
      refine lQ.binI rfl ?_
      obtain ⟨x16, hx, hb5⟩ := bindC hb5
      refine lQ.ald hR rfl (ta_85 hn hx) ?_
      obtain ⟨s17, hx, hb5⟩ := bindC hb5
      refine lQ.ast hR rfl (tw_85 hn hx) ?_
      rintro _ rfl
      refine lQ.loadN rfl rfl ?_
      refine lQ.get hR rfl (tf_2_14 hn) ?_
      refine lQ.loadI rfl rfl ?_
      refine lQ.loadN rfl rfl ?_
      refine lQ.get hR rfl (tf_2_14 hn) ?_
      refine lQ.push rfl ?_
      refine lQ.loadI rfl rfl ?_
      refine lQ.binI rfl ?_
      obtain ⟨x18, hx, hb5⟩ := bindC hb5
      refine lQ.ald hR rfl (ta_86 hn hx) ?_
      obtain ⟨s19, hx, hb5⟩ := bindC hb5
      refine lQ.ast hR rfl (tw_86 hn hx) ?_
      rintro _ rfl
      refine lQ.inc rfl rfl (lN2s rfl rfl) ?_
      refine lQ.goto rfl ?_
      obtain rfl := Option.some.inj hb5
      exact lQ.sub (lSb rfl (lSb rfl lSb0)) (hI5 _ rfl)
    · refine lQ.cmpT rfl (decide_eq_true (Int32.not_lt.mp hc)) ?_
      obtain rfl := Option.some.inj hb5
      obtain rfl := hX5 _ rfl
      exact lQ.sub (lSb rfl lSb0) hJ2
  refine lQ.sub (lSb rfl (lSb rfl lSb0)) (wh_run (P := fun p14 => lQ R E 0 cd_748 14 [(0, .ref (adr ad 2)), (1, .int p14.2)] [] (tp ad p14.1 A0) Z) hy1 ?_)
  intro p14 r6 hb6 hI6 hX6
  refine lQ.loadI rfl rfl ?_
  refine lQ.loadN rfl rfl ?_
  refine lQ.get hR rfl (tf_2_5 hn) ?_
  rcases iteC hb6 with ⟨hc, hb6⟩ | ⟨hc, hb6⟩
  · refine lQ.cmpF rfl (decide_eq_false (Int32.not_le.mpr hc)) ?_
    refine lQ.loadN rfl rfl ?_
    refine lQ.get hR rfl (tf_2_6 hn) ?_
    refine lQ.loadI rfl rfl ?_
    refine lQ.loadN rfl rfl ?_
    refine lQ.get hR rfl (tf_2_6 hn) ?_
    refine lQ.push rfl ?_
    refine lQ.loadI rfl rfl ?_
    refine lQ.binI rfl ?_
    obtain ⟨x4, hx, hb6⟩ := bindC hb6
    refine lQ.ald hR rfl (ta_79 hn hx) ?_
    obtain ⟨s5, hx, hb6⟩ := bindC hb6
    refine lQ.lst hR rfl (tw_79 hn hx) ?_
    rintro _ rfl
    refine lQ.loadN rfl rfl ?_
    refine lQ.get hR rfl (tf_2_7 hn) ?_
    refine lQ.loadI rfl rfl ?_
    refine lQ.loadN rfl rfl ?_
    refine lQ.get hR rfl (tf_2_7 hn) ?_
    refine lQ.push rfl ?_
    refine lQ.loadI rfl rfl ?_
    refine lQ.binI rfl ?_
    obtain ⟨x6, hx, hb6⟩ := bindC hb6
    refine lQ.ald hR rfl (ta_80 hn hx) ?_
    obtain ⟨s7, hx, hb6⟩ := bindC hb6
    refine lQ.ast hR rfl (tw_80 hn hx) ?_
    rintro _ rfl
    refine lQ.loadN rfl rfl ?_
    refine lQ.get hR rfl (tf_2_8 hn) ?_
    refine lQ.loadI rfl rfl ?_
    refine lQ.loadN rfl rfl ?_
    refine lQ.get hR rfl (tf_2_8 hn) ?_
    refine lQ.push rfl ?_
    refine lQ.loadI rfl rfl ?_
    refine lQ.binI rfl ?_
    obtain ⟨x8, hx, hb6⟩ := bindC hb6
    refine lQ.ald hR rfl (ta_81 hn hx) ?_
    obtain ⟨s9, hx, hb6⟩ := bindC hb6
    refine lQ.ast hR rfl (tw_81 hn hx) ?_
    rintro _ rfl
    refine lQ.loadN rfl rfl ?_
    refine lQ.get hR rfl (tf_2_9 hn) ?_
    refine lQ.loadI rfl rfl ?_
    refine lQ.loadN rfl rfl ?_
    refine lQ.get hR rfl (tf_2_9 hn) ?_
    refine lQ.push rfl ?_
    refine lQ.loadI rfl rfl ?_
    refine lQ.binI rfl ?_
    obtain ⟨x10, hx, hb6⟩ := bindC hb6
    refine lQ.ald hR rfl (ta_82 hn hx) ?_
    obtain ⟨s11, hx, hb6⟩ := bindC hb6
    refine lQ.ast hR rfl (tw_82 hn hx) ?_
    rintro _ rfl
    refine lQ.inc rfl rfl (lN2s rfl rfl) ?_
    refine lQ.goto rfl ?_
    obtain rfl := Option.some.inj hb6
    exact lQ.sub (lSb rfl (lSb rfl lSb0)) (hI6 _ rfl)
  · refine lQ.cmpT rfl (decide_eq_true (Int32.not_lt.mp hc)) ?_
    obtain rfl := Option.some.inj hb6
    obtain rfl := hX6 _ rfl
    exact lQ.sub (lSb rfl lSb0) hJ1
theorem ts_733 {R : lAR} (hR : lRok R) {E : lE} {ad : List Nat} (hn : tOk ad) {s : TS} {A0 : lMem} {x : Int32 × TS} (h : t_733 s = some x) {Z : lZ} (hz : Z (.inl (some (.int x.1))) (tp ad x.2 A0)) : lSQ R E 7 733 [.ref (adr ad 2)] (tp ad s A0) Z := by
  refine lQ.sq pg_733 (Nat.le_of_ble_eq_true rfl) rfl ?_
  unfold t_733 at h
  refine lQ.loadN rfl rfl ?_
  refine lQ.push rfl ?_
  obtain ⟨s1, hx, h⟩ := bindC h
  refine lQ.put hR rfl rfl (tq_2_27 hn hx) ?_
  rintro _ rfl
  refine lQ.loadN rfl rfl ?_
  refine lQ.push rfl ?_
  obtain ⟨s2, hx, h⟩ := bindC h
  refine lQ.put hR rfl rfl (tq_2_30 hn hx) ?_
  rintro _ rfl
  refine lQ.loadN rfl rfl ?_
  refine lQ.push rfl ?_
  obtain ⟨s3, hx, h⟩ := bindC h
  refine lQ.put hR rfl rfl (tq_2_31 hn hx) ?_
  rintro _ rfl
  refine lQ.loadN rfl rfl ?_
  refine lQ.push rfl ?_
  obtain ⟨s4, hx, h⟩ := bindC h
  refine lQ.put hR rfl rfl (tq_2_32 hn hx) ?_
  rintro _ rfl
  refine lQ.loadN rfl rfl ?_
  refine lQ.push rfl ?_
  obtain ⟨s5, hx, h⟩ := bindC h
  refine lQ.put hR rfl rfl (tq_2_33 hn hx) ?_
  rintro _ rfl
  refine lQ.loadN rfl rfl ?_
  refine lQ.push rfl ?_
  obtain ⟨s6, hx, h⟩ := bindC h
  refine lQ.put hR rfl rfl (tq_2_34 hn hx) ?_
  rintro _ rfl
  refine lQ.loadN rfl rfl ?_
  obtain ⟨x7, hx, h⟩ := bindC h
  refine lQ.callVV (F := (fun A => A = tp ad x7 A0)) (G := fun _ _ => False) (args := [.ref (adr ad 2)]) (r := []) hR rfl rfl rfl (Nat.le_of_ble_eq_true rfl) (Nat.le_of_ble_eq_true rfl) rfl (tk_2 hn rfl) (ts_734 hR hn hx (cV_mk rfl)) ?_ (fun _ _ _ z => z.elim)
  rintro _ rfl
  refine lQ.loadN rfl rfl ?_
  obtain ⟨x8, hx, h⟩ := bindC h
  refine lQ.callVV (F := (fun A => A = tp ad x8 A0)) (G := fun _ _ => False) (args := [.ref (adr ad 2)]) (r := []) hR rfl rfl rfl (Nat.le_of_ble_eq_true rfl) (Nat.le_of_ble_eq_true rfl) rfl (tk_2 hn rfl) (ts_739 hR hn hx (cV_mk rfl)) ?_ (fun _ _ _ z => z.elim)
  rintro _ rfl
  obtain ⟨v46, hy1, h1⟩ := bindC h
  have hJ1 : lQ R E 6 cd_733 46 [(0, .ref (adr ad 2))] [] (tp ad v46 A0) Z := by
    refine lQ.loadN rfl rfl ?_
    refine lQ.get hR rfl (tf_2_31 hn) ?_
    rcases iteC h1 with ⟨hc, h1⟩ | ⟨hc, h1⟩
    · refine lQ.ifT rfl (decide_eq_true hc) ?_
      refine lQ.loadN rfl rfl ?_
      obtain ⟨x11, hx, h1⟩ := bindC h1
      refine lQ.callVV (F := (fun A => A = tp ad x11 A0)) (G := fun _ _ => False) (args := [.ref (adr ad 2)]) (r := []) hR rfl rfl rfl (Nat.le_of_ble_eq_true rfl) (Nat.le_of_ble_eq_true rfl) rfl (tk_2 hn rfl) (ts_748 hR hn hx (cV_mk rfl)) ?_ (fun _ _ _ z => z.elim)
      rintro _ rfl
      refine lQ.loadN rfl rfl ?_
      refine lQ.push rfl ?_
      obtain ⟨s12, hx, h1⟩ := bindC h1
      refine lQ.put hR rfl rfl (tq_2_1 hn hx) ?_
      rintro _ rfl
      refine lQ.loadN rfl rfl ?_
      refine lQ.push rfl ?_
      obtain ⟨s13, hx, h1⟩ := bindC h1
      refine lQ.put hR rfl rfl (tq_2_18 hn hx) ?_
      rintro _ rfl
      refine lQ.loadN rfl rfl ?_
      refine lQ.get hR rfl (tf_2_5 hn) ?_
      obtain rfl := Option.some.inj h1
      exact lQ.retI rfl rfl hz
    · refine lQ.ifF rfl (decide_eq_false hc) ?_
      refine lQ.push rfl ?_
      refine lQ.loadN rfl rfl ?_
      refine lQ.get hR rfl (tf_2_26 hn) ?_
      refine lQ.binI rfl ?_
      obtain rfl := Option.some.inj h1
      exact lQ.retI rfl rfl hz
  refine lQ.sub (lSb rfl lSb0) (wh_run (P := fun p22 => lQ R E 6 cd_733 22 [(0, .ref (adr ad 2))] [] (tp ad p22 A0) Z) hy1 ?_)
  intro p22 r2 hb2 hI2 hX2
  refine lQ.loadN rfl rfl ?_
  refine lQ.get hR rfl (tf_2_31 hn) ?_
  rcases iteC hb2 with ⟨hc, hb2⟩ | ⟨hc, hb2⟩
  · refine lQ.ifF rfl (decide_eq_false (fun z => z hc)) ?_
    refine lQ.loadN rfl rfl ?_
    refine lQ.get hR rfl (tf_2_28 hn) ?_
    rcases iteC hb2 with ⟨hc, hb2⟩ | ⟨hc, hb2⟩
    · refine lQ.ifT rfl (decide_eq_true hc) ?_
      obtain rfl := Option.some.inj hb2
      obtain rfl := hX2 _ rfl
      exact lQ.sub (lSb rfl lSb0) hJ1
    · refine lQ.ifF rfl (decide_eq_false hc) ?_
      refine lQ.loadN rfl rfl ?_
      refine lQ.loadN rfl rfl ?_
      refine lQ.get hR rfl (tf_2_28 hn) ?_
      refine lQ.push rfl ?_
      obtain ⟨v36, hy3, h3⟩ := bindC hb2
      have hJ3 : lQ R E 6 cd_733 36 [(0, .ref (adr ad 2))] [.int v36, .ref (adr ad 2)] (tp ad p22 A0) Z := by
        obtain ⟨x9, hx, h3⟩ := bindC h3
        refine lQ.callVV (F := (fun A => A = tp ad x9 A0)) (G := fun _ _ => False) (args := [.ref (adr ad 2), .int v36]) (r := []) hR rfl rfl rfl (Nat.le_of_ble_eq_true rfl) (Nat.le_of_ble_eq_true rfl) rfl (tk_2 hn rfl) (ts_741 hR hn hx (cV_mk rfl)) ?_ (fun _ _ _ z => z.elim)
        rintro _ rfl
        refine lQ.loadN rfl rfl ?_
        refine lQ.get hR rfl (tf_2_31 hn) ?_
        rcases iteC h3 with ⟨hc, h3⟩ | ⟨hc, h3⟩
        · refine lQ.ifF rfl (decide_eq_false (fun z => z hc)) ?_
          refine lQ.loadN rfl rfl ?_
          refine lQ.get hR rfl (tf_2_28 hn) ?_
          rcases iteC h3 with ⟨hc, h3⟩ | ⟨hc, h3⟩
          · refine lQ.ifT rfl (decide_eq_true hc) ?_
            obtain rfl := Option.some.inj h3
            exact lQ.sub (lSb rfl lSb0) (hI2 _ rfl)
          · refine lQ.ifF rfl (decide_eq_false hc) ?_
            refine lQ.loadN rfl rfl ?_
            obtain ⟨x10, hx, h3⟩ := bindC h3
            refine lQ.callVV (F := (fun A => A = tp ad x10 A0)) (G := fun _ _ => False) (args := [.ref (adr ad 2)]) (r := []) hR rfl rfl rfl (Nat.le_of_ble_eq_true rfl) (Nat.le_of_ble_eq_true rfl) rfl (tk_2 hn rfl) (ts_739 hR hn hx (cV_mk rfl)) ?_ (fun _ _ _ z => z.elim)
            rintro _ rfl
            refine lQ.goto rfl ?_
            obtain rfl := Option.some.inj h3
            exact lQ.sub (lSb rfl lSb0) (hI2 _ rfl)
        · refine lQ.ifT rfl (decide_eq_true hc) ?_
          obtain rfl := Option.some.inj h3
          exact lQ.sub (lSb rfl lSb0) (hI2 _ rfl)
      rcases iteC hy3 with ⟨hc, hy3⟩ | ⟨hc, hy3⟩
      · refine lQ.cmpF rfl (decide_eq_false (fun z => z hc)) ?_
        refine lQ.push rfl ?_
        refine lQ.goto rfl ?_
        obtain rfl := Option.some.inj hy3
        exact lQ.sub (lSb rfl lSb0) hJ3
      · refine lQ.cmpT rfl (decide_eq_true hc) ?_
        refine lQ.push rfl ?_
        obtain rfl := Option.some.inj hy3
        exact lQ.sub (lSb rfl lSb0) hJ3
  · refine lQ.ifT rfl (decide_eq_true hc) ?_
    obtain rfl := Option.some.inj hb2
    obtain rfl := hX2 _ rfl
    exact lQ.sub (lSb rfl lSb0) hJ1
theorem ts_576 {R : lAR} (hR : lRok R) {E : lE} {ad : List Nat} (hn : tOk ad) {s : TS} {A0 : lMem} {x : Int32 × TS} (h : t_576 s = some x) {Z : lZ} (hz : Z (.inl (some (.int x.1))) (tp ad x.2 A0)) : lSQ R E 8 576 [.ref (adr ad 0)] (tp ad s A0) Z := by
  refine lQ.sq pg_576 (Nat.le_of_ble_eq_true rfl) rfl ?_
  unfold t_576 at h
  refine lQ.loadN rfl rfl ?_
  refine lQ.push rfl ?_
  obtain ⟨s1, hx, h⟩ := bindC h
  refine lQ.put hR rfl rfl (tq_0_0 hn hx) ?_
  rintro _ rfl
  refine lQ.loadN rfl rfl ?_
  refine lQ.get hR rfl (tf_0_4 hn) ?_
  obtain ⟨x2, hx, h⟩ := bindC h
  refine lQ.callVI (F := (fun y A => x2.1 = y ∧ A = tp ad x2.2 A0)) (G := fun _ _ => False) (args := [.ref (adr ad 2)]) (r := []) hR rfl rfl rfl (Nat.le_of_ble_eq_true rfl) (Nat.le_of_ble_eq_true rfl) rfl (tk_2 hn rfl) (ts_733 hR hn hx (cI_mk ⟨rfl, rfl⟩)) ?_ (fun _ _ _ z => z.elim)
  rintro _ _ ⟨rfl, rfl⟩
  obtain rfl := Option.some.inj h
  exact lQ.retI rfl rfl hz
theorem ts_749 {R : lAR} (hR : lRok R) {E : lE} {ad : List Nat} (hn : tOk ad) {v0 : Int64} {s : TS} {A0 : lMem} {x : Int32} (h : t_749 v0 s = some x) {Z : lZ} (hz : Z (.inl (some (.int x))) (tp ad s A0)) : lSQ R E 2 749 [.long v0] (tp ad s A0) Z := by
  refine lQ.sq pg_749 (Nat.le_of_ble_eq_true rfl) rfl ?_
  unfold t_749 at h
  refine lQ.push rfl ?_
  refine lQ.stI rfl (lN2n rfl) ?_
  refine lQ.push rfl ?_
  refine lQ.stI rfl (lN2s rfl rfl) ?_
  refine lQ.push rfl ?_
  refine lQ.stI rfl (lN2s rfl rfl) ?_
  obtain ⟨v35, hy1, h1⟩ := bindC h
  have hJ1 : lQ R E 1 cd_749 35 [(2, .int v35.1), (3, .int v35.2)] [] (tp ad s A0) Z := by
    refine lQ.loadI rfl rfl ?_
    rcases iteC h1 with ⟨hc, h1⟩ | ⟨hc, h1⟩
    · refine lQ.ifT rfl (decide_eq_true hc) ?_
      refine lQ.push rfl ?_
      obtain rfl := Option.some.inj h1
      exact lQ.retI rfl rfl hz
    · refine lQ.ifF rfl (decide_eq_false hc) ?_
      refine lQ.loadI rfl rfl ?_
      rcases iteC h1 with ⟨hc, h1⟩ | ⟨hc, h1⟩
      · refine lQ.ifT rfl (decide_eq_true hc) ?_
        refine lQ.push rfl ?_
        obtain rfl := Option.some.inj h1
        exact lQ.retI rfl rfl hz
      · refine lQ.ifF rfl (decide_eq_false hc) ?_
        refine lQ.push rfl ?_
        refine lQ.goto rfl ?_
        obtain rfl := Option.some.inj h1
        exact lQ.retI rfl rfl hz
  refine lQ.sub (lSb rfl (lSb rfl (lSb rfl (lSb rfl lSb0)))) (wh_run (P := fun p6 => lQ R E 1 cd_749 6 [(0, .long v0), (2, .int p6.1), (3, .int p6.2.1), (4, .int p6.2.2)] [] (tp ad s A0) Z) hy1 ?_)
  intro p6 r2 hb2 hI2 hX2
  refine lQ.loadI rfl rfl ?_
  rcases iteC hb2 with ⟨hc, hb2⟩ | ⟨hc, hb2⟩
  · refine lQ.ifT rfl (decide_eq_true hc) ?_
    obtain rfl := Option.some.inj hb2
    obtain rfl := hX2 _ rfl
    exact lQ.sub (lSb rfl (lSb rfl lSb0)) hJ1
  · refine lQ.ifF rfl (decide_eq_false hc) ?_
    refine lQ.loadL rfl rfl ?_
    refine lQ.loadI rfl rfl ?_
    obtain ⟨x1, hx, hb2⟩ := bindC hb2
    refine lQ.callI (F := (fun y A => x1 = y ∧ A = tp ad s A0)) (G := fun _ _ => False) (args := [.long v0, .int p6.2.2]) (r := []) hR rfl rfl rfl (Nat.le_of_ble_eq_true rfl) (Nat.le_of_ble_eq_true rfl) (ts_731 hR hn hx (cI_mk ⟨rfl, rfl⟩)) ?_ (fun _ _ _ z => z.elim)
    rintro _ _ ⟨rfl, rfl⟩
    refine lQ.stI rfl (lN2s rfl rfl) ?_
    refine lQ.loadI rfl rfl ?_
    obtain ⟨v24, hy3, h3⟩ := bindC hb2
    have hJ3 : lQ R E 1 cd_749 24 [(0, .long v0), (3, .int p6.2.1), (4, .int p6.2.2), (5, .int x1)] [.int v24] (tp ad s A0) Z := by
      refine lQ.stI rfl (lN2n rfl) ?_
      refine lQ.loadI rfl rfl ?_
      obtain ⟨v32, hy4, h4⟩ := bindC h3
      have hJ4 : lQ R E 1 cd_749 32 [(0, .long v0), (2, .int v24), (4, .int p6.2.2)] [.int v32] (tp ad s A0) Z := by
        refine lQ.stI rfl (lN2s rfl rfl) ?_
        refine lQ.dec rfl rfl (Int32.sub_eq_add_neg p6.2.2 1).symm (lN2s rfl rfl) ?_
        refine lQ.goto rfl ?_
        obtain rfl := Option.some.inj h4
        exact lQ.sub (lSb rfl (lSb rfl (lSb rfl (lSb rfl lSb0)))) (hI2 _ rfl)
      rcases iteC hy4 with ⟨hc, hy4⟩ | ⟨hc, hy4⟩
      · refine lQ.ifF rfl (decide_eq_false (fun z => z hc)) ?_
        refine lQ.loadI rfl rfl ?_
        rcases iteC hy4 with ⟨hc, hy4⟩ | ⟨hc, hy4⟩
        · refine lQ.ifF rfl (decide_eq_false (Int32.not_le.mpr hc)) ?_
          refine lQ.push rfl ?_
          refine lQ.goto rfl ?_
          obtain rfl := Option.some.inj hy4
          exact lQ.sub (lSb rfl (lSb rfl (lSb rfl lSb0))) hJ4
        · refine lQ.ifT rfl (decide_eq_true (Int32.not_lt.mp hc)) ?_
          refine lQ.push rfl ?_
          obtain rfl := Option.some.inj hy4
          exact lQ.sub (lSb rfl (lSb rfl (lSb rfl lSb0))) hJ4
      · refine lQ.ifT rfl (decide_eq_true hc) ?_
        refine lQ.push rfl ?_
        refine lQ.goto rfl ?_
        obtain rfl := Option.some.inj hy4
        exact lQ.sub (lSb rfl (lSb rfl (lSb rfl lSb0))) hJ4
    rcases iteC hy3 with ⟨hc, hy3⟩ | ⟨hc, hy3⟩
    · refine lQ.ifT rfl (decide_eq_true hc) ?_
      refine lQ.push rfl ?_
      obtain rfl := Option.some.inj hy3
      exact lQ.sub (lSb rfl (lSb rfl (lSb rfl (lSb rfl lSb0)))) hJ3
    · refine lQ.ifF rfl (decide_eq_false hc) ?_
      refine lQ.loadI rfl rfl ?_
      obtain ⟨x2, hx, hy3⟩ := bindC hy3
      refine lQ.callI (F := (fun y A => x2 = y ∧ A = tp ad s A0)) (G := fun _ _ => False) (args := [.int x1]) (r := []) hR rfl rfl rfl (Nat.le_of_ble_eq_true rfl) (Nat.le_of_ble_eq_true rfl) (ts_737 hR hn hx (cI_mk ⟨rfl, rfl⟩)) ?_ (fun _ _ _ z => z.elim)
      rintro _ _ ⟨rfl, rfl⟩
      rcases iteC hy3 with ⟨hc, hy3⟩ | ⟨hc, hy3⟩
      · refine lQ.ifF rfl (decide_eq_false (fun z => z hc)) ?_
        refine lQ.loadI rfl rfl ?_
        rcases iteC hy3 with ⟨hc, hy3⟩ | ⟨hc, hy3⟩
        · refine lQ.ifF rfl (decide_eq_false (fun z => z hc)) ?_
          refine lQ.loadI rfl rfl ?_
          rcases iteC hy3 with ⟨hc, hy3⟩ | ⟨hc, hy3⟩
          · refine lQ.ifF rfl (decide_eq_false (fun z => z hc)) ?_
            refine lQ.push rfl ?_
            refine lQ.goto rfl ?_
            obtain rfl := Option.some.inj hy3
            exact lQ.sub (lSb rfl (lSb rfl (lSb rfl (lSb rfl lSb0)))) hJ3
          · refine lQ.ifT rfl (decide_eq_true hc) ?_
            refine lQ.push rfl ?_
            obtain rfl := Option.some.inj hy3
            exact lQ.sub (lSb rfl (lSb rfl (lSb rfl (lSb rfl lSb0)))) hJ3
        · refine lQ.ifT rfl (decide_eq_true hc) ?_
          refine lQ.push rfl ?_
          obtain rfl := Option.some.inj hy3
          exact lQ.sub (lSb rfl (lSb rfl (lSb rfl (lSb rfl lSb0)))) hJ3
      · refine lQ.ifT rfl (decide_eq_true hc) ?_
        refine lQ.push rfl ?_
        refine lQ.goto rfl ?_
        obtain rfl := Option.some.inj hy3
        exact lQ.sub (lSb rfl (lSb rfl (lSb rfl (lSb rfl lSb0)))) hJ3
theorem ts_750 {R : lAR} (hR : lRok R) {E : lE} {ad : List Nat} (hn : tOk ad) {v1 : Int64} {s : TS} {A0 : lMem} {x : Int32} (h : t_750 v1 s = some x) {Z : lZ} (hz : Z (.inl (some (.int x))) (tp ad s A0)) : lSQ R E 1 750 [.ref (adr ad 2), .long v1] (tp ad s A0) Z := by
  refine lQ.sq pg_750 (Nat.le_of_ble_eq_true rfl) rfl ?_
  unfold t_750 at h
  refine lQ.push rfl ?_
  refine lQ.stI rfl (lN2n rfl) ?_
  refine lQ.push rfl ?_
  refine lQ.stI rfl (lN2s rfl rfl) ?_
  obtain ⟨v21, hy1, h1⟩ := bindC h
  have hJ1 : lQ R E 0 cd_750 21 [(3, .int v21)] [] (tp ad s A0) Z := by
    refine lQ.loadI rfl rfl ?_
    obtain rfl := Option.some.inj h1
    exact lQ.retI rfl rfl hz
  refine lQ.sub (lSb rfl (lSb rfl (lSb rfl (lSb rfl lSb0)))) (wh_run (P := fun p4 => lQ R E 0 cd_750 4 [(0, .ref (adr ad 2)), (1, .long v1), (3, .int p4.1), (4, .int p4.2)] [] (tp ad s A0) Z) hy1 ?_)
  intro p4 r2 hb2 hI2 hX2
  refine lQ.loadI rfl rfl ?_
  refine lQ.loadN rfl rfl ?_
  refine lQ.get hR rfl (tf_2_2 hn) ?_
  rcases iteC hb2 with ⟨hc, hb2⟩ | ⟨hc, hb2⟩
  · refine lQ.cmpF rfl (decide_eq_false (Int32.not_le.mpr hc)) ?_
    refine lQ.loadN rfl rfl ?_
    refine lQ.get hR rfl (tf_2_3 hn) ?_
    refine lQ.loadI rfl rfl ?_
    obtain ⟨x1, hx, hb2⟩ := bindC hb2
    refine lQ.ald hR rfl (ta_77 hn hx) ?_
    refine lQ.loadL rfl rfl ?_
    refine lQ.lcmp rfl ?_
    obtain ⟨v18, hy3, h3⟩ := bindC hb2
    have hJ3 : lQ R E 0 cd_750 18 [(0, .ref (adr ad 2)), (1, .long v1), (4, .int p4.2)] [.int v18] (tp ad s A0) Z := by
      refine lQ.stI rfl (lN2n rfl) ?_
      refine lQ.inc rfl rfl (lN2s rfl rfl) ?_
      refine lQ.goto rfl ?_
      obtain rfl := Option.some.inj h3
      exact lQ.sub (lSb rfl (lSb rfl (lSb rfl (lSb rfl lSb0)))) (hI2 _ rfl)
    rcases iteC hy3 with ⟨hc, hy3⟩ | ⟨hc, hy3⟩
    · refine lQ.ifF rfl (decide_eq_false (fun z => z hc)) ?_
      refine lQ.loadI rfl rfl ?_
      refine lQ.goto rfl ?_
      obtain rfl := Option.some.inj hy3
      exact lQ.sub (lSb rfl (lSb rfl (lSb rfl lSb0))) hJ3
    · refine lQ.ifT rfl (decide_eq_true hc) ?_
      refine lQ.loadI rfl rfl ?_
      obtain rfl := Option.some.inj hy3
      exact lQ.sub (lSb rfl (lSb rfl (lSb rfl lSb0))) hJ3
  · refine lQ.cmpT rfl (decide_eq_true (Int32.not_lt.mp hc)) ?_
    obtain rfl := Option.some.inj hb2
    obtain rfl := hX2 _ rfl
    exact lQ.sub (lSb rfl lSb0) hJ1
theorem ts_578 {R : lAR} (hR : lRok R) {E : lE} {ad : List Nat} (hn : tOk ad) {v1 : Int64} {s : TS} {A0 : lMem} {x : Int32} (h : t_578 v1 s = some x) {Z : lZ} (hz : Z (.inl (some (.int x))) (tp ad s A0)) : lSQ R E 2 578 [.ref (adr ad 0), .long v1] (tp ad s A0) Z := by
  refine lQ.sq pg_578 (Nat.le_of_ble_eq_true rfl) rfl ?_
  unfold t_578 at h
  refine lQ.loadN rfl rfl ?_
  refine lQ.get hR rfl (tf_0_4 hn) ?_
  refine lQ.loadL rfl rfl ?_
  obtain ⟨x1, hx, h⟩ := bindC h
  refine lQ.callVI (F := (fun y A => x1 = y ∧ A = tp ad s A0)) (G := fun _ _ => False) (args := [.ref (adr ad 2), .long v1]) (r := []) hR rfl rfl rfl (Nat.le_of_ble_eq_true rfl) (Nat.le_of_ble_eq_true rfl) rfl (tk_2 hn rfl) (ts_750 hR hn hx (cI_mk ⟨rfl, rfl⟩)) ?_ (fun _ _ _ z => z.elim)
  rintro _ _ ⟨rfl, rfl⟩
  rcases iteC h with ⟨hc, h⟩ | ⟨hc, h⟩
  · refine lQ.ifF rfl (decide_eq_false (Int32.not_le.mpr hc)) ?_
    refine lQ.loadN rfl rfl ?_
    refine lQ.get hR rfl (tf_0_4 hn) ?_
    refine lQ.get hR rfl (tf_2_2 hn) ?_
    refine lQ.push rfl ?_
    rcases iteC h with ⟨hc, h⟩ | ⟨hc, h⟩
    · refine lQ.cmpF rfl (decide_eq_false (Int32.not_le.mpr hc)) ?_
      refine lQ.push rfl ?_
      refine lQ.goto rfl ?_
      obtain rfl := Option.some.inj h
      exact lQ.retI rfl rfl hz
    · refine lQ.cmpT rfl (decide_eq_true (Int32.not_lt.mp hc)) ?_
      refine lQ.push rfl ?_
      obtain rfl := Option.some.inj h
      exact lQ.retI rfl rfl hz
  · refine lQ.ifT rfl (decide_eq_true (Int32.not_lt.mp hc)) ?_
    refine lQ.push rfl ?_
    refine lQ.goto rfl ?_
    obtain rfl := Option.some.inj h
    exact lQ.retI rfl rfl hz
theorem ts_751 {R : lAR} (hR : lRok R) {E : lE} {ad : List Nat} (hn : tOk ad) {v1 : Int64} {v3 : Int32} {s : TS} {A0 : lMem} {x : Int64 × TS} (h : t_751 v1 v3 s = some x) {Z : lZ} (hz : Z (.inl (some (.long x.1))) (tp ad x.2 A0)) : lSQ R E 2 751 [.ref (adr ad 2), .long v1, .int v3] (tp ad s A0) Z := by
  refine lQ.sq pg_751 (Nat.le_of_ble_eq_true rfl) rfl ?_
  unfold t_751 at h
  refine lQ.loadN rfl rfl ?_
  refine lQ.loadL rfl rfl ?_
  obtain ⟨x1, hx, h⟩ := bindC h
  refine lQ.callVI (F := (fun y A => x1 = y ∧ A = tp ad s A0)) (G := fun _ _ => False) (args := [.ref (adr ad 2), .long v1]) (r := []) hR rfl rfl rfl (Nat.le_of_ble_eq_true rfl) (Nat.le_of_ble_eq_true rfl) rfl (tk_2 hn rfl) (ts_750 hR hn hx (cI_mk ⟨rfl, rfl⟩)) ?_ (fun _ _ _ z => z.elim)
  rintro _ _ ⟨rfl, rfl⟩
  refine lQ.stI rfl (lN2s rfl rfl) ?_
  refine lQ.loadI rfl rfl ?_
  obtain ⟨v13, hy1, h1⟩ := bindC h
  have hJ1 : lQ R E 1 cd_751 13 [(0, .ref (adr ad 2)), (1, .long v1), (3, .int v3), (4, .int x1)] [.long v13] (tp ad s A0) Z := by
    refine lQ.stL rfl (lN2s rfl rfl) rfl ?_
    refine lQ.loadI rfl rfl ?_
    obtain ⟨v25, hy2, h2⟩ := bindC h1
    have hJ2 : lQ R E 1 cd_751 25 [(0, .ref (adr ad 2)), (1, .long v1), (3, .int v3), (4, .int v25.2), (5, .long v13)] [] (tp ad v25.1 A0) Z := by
      refine lQ.loadN rfl rfl ?_
      refine lQ.get hR rfl (tf_2_3 hn) ?_
      refine lQ.loadI rfl rfl ?_
      refine lQ.loadL rfl rfl ?_
      obtain ⟨s4, hx, h2⟩ := bindC h2
      refine lQ.lst hR rfl (tw_77 hn hx) ?_
      rintro _ rfl
      refine lQ.loadN rfl rfl ?_
      refine lQ.get hR rfl (tf_2_4 hn) ?_
      refine lQ.loadI rfl rfl ?_
      refine lQ.loadI rfl rfl ?_
      obtain ⟨s5, hx, h2⟩ := bindC h2
      refine lQ.ast hR rfl (tw_78 hn hx) ?_
      rintro _ rfl
      refine lQ.loadL rfl rfl ?_
      obtain rfl := Option.some.inj h2
      exact lQ.retL rfl hz
    rcases iteC hy2 with ⟨hc, hy2⟩ | ⟨hc, hy2⟩
    · refine lQ.ifF rfl (decide_eq_false (Int32.not_le.mpr hc)) ?_
      refine lQ.loadN rfl rfl ?_
      refine lQ.get hR rfl (tf_2_2 hn) ?_
      refine lQ.stI rfl (lN2s rfl rfl) ?_
      refine lQ.loadN rfl rfl ?_
      refine lQ.dupN rfl ?_
      refine lQ.get hR rfl (tf_2_2 hn) ?_
      refine lQ.push rfl ?_
      refine lQ.binI rfl ?_
      obtain ⟨s3, hx, hy2⟩ := bindC hy2
      refine lQ.put hR rfl rfl (tq_2_2 hn hx) ?_
      rintro _ rfl
      obtain rfl := Option.some.inj hy2
      exact lQ.sub (lSb rfl (lSb rfl (lSb rfl (lSb rfl (lSb rfl lSb0))))) hJ2
    · refine lQ.ifT rfl (decide_eq_true (Int32.not_lt.mp hc)) ?_
      obtain rfl := Option.some.inj hy2
      exact lQ.sub (lSb rfl (lSb rfl (lSb rfl (lSb rfl (lSb rfl lSb0))))) hJ2
  rcases iteC hy1 with ⟨hc, hy1⟩ | ⟨hc, hy1⟩
  · refine lQ.ifF rfl (decide_eq_false (Int32.not_le.mpr hc)) ?_
    refine lQ.push rfl ?_
    refine lQ.goto rfl ?_
    obtain rfl := Option.some.inj hy1
    exact lQ.sub (lSb rfl (lSb rfl (lSb rfl (lSb rfl lSb0)))) hJ1
  · refine lQ.ifT rfl (decide_eq_true (Int32.not_lt.mp hc)) ?_
    refine lQ.loadN rfl rfl ?_
    refine lQ.get hR rfl (tf_2_4 hn) ?_
    refine lQ.loadI rfl rfl ?_
    obtain ⟨x2, hx, hy1⟩ := bindC hy1
    refine lQ.ald hR rfl (ta_78 hn hx) ?_
    refine lQ.i2l rfl ?_
    obtain rfl := Option.some.inj hy1
    exact lQ.sub (lSb rfl (lSb rfl (lSb rfl (lSb rfl lSb0)))) hJ1
theorem ts_577 {R : lAR} (hR : lRok R) {E : lE} {ad : List Nat} (hn : tOk ad) {v1 : Int64} {v3 : Int32} {s : TS} {A0 : lMem} {x : Int64 × TS} (h : t_577 v1 v3 s = some x) {Z : lZ} (hz : Z (.inl (some (.long x.1))) (tp ad x.2 A0)) : lSQ R E 3 577 [.ref (adr ad 0), .long v1, .int v3] (tp ad s A0) Z := by
  refine lQ.sq pg_577 (Nat.le_of_ble_eq_true rfl) rfl ?_
  unfold t_577 at h
  refine lQ.loadN rfl rfl ?_
  refine lQ.loadL rfl rfl ?_
  obtain ⟨x1, hx, h⟩ := bindC h
  refine lQ.callI (F := (fun y A => x1 = y ∧ A = tp ad s A0)) (G := fun _ _ => False) (args := [.long v1]) (r := [.ref (adr ad 0)]) hR rfl rfl rfl (Nat.le_of_ble_eq_true rfl) (Nat.le_of_ble_eq_true rfl) (ts_749 hR hn hx (cI_mk ⟨rfl, rfl⟩)) ?_ (fun _ _ _ z => z.elim)
  rintro _ _ ⟨rfl, rfl⟩
  obtain ⟨v13, hy1, h1⟩ := bindC h
  have hJ1 : lQ R E 2 cd_577 13 [(0, .ref (adr ad 0)), (1, .long v1), (3, .int v3)] [.int v13, .ref (adr ad 0)] (tp ad s A0) Z := by
    refine lQ.loadN rfl rfl ?_
    refine lQ.loadL rfl rfl ?_
    obtain ⟨x2, hx, h1⟩ := bindC h1
    refine lQ.callVI (F := (fun y A => x2 = y ∧ A = tp ad s A0)) (G := fun _ _ => False) (args := [.ref (adr ad 0), .long v1]) (r := [.int v13, .ref (adr ad 0)]) hR rfl rfl rfl (Nat.le_of_ble_eq_true rfl) (Nat.le_of_ble_eq_true rfl) rfl (tk_0 hn rfl) (ts_578 hR hn hx (cI_mk ⟨rfl, rfl⟩)) ?_ (fun _ _ _ z => z.elim)
    rintro _ _ ⟨rfl, rfl⟩
    obtain ⟨x3, hx, h1⟩ := bindC h1
    refine lQ.callVI (F := (fun y A => x3.1 = y ∧ A = tp ad x3.2 A0)) (G := fun _ _ => False) (args := [.ref (adr ad 0), .int v13, .int x2]) (r := []) hR rfl rfl rfl (Nat.le_of_ble_eq_true rfl) (Nat.le_of_ble_eq_true rfl) rfl (tk_0 hn rfl) (ts_558 hR hn hx (cI_mk ⟨rfl, rfl⟩)) ?_ (fun _ _ _ z => z.elim)
    rintro _ _ ⟨rfl, rfl⟩
    rcases iteC h1 with ⟨hc, h1⟩ | ⟨hc, h1⟩
    · refine lQ.ifT rfl (decide_eq_true hc) ?_
      refine lQ.push rfl ?_
      obtain rfl := Option.some.inj h1
      exact lQ.retL rfl hz
    · refine lQ.ifF rfl (decide_eq_false hc) ?_
      refine lQ.loadN rfl rfl ?_
      refine lQ.get hR rfl (tf_0_4 hn) ?_
      refine lQ.loadL rfl rfl ?_
      refine lQ.loadI rfl rfl ?_
      obtain ⟨x4, hx, h1⟩ := bindC h1
      refine lQ.callVL (F := (fun y A => x4.1 = y ∧ A = tp ad x4.2 A0)) (G := fun _ _ => False) (args := [.ref (adr ad 2), .long v1, .int v3]) (r := []) hR rfl rfl rfl (Nat.le_of_ble_eq_true rfl) (Nat.le_of_ble_eq_true rfl) rfl (tk_2 hn rfl) (ts_751 hR hn hx (cL_mk ⟨rfl, rfl⟩)) ?_ (fun _ _ _ z => z.elim)
      rintro _ _ ⟨rfl, rfl⟩
      refine lQ.goto rfl ?_
      obtain rfl := Option.some.inj h1
      exact lQ.retL rfl hz
  rcases iteC hy1 with ⟨hc, hy1⟩ | ⟨hc, hy1⟩
  · refine lQ.ifT rfl (decide_eq_true hc) ?_
    refine lQ.push rfl ?_
    obtain rfl := Option.some.inj hy1
    exact lQ.sub (lSb rfl (lSb rfl (lSb rfl lSb0))) hJ1
  · refine lQ.ifF rfl (decide_eq_false hc) ?_
    refine lQ.loadI rfl rfl ?_
    refine lQ.push rfl ?_
    rcases iteC hy1 with ⟨hc, hy1⟩ | ⟨hc, hy1⟩
    · refine lQ.cmpT rfl (decide_eq_true hc) ?_
      refine lQ.push rfl ?_
      obtain rfl := Option.some.inj hy1
      exact lQ.sub (lSb rfl (lSb rfl (lSb rfl lSb0))) hJ1
    · refine lQ.cmpF rfl (decide_eq_false hc) ?_
      refine lQ.loadI rfl rfl ?_
      refine lQ.push rfl ?_
      rcases iteC hy1 with ⟨hc, hy1⟩ | ⟨hc, hy1⟩
      · refine lQ.cmpT rfl (decide_eq_true hc) ?_
        refine lQ.push rfl ?_
        obtain rfl := Option.some.inj hy1
        exact lQ.sub (lSb rfl (lSb rfl (lSb rfl lSb0))) hJ1
      · refine lQ.cmpF rfl (decide_eq_false hc) ?_
        refine lQ.push rfl ?_
        refine lQ.goto rfl ?_
        obtain rfl := Option.some.inj hy1
        exact lQ.sub (lSb rfl (lSb rfl (lSb rfl lSb0))) hJ1
theorem ts_579 {R : lAR} (hR : lRok R) {E : lE} {ad : List Nat} (hn : tOk ad) {v1 : Int32} {v2 : Int32} {v3 : Int64} {s : TS} {A0 : lMem} {x : Int32 × TS} (h : t_579 v1 v2 v3 s = some x) {Z : lZ} (hz : Z (.inl (some (.int x.1))) (tp ad x.2 A0)) : lSQ R E 5 579 [.ref (adr ad 0), .int v1, .int v2, .long v3] (tp ad s A0) Z := by
  refine lQ.sq pg_579 (Nat.le_of_ble_eq_true rfl) rfl ?_
  unfold t_579 at h
  refine lQ.loadN rfl rfl ?_
  refine lQ.loadN rfl rfl ?_
  refine lQ.get hR rfl (tf_0_3 hn) ?_
  refine lQ.loadI rfl rfl ?_
  obtain ⟨x1, hx, h⟩ := bindC h
  refine lQ.callVI (F := (fun y A => x1 = y ∧ A = tp ad s A0)) (G := fun _ _ => False) (args := [.ref (adr ad 1), .int v1]) (r := [.ref (adr ad 0)]) hR rfl rfl rfl (Nat.le_of_ble_eq_true rfl) (Nat.le_of_ble_eq_true rfl) rfl (tk_1 hn rfl) (ts_708 hR hn hx (cI_mk ⟨rfl, rfl⟩)) ?_ (fun _ _ _ z => z.elim)
  rintro _ _ ⟨rfl, rfl⟩
  obtain ⟨v16, hy1, h1⟩ := bindC h
  have hJ1 : lQ R E 4 cd_579 16 [(0, .ref (adr ad 0)), (1, .int v1), (2, .int v2), (3, .long v3)] [.int v16, .ref (adr ad 0)] (tp ad s A0) Z := by
    refine lQ.loadN rfl rfl ?_
    refine lQ.get hR rfl (tf_0_3 hn) ?_
    refine lQ.get hR rfl (tf_1_10 hn) ?_
    obtain ⟨v27, hy2, h2⟩ := bindC h1
    have hJ2 : lQ R E 4 cd_579 27 [(0, .ref (adr ad 0)), (1, .int v1), (2, .int v2), (3, .long v3)] [.int v27, .int v16, .ref (adr ad 0)] (tp ad s A0) Z := by
      obtain ⟨x5, hx, h2⟩ := bindC h2
      refine lQ.callVI (F := (fun y A => x5.1 = y ∧ A = tp ad x5.2 A0)) (G := fun _ _ => False) (args := [.ref (adr ad 0), .int v16, .int v27]) (r := []) hR rfl rfl rfl (Nat.le_of_ble_eq_true rfl) (Nat.le_of_ble_eq_true rfl) rfl (tk_0 hn rfl) (ts_558 hR hn hx (cI_mk ⟨rfl, rfl⟩)) ?_ (fun _ _ _ z => z.elim)
      rintro _ _ ⟨rfl, rfl⟩
      rcases iteC h2 with ⟨hc, h2⟩ | ⟨hc, h2⟩
      · refine lQ.ifF rfl (decide_eq_false (fun z => z hc)) ?_
        refine lQ.push rfl ?_
        obtain rfl := Option.some.inj h2
        exact lQ.retI rfl rfl hz
      · refine lQ.ifT rfl (decide_eq_true hc) ?_
        refine lQ.loadN rfl rfl ?_
        refine lQ.get hR rfl (tf_0_3 hn) ?_
        refine lQ.loadI rfl rfl ?_
        refine lQ.loadI rfl rfl ?_
        obtain ⟨x6, hx, h2⟩ := bindC h2
        refine lQ.callVI (F := (fun y A => x6 = y ∧ A = tp ad x5.2 A0)) (G := fun _ _ => False) (args := [.ref (adr ad 1), .int v1, .int v2]) (r := []) hR rfl rfl rfl (Nat.le_of_ble_eq_true rfl) (Nat.le_of_ble_eq_true rfl) rfl (tk_1 hn rfl) (ts_713 hR hn hx (cI_mk ⟨rfl, rfl⟩)) ?_ (fun _ _ _ z => z.elim)
        rintro _ _ ⟨rfl, rfl⟩
        refine lQ.stI rfl (lN2n rfl) ?_
        refine lQ.loadN rfl rfl ?_
        refine lQ.get hR rfl (tf_0_4 hn) ?_
        refine lQ.loadL rfl rfl ?_
        refine lQ.loadI rfl rfl ?_
        obtain ⟨x7, hx, h2⟩ := bindC h2
        refine lQ.callVL (F := (fun y A => x7.1 = y ∧ A = tp ad x7.2 A0)) (G := fun _ _ => False) (args := [.ref (adr ad 2), .long v3, .int x6]) (r := []) hR rfl rfl rfl (Nat.le_of_ble_eq_true rfl) (Nat.le_of_ble_eq_true rfl) rfl (tk_2 hn rfl) (ts_751 hR hn hx (cL_mk ⟨rfl, rfl⟩)) ?_ (fun _ _ _ z => z.elim)
        rintro _ _ ⟨rfl, rfl⟩
        refine lQ.stL rfl (lN2s rfl rfl) rfl ?_
        refine lQ.loadI rfl rfl ?_
        obtain rfl := Option.some.inj h2
        exact lQ.retI rfl rfl hz
    rcases iteC hy2 with ⟨hc, hy2⟩ | ⟨hc, hy2⟩
    · refine lQ.ifT rfl (decide_eq_true hc) ?_
      refine lQ.push rfl ?_
      obtain rfl := Option.some.inj hy2
      exact lQ.sub (lSb rfl (lSb rfl (lSb rfl (lSb rfl lSb0)))) hJ2
    · refine lQ.ifF rfl (decide_eq_false hc) ?_
      refine lQ.loadN rfl rfl ?_
      refine lQ.loadL rfl rfl ?_
      obtain ⟨x4, hx, hy2⟩ := bindC hy2
      refine lQ.callVI (F := (fun y A => x4 = y ∧ A = tp ad s A0)) (G := fun _ _ => False) (args := [.ref (adr ad 0), .long v3]) (r := [.int v16, .ref (adr ad 0)]) hR rfl rfl rfl (Nat.le_of_ble_eq_true rfl) (Nat.le_of_ble_eq_true rfl) rfl (tk_0 hn rfl) (ts_578 hR hn hx (cI_mk ⟨rfl, rfl⟩)) ?_ (fun _ _ _ z => z.elim)
      rintro _ _ ⟨rfl, rfl⟩
      rcases iteC hy2 with ⟨hc, hy2⟩ | ⟨hc, hy2⟩
      · refine lQ.ifT rfl (decide_eq_true hc) ?_
        refine lQ.push rfl ?_
        obtain rfl := Option.some.inj hy2
        exact lQ.sub (lSb rfl (lSb rfl (lSb rfl (lSb rfl lSb0)))) hJ2
      · refine lQ.ifF rfl (decide_eq_false hc) ?_
        refine lQ.push rfl ?_
        refine lQ.goto rfl ?_
        obtain rfl := Option.some.inj hy2
        exact lQ.sub (lSb rfl (lSb rfl (lSb rfl (lSb rfl lSb0)))) hJ2
  rcases iteC hy1 with ⟨hc, hy1⟩ | ⟨hc, hy1⟩
  · refine lQ.ifT rfl (decide_eq_true hc) ?_
    refine lQ.push rfl ?_
    obtain rfl := Option.some.inj hy1
    exact lQ.sub (lSb rfl (lSb rfl (lSb rfl (lSb rfl lSb0)))) hJ1
  · refine lQ.ifF rfl (decide_eq_false hc) ?_
    refine lQ.loadI rfl rfl ?_
    refine lQ.push rfl ?_
    obtain ⟨x2, hx, hy1⟩ := bindC hy1
    refine lQ.callI (F := (fun y A => x2 = y ∧ A = tp ad s A0)) (G := fun _ _ => False) (args := [.int v2, .int 3]) (r := [.ref (adr ad 0)]) hR rfl rfl rfl (Nat.le_of_ble_eq_true rfl) (Nat.le_of_ble_eq_true rfl) (ts_560 hR hn hx (cI_mk ⟨rfl, rfl⟩)) ?_ (fun _ _ _ z => z.elim)
    rintro _ _ ⟨rfl, rfl⟩
    rcases iteC hy1 with ⟨hc, hy1⟩ | ⟨hc, hy1⟩
    · refine lQ.ifT rfl (decide_eq_true hc) ?_
      refine lQ.push rfl ?_
      obtain rfl := Option.some.inj hy1
      exact lQ.sub (lSb rfl (lSb rfl (lSb rfl (lSb rfl lSb0)))) hJ1
    · refine lQ.ifF rfl (decide_eq_false hc) ?_
      refine lQ.loadL rfl rfl ?_
      obtain ⟨x3, hx, hy1⟩ := bindC hy1
      refine lQ.callI (F := (fun y A => x3 = y ∧ A = tp ad s A0)) (G := fun _ _ => False) (args := [.long v3]) (r := [.ref (adr ad 0)]) hR rfl rfl rfl (Nat.le_of_ble_eq_true rfl) (Nat.le_of_ble_eq_true rfl) (ts_749 hR hn hx (cI_mk ⟨rfl, rfl⟩)) ?_ (fun _ _ _ z => z.elim)
      rintro _ _ ⟨rfl, rfl⟩
      rcases iteC hy1 with ⟨hc, hy1⟩ | ⟨hc, hy1⟩
      · refine lQ.ifT rfl (decide_eq_true hc) ?_
        refine lQ.push rfl ?_
        obtain rfl := Option.some.inj hy1
        exact lQ.sub (lSb rfl (lSb rfl (lSb rfl (lSb rfl lSb0)))) hJ1
      · refine lQ.ifF rfl (decide_eq_false hc) ?_
        refine lQ.push rfl ?_
        refine lQ.goto rfl ?_
        obtain rfl := Option.some.inj hy1
        exact lQ.sub (lSb rfl (lSb rfl (lSb rfl (lSb rfl lSb0)))) hJ1
theorem ts_581 {R : lAR} (hR : lRok R) {E : lE} {ad : List Nat} (hn : tOk ad) {v0 : Int32} {s : TS} {A0 : lMem} {x : Int32} (h : t_581 v0 s = some x) {Z : lZ} (hz : Z (.inl (some (.int x))) (tp ad s A0)) : lSQ R E 1 581 [.int v0] (tp ad s A0) Z := by
  refine lQ.sq pg_581 (Nat.le_of_ble_eq_true rfl) rfl ?_
  unfold t_581 at h
  refine lQ.loadI rfl rfl ?_
  rcases iteC h with ⟨hc, h⟩ | ⟨hc, h⟩
  · refine lQ.ifT rfl (decide_eq_true hc) ?_
    refine lQ.push rfl ?_
    obtain rfl := Option.some.inj h
    exact lQ.retI rfl rfl hz
  · refine lQ.ifF rfl (decide_eq_false hc) ?_
    refine lQ.loadI rfl rfl ?_
    refine lQ.push rfl ?_
    rcases iteC h with ⟨hc, h⟩ | ⟨hc, h⟩
    · refine lQ.cmpT rfl (decide_eq_true hc) ?_
      refine lQ.push rfl ?_
      obtain rfl := Option.some.inj h
      exact lQ.retI rfl rfl hz
    · refine lQ.cmpF rfl (decide_eq_false hc) ?_
      refine lQ.push rfl ?_
      refine lQ.goto rfl ?_
      obtain rfl := Option.some.inj h
      exact lQ.retI rfl rfl hz
theorem ts_757 {R : lAR} (hR : lRok R) {E : lE} {ad : List Nat} (hn : tOk ad) {v1 : Int32} {v2 : Int64} {s : TS} {A0 : lMem} {x : TS} (h : t_757 v1 v2 s = some x) {Z : lZ} (hz : Z (.inl none) (tp ad x A0)) : lSQ R E 1 757 [.ref (adr ad 2), .int v1, .long v2] (tp ad s A0) Z := by
  refine lQ.sq pg_757 (Nat.le_of_ble_eq_true rfl) rfl ?_
  unfold t_757 at h
  refine lQ.loadN rfl rfl ?_
  refine lQ.get hR rfl (tf_2_40 hn) ?_
  rcases iteC h with ⟨hc, h⟩ | ⟨hc, h⟩
  · refine lQ.ifF rfl (decide_eq_false (fun z => z hc)) ?_
    refine lQ.loadN rfl rfl ?_
    refine lQ.loadI rfl rfl ?_
    obtain ⟨s1, hx, h⟩ := bindC h
    refine lQ.put hR rfl rfl (tq_2_40 hn hx) ?_
    rintro _ rfl
    refine lQ.loadN rfl rfl ?_
    refine lQ.loadL rfl rfl ?_
    obtain ⟨s2, hx, h⟩ := bindC h
    refine lQ.put hR rfl rfl (tq_2_41 hn hx) ?_
    rintro _ rfl
    obtain rfl := Option.some.inj h
    exact lQ.retV rfl hz
  · refine lQ.ifT rfl (decide_eq_true hc) ?_
    obtain rfl := Option.some.inj h
    exact lQ.retV rfl hz
theorem ts_756 {R : lAR} (hR : lRok R) {E : lE} {ad : List Nat} (hn : tOk ad) {v1 : Int64} {v3 : Int64} {s : TS} {A0 : lMem} {x : TS} (h : t_756 v1 v3 s = some x) {Z : lZ} (hz : Z (.inl none) (tp ad x A0)) : lSQ R E 2 756 [.ref (adr ad 2), .long v1, .long v3] (tp ad s A0) Z := by
  refine lQ.sq pg_756 (Nat.le_of_ble_eq_true rfl) rfl ?_
  unfold t_756 at h
  refine lQ.loadL rfl rfl ?_
  refine lQ.stL rfl (lN2n rfl) rfl ?_
  refine lQ.loadL rfl rfl ?_
  refine lQ.stL rfl (lN2n rfl) rfl ?_
  obtain ⟨v17, hy1, h1⟩ := bindC h
  have hJ1 : lQ R E 1 cd_756 17 [(0, .ref (adr ad 2)), (1, .long v1), (3, .long v3), (5, .long v17)] [] (tp ad s A0) Z := by
    refine lQ.loadL rfl rfl ?_
    refine lQ.push rfl ?_
    refine lQ.lcmp rfl ?_
    obtain ⟨v25, hy2, h2⟩ := bindC h1
    have hJ2 : lQ R E 1 cd_756 25 [(0, .ref (adr ad 2)), (1, .long v1), (3, .long v3)] [.long v25] (tp ad s A0) Z := by
      refine lQ.stL rfl (lN2n rfl) rfl ?_
      refine lQ.loadL rfl rfl ?_
      refine lQ.push rfl ?_
      refine lQ.lcmp rfl ?_
      obtain ⟨v96, hy3, h3⟩ := bindC h2
      have hJ3 : lQ R E 1 cd_756 96 [(0, .ref (adr ad 2))] [] (tp ad v96 A0) Z := by
        refine lQ.loadN rfl rfl ?_
        refine lQ.dupN rfl ?_
        refine lQ.get hR rfl (tf_2_39 hn) ?_
        refine lQ.push rfl ?_
        refine lQ.binI rfl ?_
        obtain ⟨s11, hx, h3⟩ := bindC h3
        refine lQ.put hR rfl rfl (tq_2_39 hn hx) ?_
        rintro _ rfl
        obtain rfl := Option.some.inj h3
        exact lQ.retV rfl hz
      rcases iteC hy3 with ⟨hc, hy3⟩ | ⟨hc, hy3⟩
      · refine lQ.ifT rfl (decide_eq_true hc) ?_
        obtain rfl := Option.some.inj hy3
        exact lQ.sub (lSb rfl lSb0) hJ3
      · refine lQ.ifF rfl (decide_eq_false hc) ?_
        refine lQ.loadN rfl rfl ?_
        refine lQ.get hR rfl (tf_2_37 hn) ?_
        refine lQ.loadN rfl rfl ?_
        refine lQ.get hR rfl (tf_2_39 hn) ?_
        refine lQ.loadL rfl rfl ?_
        refine lQ.loadL rfl rfl ?_
        rcases iteC hy3 with ⟨_, hy3⟩ | ⟨hg, hy3⟩
        case inl => cases hy3
        refine lQ.divL rfl hg ?_
        obtain ⟨s1, hx, hy3⟩ := bindC hy3
        refine lQ.lst hR rfl (tw_97 hn hx) ?_
        rintro _ rfl
        refine lQ.loadN rfl rfl ?_
        refine lQ.get hR rfl (tf_2_38 hn) ?_
        refine lQ.loadN rfl rfl ?_
        refine lQ.get hR rfl (tf_2_39 hn) ?_
        refine lQ.loadL rfl rfl ?_
        refine lQ.loadL rfl rfl ?_
        rcases iteC hy3 with ⟨_, hy3⟩ | ⟨hg, hy3⟩
        case inl => cases hy3
        refine lQ.divL rfl hg ?_
        obtain ⟨s2, hx, hy3⟩ := bindC hy3
        refine lQ.lst hR rfl (tw_98 hn hx) ?_
        rintro _ rfl
        refine lQ.loadN rfl rfl ?_
        refine lQ.get hR rfl (tf_2_38 hn) ?_
        refine lQ.loadN rfl rfl ?_
        refine lQ.get hR rfl (tf_2_39 hn) ?_
        obtain ⟨x3, hx, hy3⟩ := bindC hy3
        refine lQ.ald hR rfl (ta_98 hn hx) ?_
        refine lQ.push rfl ?_
        refine lQ.lcmp rfl ?_
        rcases iteC hy3 with ⟨hc, hy3⟩ | ⟨hc, hy3⟩
        · refine lQ.ifF rfl (decide_eq_false (Int32.not_le.mpr hc)) ?_
          refine lQ.loadN rfl rfl ?_
          refine lQ.get hR rfl (tf_2_37 hn) ?_
          refine lQ.loadN rfl rfl ?_
          refine lQ.get hR rfl (tf_2_39 hn) ?_
          obtain ⟨x4, hx, hy3⟩ := bindC hy3
          refine lQ.ald hR rfl (ta_97 hn hx) ?_
          refine lQ.push rfl ?_
          refine lQ.lcmp rfl ?_
          obtain ⟨v74, hy4, h4⟩ := bindC hy3
          have hJ4 : lQ R E 1 cd_756 74 [(0, .ref (adr ad 2))] [] (tp ad v74 A0) Z := by
            refine lQ.loadN rfl rfl ?_
            refine lQ.get hR rfl (tf_2_37 hn) ?_
            refine lQ.loadN rfl rfl ?_
            refine lQ.get hR rfl (tf_2_39 hn) ?_
            refine lQ.loadN rfl rfl ?_
            refine lQ.get hR rfl (tf_2_37 hn) ?_
            refine lQ.loadN rfl rfl ?_
            refine lQ.get hR rfl (tf_2_39 hn) ?_
            obtain ⟨x7, hx, h4⟩ := bindC h4
            refine lQ.ald hR rfl (ta_97 hn hx) ?_
            refine lQ.unL rfl ?_
            obtain ⟨s8, hx, h4⟩ := bindC h4
            refine lQ.lst hR rfl (tw_97 hn hx) ?_
            rintro _ rfl
            refine lQ.loadN rfl rfl ?_
            refine lQ.get hR rfl (tf_2_38 hn) ?_
            refine lQ.loadN rfl rfl ?_
            refine lQ.get hR rfl (tf_2_39 hn) ?_
            refine lQ.loadN rfl rfl ?_
            refine lQ.get hR rfl (tf_2_38 hn) ?_
            refine lQ.loadN rfl rfl ?_
            refine lQ.get hR rfl (tf_2_39 hn) ?_
            obtain ⟨x9, hx, h4⟩ := bindC h4
            refine lQ.ald hR rfl (ta_98 hn hx) ?_
            refine lQ.unL rfl ?_
            obtain ⟨s10, hx, h4⟩ := bindC h4
            refine lQ.lst hR rfl (tw_98 hn hx) ?_
            rintro _ rfl
            obtain rfl := Option.some.inj h4
            exact lQ.sub (lSb rfl lSb0) hJ3
          obtain ⟨y5, hy5, h5⟩ := bindC hy4
          have hJ5 : ∀ v70, y5 = .inl v70 → lQ R E 1 cd_756 70 [(0, .ref (adr ad 2))] [] (tp ad s2 A0) Z := by
            rintro v70 rfl
            have h5 := elimC h5
            refine lQ.loadN rfl rfl ?_
            refine lQ.push rfl ?_
            refine lQ.push rfl ?_
            obtain ⟨x6, hx, h5⟩ := bindC h5
            refine lQ.callVV (F := (fun A => A = tp ad x6 A0)) (G := fun _ _ => False) (args := [.ref (adr ad 2), .int 2, .long 0]) (r := []) hR rfl rfl rfl (Nat.le_of_ble_eq_true rfl) (Nat.le_of_ble_eq_true rfl) rfl (tk_2 hn rfl) (ts_757 hR hn hx (cV_mk rfl)) ?_ (fun _ _ _ z => z.elim)
            rintro _ rfl
            obtain rfl := Option.some.inj h5
            exact lQ.sub (lSb rfl lSb0) hJ4
          rcases iteC hy5 with ⟨hc, hy5⟩ | ⟨hc, hy5⟩
          · refine lQ.ifT rfl (decide_eq_true hc) ?_
            obtain rfl := Option.some.inj hy5
            exact lQ.sub (lSb rfl lSb0) (hJ5 _ rfl)
          · refine lQ.ifF rfl (decide_eq_false hc) ?_
            refine lQ.loadN rfl rfl ?_
            refine lQ.get hR rfl (tf_2_38 hn) ?_
            refine lQ.loadN rfl rfl ?_
            refine lQ.get hR rfl (tf_2_39 hn) ?_
            obtain ⟨x5, hx, hy5⟩ := bindC hy5
            refine lQ.ald hR rfl (ta_98 hn hx) ?_
            refine lQ.push rfl ?_
            refine lQ.lcmp rfl ?_
            rcases iteC hy5 with ⟨hc, hy5⟩ | ⟨hc, hy5⟩
            · refine lQ.ifF rfl (decide_eq_false (fun z => z hc)) ?_
              obtain rfl := Option.some.inj hy5
              exact lQ.sub (lSb rfl lSb0) (hJ5 _ rfl)
            · refine lQ.ifT rfl (decide_eq_true hc) ?_
              obtain rfl := Option.some.inj hy5
              obtain rfl := elimD h5
              exact lQ.sub (lSb rfl lSb0) hJ4
        · refine lQ.ifT rfl (decide_eq_true (Int32.not_lt.mp hc)) ?_
          obtain rfl := Option.some.inj hy3
          exact lQ.sub (lSb rfl lSb0) hJ3
    rcases iteC hy2 with ⟨hc, hy2⟩ | ⟨hc, hy2⟩
    · refine lQ.ifF rfl (decide_eq_false (Int32.not_le.mpr hc)) ?_
      refine lQ.loadL rfl rfl ?_
      refine lQ.unL rfl ?_
      refine lQ.goto rfl ?_
      obtain rfl := Option.some.inj hy2
      exact lQ.sub (lSb rfl (lSb rfl (lSb rfl lSb0))) hJ2
    · refine lQ.ifT rfl (decide_eq_true (Int32.not_lt.mp hc)) ?_
      refine lQ.loadL rfl rfl ?_
      obtain rfl := Option.some.inj hy2
      exact lQ.sub (lSb rfl (lSb rfl (lSb rfl lSb0))) hJ2
  refine lQ.sub (lSb rfl (lSb rfl (lSb rfl (lSb rfl (lSb rfl lSb0))))) (wh_run (P := fun p4 => lQ R E 1 cd_756 4 [(0, .ref (adr ad 2)), (1, .long v1), (3, .long v3), (5, .long p4.1), (7, .long p4.2)] [] (tp ad s A0) Z) hy1 ?_)
  intro p4 r6 hb6 hI6 hX6
  refine lQ.loadL rfl rfl ?_
  refine lQ.push rfl ?_
  refine lQ.lcmp rfl ?_
  rcases iteC hb6 with ⟨hc, hb6⟩ | ⟨hc, hb6⟩
  · refine lQ.ifT rfl (decide_eq_true hc) ?_
    obtain rfl := Option.some.inj hb6
    obtain rfl := hX6 _ rfl
    exact lQ.sub (lSb rfl (lSb rfl (lSb rfl (lSb rfl lSb0)))) hJ1
  · refine lQ.ifF rfl (decide_eq_false hc) ?_
    refine lQ.loadL rfl rfl ?_
    refine lQ.loadL rfl rfl ?_
    rcases iteC hb6 with ⟨_, hb6⟩ | ⟨hg, hb6⟩
    case inl => cases hb6
    refine lQ.divL rfl hg ?_
    refine lQ.stL rfl (lN2n rfl) rfl ?_
    refine lQ.loadL rfl rfl ?_
    refine lQ.stL rfl (lN2n rfl) rfl ?_
    refine lQ.loadL rfl rfl ?_
    refine lQ.stL rfl (lN2n rfl) rfl ?_
    refine lQ.goto rfl ?_
    obtain rfl := Option.some.inj hb6
    exact lQ.sub (lSb rfl (lSb rfl (lSb rfl (lSb rfl (lSb rfl lSb0))))) (hI6 _ rfl)
theorem ts_759 {R : lAR} (hR : lRok R) {E : lE} {ad : List Nat} (hn : tOk ad) {v1 : Int64} {v3 : Int64} {s : TS} {A0 : lMem} {x : Int64 × TS} (h : t_759 v1 v3 s = some x) {Z : lZ} (hz : Z (.inl (some (.long x.1))) (tp ad x.2 A0)) : lSQ R E 2 759 [.ref (adr ad 2), .long v1, .long v3] (tp ad s A0) Z := by
  refine lQ.sq pg_759 (Nat.le_of_ble_eq_true rfl) rfl ?_
  unfold t_759 at h
  refine lQ.loadL rfl rfl ?_
  refine lQ.loadL rfl rfl ?_
  refine lQ.binL rfl ?_
  refine lQ.stL rfl (lN2n rfl) rfl ?_
  refine lQ.loadL rfl rfl ?_
  refine lQ.push rfl ?_
  refine lQ.lcmp rfl ?_
  rcases iteC h with ⟨hc, h⟩ | ⟨hc, h⟩
  · refine lQ.ifT rfl (decide_eq_true hc) ?_
    refine lQ.loadL rfl rfl ?_
    obtain rfl := Option.some.inj h
    exact lQ.retL rfl hz
  · refine lQ.ifF rfl (decide_eq_false hc) ?_
    refine lQ.loadL rfl rfl ?_
    refine lQ.push rfl ?_
    refine lQ.lcmp rfl ?_
    rcases iteC h with ⟨hc, h⟩ | ⟨hc, h⟩
    · refine lQ.ifT rfl (decide_eq_true hc) ?_
      refine lQ.loadL rfl rfl ?_
      obtain rfl := Option.some.inj h
      exact lQ.retL rfl hz
    · refine lQ.ifF rfl (decide_eq_false hc) ?_
      refine lQ.loadL rfl rfl ?_
      refine lQ.loadL rfl rfl ?_
      rcases iteC h with ⟨_, h⟩ | ⟨hg, h⟩
      case inl => cases h
      refine lQ.divL rfl hg ?_
      refine lQ.loadL rfl rfl ?_
      refine lQ.lcmp rfl ?_
      obtain ⟨y1, hy1, h1⟩ := bindC h
      have hJ1 : ∀ v24, y1 = .inl v24 → lQ R E 1 cd_759 24 [(0, .ref (adr ad 2)), (5, .long (v1 * v3))] [] (tp ad s A0) Z := by
        rintro v24 rfl
        have h1 := elimC h1
        refine lQ.loadN rfl rfl ?_
        refine lQ.push rfl ?_
        refine lQ.push rfl ?_
        obtain ⟨x1, hx, h1⟩ := bindC h1
        refine lQ.callVV (F := (fun A => A = tp ad x1 A0)) (G := fun _ _ => False) (args := [.ref (adr ad 2), .int 2, .long 0]) (r := []) hR rfl rfl rfl (Nat.le_of_ble_eq_true rfl) (Nat.le_of_ble_eq_true rfl) rfl (tk_2 hn rfl) (ts_757 hR hn hx (cV_mk rfl)) ?_ (fun _ _ _ z => z.elim)
        rintro _ rfl
        refine lQ.loadL rfl rfl ?_
        obtain rfl := Option.some.inj h1
        exact lQ.retL rfl hz
      rcases iteC hy1 with ⟨hc, hy1⟩ | ⟨hc, hy1⟩
      · refine lQ.ifF rfl (decide_eq_false (fun z => z hc)) ?_
        refine lQ.loadL rfl rfl ?_
        refine lQ.loadL rfl rfl ?_
        rcases iteC hy1 with ⟨_, hy1⟩ | ⟨hg, hy1⟩
        case inl => cases hy1
        refine lQ.divL rfl hg ?_
        refine lQ.loadL rfl rfl ?_
        refine lQ.lcmp rfl ?_
        rcases iteC hy1 with ⟨hc, hy1⟩ | ⟨hc, hy1⟩
        · refine lQ.ifT rfl (decide_eq_true hc) ?_
          refine lQ.loadL rfl rfl ?_
          obtain rfl := Option.some.inj hy1
          obtain rfl := elimD h1
          exact lQ.retL rfl hz
        · refine lQ.ifF rfl (decide_eq_false hc) ?_
          obtain rfl := Option.some.inj hy1
          exact lQ.sub (lSb rfl (lSb rfl lSb0)) (hJ1 _ rfl)
      · refine lQ.ifT rfl (decide_eq_true hc) ?_
        obtain rfl := Option.some.inj hy1
        exact lQ.sub (lSb rfl (lSb rfl lSb0)) (hJ1 _ rfl)
