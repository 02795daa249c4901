set_option maxRecDepth 100000
theorem ts_622 {R : lAR} (hR : lRok R) {E : lE} {ad : List Nat} (hn : tOk ad) {s : TS} {A0 : lMem} {x : Int32 × TS} (h : t_622 s = some x) {Z : lZ} (hz : Z (.inl (some (.int x.1))) (tp ad x.2 A0)) : lSQ R E 7 622 [.ref (adr ad 0)] (tp ad s A0) Z := by
  refine lQ.sq pg_622 (Nat.le_of_ble_eq_true rfl) rfl ?_
  unfold t_622 at h
  refine lQ.loadN rfl rfl ?_
  refine lQ.loadN rfl rfl ?_
  refine lQ.get hR rfl (tf_0_1 hn) ?_
  obtain ⟨x1, hx, h⟩ := bindC h
  refine lQ.callVI (F := (fun y A => x1.1 = y ∧ A = tp ad x1.2 A0)) (G := fun _ _ => False) (args := [.ref (adr ad 0), .int (s.1 1)]) (r := []) hR rfl rfl rfl (Nat.le_of_ble_eq_true rfl) (Nat.le_of_ble_eq_true rfl) rfl (tk_0 hn rfl) (ts_563 hR hn hx (cI_mk ⟨rfl, rfl⟩)) ?_ (fun _ _ _ z => z.elim)
  rintro _ _ ⟨rfl, rfl⟩
  rcases iteC h with ⟨hc, h⟩ | ⟨hc, h⟩
  · refine lQ.ifT rfl (decide_eq_true hc) ?_
    refine lQ.push rfl ?_
    obtain rfl := Option.some.inj h
    exact lQ.retI rfl rfl hz
  · refine lQ.ifF rfl (decide_eq_false hc) ?_
    refine lQ.loadN rfl rfl ?_
    refine lQ.get hR rfl (tf_0_5 hn) ?_
    obtain ⟨x2, hx, h⟩ := bindC h
    refine lQ.callVI (F := (fun y A => x2.1 = y ∧ A = tp ad x2.2 A0)) (G := fun _ _ => False) (args := [.ref (adr ad 3)]) (r := []) hR rfl rfl rfl (Nat.le_of_ble_eq_true rfl) (Nat.le_of_ble_eq_true rfl) rfl (tk_3 hn rfl) (ts_773 hR hn hx (cI_mk ⟨rfl, rfl⟩)) ?_ (fun _ _ _ z => z.elim)
    rintro _ _ ⟨rfl, rfl⟩
    refine lQ.goto rfl ?_
    obtain rfl := Option.some.inj h
    exact lQ.retI rfl rfl hz
theorem ts_623 {R : lAR} (hR : lRok R) {E : lE} {ad : List Nat} (hn : tOk ad) {v1 : Int32} {v2 : Int32} {s : TS} {A0 : lMem} {x : Int32 × TS} (h : t_623 v1 v2 s = some x) {Z : lZ} (hz : Z (.inl (some (.int x.1))) (tp ad x.2 A0)) : lSQ R E 2 623 [.ref (adr ad 0), .int v1, .int v2] (tp ad s A0) Z := by
  refine lQ.sq pg_623 (Nat.le_of_ble_eq_true rfl) rfl ?_
  unfold t_623 at h
  refine lQ.loadN rfl rfl ?_
  refine lQ.loadI rfl rfl ?_
  refine lQ.loadN rfl rfl ?_
  refine lQ.get hR rfl (tf_0_5 hn) ?_
  refine lQ.get hR rfl (tf_3_0 hn) ?_
  obtain ⟨x1, hx, h⟩ := bindC h
  refine lQ.callI (F := (fun y A => x1 = y ∧ A = tp ad s A0)) (G := fun _ _ => False) (args := [.int v1, .int (s.1 300)]) (r := [.ref (adr ad 0)]) hR rfl rfl rfl (Nat.le_of_ble_eq_true rfl) (Nat.le_of_ble_eq_true rfl) (ts_560 hR hn hx (cI_mk ⟨rfl, rfl⟩)) ?_ (fun _ _ _ z => z.elim)
  rintro _ _ ⟨rfl, rfl⟩
  obtain ⟨v15, hy1, h1⟩ := bindC h
  have hJ1 : lQ R E 1 cd_623 15 [(0, .ref (adr ad 0)), (1, .int v1), (2, .int v2)] [.int v15, .ref (adr ad 0)] (tp ad s A0) Z := by
    refine lQ.loadN rfl rfl ?_
    refine lQ.get hR rfl (tf_0_1 hn) ?_
    obtain ⟨x2, hx, h1⟩ := bindC h1
    refine lQ.callVI (F := (fun y A => x2.1 = y ∧ A = tp ad x2.2 A0)) (G := fun _ _ => False) (args := [.ref (adr ad 0), .int v15, .int (s.1 1)]) (r := []) hR rfl rfl rfl (Nat.le_of_ble_eq_true rfl) (Nat.le_of_ble_eq_true rfl) rfl (tk_0 hn rfl) (ts_558 hR hn hx (cI_mk ⟨rfl, rfl⟩)) ?_ (fun _ _ _ z => z.elim)
    rintro _ _ ⟨rfl, rfl⟩
    rcases iteC h1 with ⟨hc, h1⟩ | ⟨hc, h1⟩
    · refine lQ.ifF rfl (decide_eq_false (fun z => z hc)) ?_
      refine lQ.push rfl ?_
      obtain rfl := Option.some.inj h1
      exact lQ.retI rfl rfl hz
    · refine lQ.ifT rfl (decide_eq_true hc) ?_
      refine lQ.loadN rfl rfl ?_
      refine lQ.get hR rfl (tf_0_5 hn) ?_
      refine lQ.get hR rfl (tf_3_2 hn) ?_
      refine lQ.loadI rfl rfl ?_
      obtain ⟨x3, hx, h1⟩ := bindC h1
      refine lQ.ald hR rfl (ta_99 hn hx) ?_
      refine lQ.stI rfl (lN2s rfl rfl) ?_
      refine lQ.loadN rfl rfl ?_
      refine lQ.get hR rfl (tf_0_5 hn) ?_
      refine lQ.get hR rfl (tf_3_2 hn) ?_
      refine lQ.loadI rfl rfl ?_
      refine lQ.loadI rfl rfl ?_
      obtain ⟨s4, hx, h1⟩ := bindC h1
      refine lQ.ast hR rfl (tw_99 hn hx) ?_
      rintro _ rfl
      refine lQ.loadI rfl rfl ?_
      obtain rfl := Option.some.inj h1
      exact lQ.retI rfl rfl hz
  rcases iteC hy1 with ⟨hc, hy1⟩ | ⟨hc, hy1⟩
  · refine lQ.ifT rfl (decide_eq_true hc) ?_
    refine lQ.push rfl ?_
    obtain rfl := Option.some.inj hy1
    exact lQ.sub (lSb rfl (lSb rfl (lSb rfl lSb0))) hJ1
  · refine lQ.ifF rfl (decide_eq_false hc) ?_
    refine lQ.loadI rfl rfl ?_
    rcases iteC hy1 with ⟨hc, hy1⟩ | ⟨hc, hy1⟩
    · refine lQ.ifT rfl (decide_eq_true hc) ?_
      refine lQ.push rfl ?_
      obtain rfl := Option.some.inj hy1
      exact lQ.sub (lSb rfl (lSb rfl (lSb rfl lSb0))) hJ1
    · refine lQ.ifF rfl (decide_eq_false hc) ?_
      refine lQ.loadI rfl rfl ?_
      refine lQ.push rfl ?_
      rcases iteC hy1 with ⟨hc, hy1⟩ | ⟨hc, hy1⟩
      · refine lQ.cmpT rfl (decide_eq_true hc) ?_
        refine lQ.push rfl ?_
        obtain rfl := Option.some.inj hy1
        exact lQ.sub (lSb rfl (lSb rfl (lSb rfl lSb0))) hJ1
      · refine lQ.cmpF rfl (decide_eq_false hc) ?_
        refine lQ.push rfl ?_
        refine lQ.goto rfl ?_
        obtain rfl := Option.some.inj hy1
        exact lQ.sub (lSb rfl (lSb rfl (lSb rfl lSb0))) hJ1
theorem ts_624 {R : lAR} (hR : lRok R) {E : lE} {ad : List Nat} (hn : tOk ad) {v1 : Int32} {v2 : Int32} {s : TS} {A0 : lMem} {x : Int32 × TS} (h : t_624 v1 v2 s = some x) {Z : lZ} (hz : Z (.inl (some (.int x.1))) (tp ad x.2 A0)) : lSQ R E 2 624 [.ref (adr ad 0), .int v1, .int v2] (tp ad s A0) Z := by
  refine lQ.sq pg_624 (Nat.le_of_ble_eq_true rfl) rfl ?_
  unfold t_624 at h
  refine lQ.loadN rfl rfl ?_
  refine lQ.loadI rfl rfl ?_
  refine lQ.loadN rfl rfl ?_
  refine lQ.get hR rfl (tf_0_5 hn) ?_
  refine lQ.get hR rfl (tf_3_0 hn) ?_
  obtain ⟨x1, hx, h⟩ := bindC h
  refine lQ.callI (F := (fun y A => x1 = y ∧ A = tp ad s A0)) (G := fun _ _ => False) (args := [.int v1, .int (s.1 300)]) (r := [.ref (adr ad 0)]) hR rfl rfl rfl (Nat.le_of_ble_eq_true rfl) (Nat.le_of_ble_eq_true rfl) (ts_560 hR hn hx (cI_mk ⟨rfl, rfl⟩)) ?_ (fun _ _ _ z => z.elim)
  rintro _ _ ⟨rfl, rfl⟩
  refine lQ.loadN rfl rfl ?_
  refine lQ.get hR rfl (tf_0_1 hn) ?_
  obtain ⟨x2, hx, h⟩ := bindC h
  refine lQ.callVI (F := (fun y A => x2.1 = y ∧ A = tp ad x2.2 A0)) (G := fun _ _ => False) (args := [.ref (adr ad 0), .int x1, .int (s.1 1)]) (r := []) hR rfl rfl rfl (Nat.le_of_ble_eq_true rfl) (Nat.le_of_ble_eq_true rfl) rfl (tk_0 hn rfl) (ts_558 hR hn hx (cI_mk ⟨rfl, rfl⟩)) ?_ (fun _ _ _ z => z.elim)
  rintro _ _ ⟨rfl, rfl⟩
  rcases iteC h with ⟨hc, h⟩ | ⟨hc, h⟩
  · refine lQ.ifF rfl (decide_eq_false (fun z => z hc)) ?_
    refine lQ.push rfl ?_
    obtain rfl := Option.some.inj h
    exact lQ.retI rfl rfl hz
  · refine lQ.ifT rfl (decide_eq_true hc) ?_
    refine lQ.loadN rfl rfl ?_
    refine lQ.get hR rfl (tf_0_5 hn) ?_
    refine lQ.get hR rfl (tf_3_3 hn) ?_
    refine lQ.loadI rfl rfl ?_
    obtain ⟨x3, hx, h⟩ := bindC h
    refine lQ.ald hR rfl (ta_100 hn hx) ?_
    refine lQ.stI rfl (lN2s rfl rfl) ?_
    refine lQ.loadN rfl rfl ?_
    refine lQ.get hR rfl (tf_0_5 hn) ?_
    refine lQ.get hR rfl (tf_3_3 hn) ?_
    refine lQ.loadI rfl rfl ?_
    refine lQ.loadI rfl rfl ?_
    obtain ⟨s4, hx, h⟩ := bindC h
    refine lQ.bst hR rfl (tw_100 hn hx) ?_
    rintro _ rfl
    refine lQ.loadI rfl rfl ?_
    rcases iteC h with ⟨hg, h⟩ | ⟨_, h⟩
    case inr => cases h
    have hb := hg
    obtain rfl := Option.some.inj h
    exact lQ.retI rfl (fitB hb) hz
theorem ts_625 {R : lAR} (hR : lRok R) {E : lE} {ad : List Nat} (hn : tOk ad) {v1 : Int32} {v2 : Int32} {s : TS} {A0 : lMem} {x : Int32 × TS} (h : t_625 v1 v2 s = some x) {Z : lZ} (hz : Z (.inl (some (.int x.1))) (tp ad x.2 A0)) : lSQ R E 2 625 [.ref (adr ad 0), .int v1, .int v2] (tp ad s A0) Z := by
  refine lQ.sq pg_625 (Nat.le_of_ble_eq_true rfl) rfl ?_
  unfold t_625 at h
  refine lQ.loadN rfl rfl ?_
  refine lQ.loadI rfl rfl ?_
  refine lQ.loadN rfl rfl ?_
  refine lQ.get hR rfl (tf_0_5 hn) ?_
  refine lQ.get hR rfl (tf_3_0 hn) ?_
  obtain ⟨x1, hx, h⟩ := bindC h
  refine lQ.callI (F := (fun y A => x1 = y ∧ A = tp ad s A0)) (G := fun _ _ => False) (args := [.int v1, .int (s.1 300)]) (r := [.ref (adr ad 0)]) hR rfl rfl rfl (Nat.le_of_ble_eq_true rfl) (Nat.le_of_ble_eq_true rfl) (ts_560 hR hn hx (cI_mk ⟨rfl, rfl⟩)) ?_ (fun _ _ _ z => z.elim)
  rintro _ _ ⟨rfl, rfl⟩
  obtain ⟨v15, hy1, h1⟩ := bindC h
  have hJ1 : lQ R E 1 cd_625 15 [(0, .ref (adr ad 0)), (1, .int v1), (2, .int v2)] [.int v15, .ref (adr ad 0)] (tp ad s A0) Z := by
    refine lQ.loadN rfl rfl ?_
    refine lQ.get hR rfl (tf_0_1 hn) ?_
    obtain ⟨x2, hx, h1⟩ := bindC h1
    refine lQ.callVI (F := (fun y A => x2.1 = y ∧ A = tp ad x2.2 A0)) (G := fun _ _ => False) (args := [.ref (adr ad 0), .int v15, .int (s.1 1)]) (r := []) hR rfl rfl rfl (Nat.le_of_ble_eq_true rfl) (Nat.le_of_ble_eq_true rfl) rfl (tk_0 hn rfl) (ts_558 hR hn hx (cI_mk ⟨rfl, rfl⟩)) ?_ (fun _ _ _ z => z.elim)
    rintro _ _ ⟨rfl, rfl⟩
    rcases iteC h1 with ⟨hc, h1⟩ | ⟨hc, h1⟩
    · refine lQ.ifF rfl (decide_eq_false (fun z => z hc)) ?_
      refine lQ.push rfl ?_
      obtain rfl := Option.some.inj h1
      exact lQ.retI rfl rfl hz
    · refine lQ.ifT rfl (decide_eq_true hc) ?_
      refine lQ.loadN rfl rfl ?_
      refine lQ.get hR rfl (tf_0_5 hn) ?_
      refine lQ.get hR rfl (tf_3_4 hn) ?_
      refine lQ.loadI rfl rfl ?_
      obtain ⟨x3, hx, h1⟩ := bindC h1
      refine lQ.ald hR rfl (ta_101 hn hx) ?_
      refine lQ.stI rfl (lN2s rfl rfl) ?_
      refine lQ.loadN rfl rfl ?_
      refine lQ.get hR rfl (tf_0_5 hn) ?_
      refine lQ.get hR rfl (tf_3_4 hn) ?_
      refine lQ.loadI rfl rfl ?_
      refine lQ.loadI rfl rfl ?_
      obtain ⟨s4, hx, h1⟩ := bindC h1
      refine lQ.ast hR rfl (tw_101 hn hx) ?_
      rintro _ rfl
      refine lQ.loadI rfl rfl ?_
      obtain rfl := Option.some.inj h1
      exact lQ.retI rfl rfl hz
  rcases iteC hy1 with ⟨hc, hy1⟩ | ⟨hc, hy1⟩
  · refine lQ.ifT rfl (decide_eq_true hc) ?_
    refine lQ.push rfl ?_
    obtain rfl := Option.some.inj hy1
    exact lQ.sub (lSb rfl (lSb rfl (lSb rfl lSb0))) hJ1
  · refine lQ.ifF rfl (decide_eq_false hc) ?_
    refine lQ.loadI rfl rfl ?_
    rcases iteC hy1 with ⟨hc, hy1⟩ | ⟨hc, hy1⟩
    · refine lQ.ifT rfl (decide_eq_true hc) ?_
      refine lQ.push rfl ?_
      obtain rfl := Option.some.inj hy1
      exact lQ.sub (lSb rfl (lSb rfl (lSb rfl lSb0))) hJ1
    · refine lQ.ifF rfl (decide_eq_false hc) ?_
      refine lQ.loadI rfl rfl ?_
      refine lQ.push rfl ?_
      rcases iteC hy1 with ⟨hc, hy1⟩ | ⟨hc, hy1⟩
      · refine lQ.cmpT rfl (decide_eq_true hc) ?_
        refine lQ.push rfl ?_
        obtain rfl := Option.some.inj hy1
        exact lQ.sub (lSb rfl (lSb rfl (lSb rfl lSb0))) hJ1
      · refine lQ.cmpF rfl (decide_eq_false hc) ?_
        refine lQ.push rfl ?_
        refine lQ.goto rfl ?_
        obtain rfl := Option.some.inj hy1
        exact lQ.sub (lSb rfl (lSb rfl (lSb rfl lSb0))) hJ1
theorem ts_792 {R : lAR} (hR : lRok R) {E : lE} {ad : List Nat} (hn : tOk ad) {v1 : Int32} {s : TS} {A0 : lMem} {x : Int32 × TS} (h : t_792 v1 s = some x) {Z : lZ} (hz : Z (.inl (some (.int x.1))) (tp ad x.2 A0)) : lSQ R E 1 792 [.ref (adr ad 3), .int v1] (tp ad s A0) Z := by
  refine lQ.sq pg_792 (Nat.le_of_ble_eq_true rfl) rfl ?_
  unfold t_792 at h
  refine lQ.push rfl ?_
  refine lQ.stI rfl (lN2s rfl rfl) ?_
  refine lQ.push rfl ?_
  refine lQ.stI rfl (lN2s rfl rfl) ?_
  obtain ⟨v68, hy1, h1⟩ := bindC h
  have hJ1 : lQ R E 0 cd_792 68 [(2, .int v68.2)] [] (tp ad v68.1 A0) Z := by
    refine lQ.loadI rfl rfl ?_
    obtain rfl := Option.some.inj h1
    exact lQ.retI rfl rfl hz
  refine lQ.sub (lSb rfl (lSb rfl (lSb rfl (lSb rfl lSb0)))) (wh_run (P := fun p4 => lQ R E 0 cd_792 4 [(0, .ref (adr ad 3)), (1, .int v1), (2, .int p4.2.1), (3, .int p4.2.2)] [] (tp ad p4.1 A0) Z) hy1 ?_)
  intro p4 r2 hb2 hI2 hX2
  refine lQ.loadI rfl rfl ?_
  refine lQ.push rfl ?_
  rcases iteC hb2 with ⟨hc, hb2⟩ | ⟨hc, hb2⟩
  · refine lQ.cmpF rfl (decide_eq_false (Int32.not_le.mpr hc)) ?_
    refine lQ.loadN rfl rfl ?_
    refine lQ.get hR rfl (tf_3_16 hn) ?_
    refine lQ.loadI rfl rfl ?_
    obtain ⟨x1, hx, hb2⟩ := bindC hb2
    refine lQ.ald hR rfl (ta_109 hn hx) ?_
    obtain ⟨v34, hy3, h3⟩ := bindC hb2
    have hJ3 : lQ R E 0 cd_792 34 [(0, .ref (adr ad 3)), (1, .int v1), (2, .int p4.2.1), (3, .int p4.2.2)] [.int v34] (tp ad p4.1 A0) Z := by
      refine lQ.stI rfl (lN2s rfl rfl) ?_
      refine lQ.loadI rfl rfl ?_
      obtain ⟨v58, hy4, h4⟩ := bindC h3
      have hJ4 : lQ R E 0 cd_792 58 [(0, .ref (adr ad 3)), (1, .int v1), (2, .int p4.2.1), (3, .int p4.2.2), (4, .int v34)] [] (tp ad v58 A0) Z := by
        refine lQ.loadI rfl rfl ?_
        refine lQ.loadI rfl rfl ?_
        obtain ⟨v64, hy5, h5⟩ := bindC h4
        have hJ5 : lQ R E 0 cd_792 64 [(0, .ref (adr ad 3)), (1, .int v1), (3, .int p4.2.2)] [.int v64, .int p4.2.1] (tp ad v58 A0) Z := by
          refine lQ.binI rfl ?_
          refine lQ.stI rfl (lN2s rfl rfl) ?_
          refine lQ.inc rfl rfl (lN2s rfl rfl) ?_
          refine lQ.goto rfl ?_
          obtain rfl := Option.some.inj h5
          exact lQ.sub (lSb rfl (lSb rfl (lSb rfl (lSb rfl lSb0)))) (hI2 _ rfl)
        rcases iteC hy5 with ⟨hc, hy5⟩ | ⟨hc, hy5⟩
        · refine lQ.ifT rfl (decide_eq_true hc) ?_
          refine lQ.push rfl ?_
          obtain rfl := Option.some.inj hy5
          exact lQ.sub (lSb rfl (lSb rfl (lSb rfl lSb0))) hJ5
        · refine lQ.ifF rfl (decide_eq_false hc) ?_
          refine lQ.push rfl ?_
          refine lQ.goto rfl ?_
          obtain rfl := Option.some.inj hy5
          exact lQ.sub (lSb rfl (lSb rfl (lSb rfl lSb0))) hJ5
      obtain ⟨y6, hy6, h6⟩ := bindC hy4
      have hJ6 : ∀ v51, y6 = .inl v51 → lQ R E 0 cd_792 51 [(0, .ref (adr ad 3)), (1, .int v1), (2, .int p4.2.1), (3, .int p4.2.2), (4, .int v34)] [] (tp ad p4.1 A0) Z := by
        rintro v51 rfl
        have h6 := elimC h6
        refine lQ.loadI rfl rfl ?_
        rcases iteC h6 with ⟨hc, h6⟩ | ⟨hc, h6⟩
        · refine lQ.ifT rfl (decide_eq_true hc) ?_
          obtain rfl := Option.some.inj h6
          exact lQ.sub (lSb rfl (lSb rfl (lSb rfl (lSb rfl (lSb rfl lSb0))))) hJ4
        · refine lQ.ifF rfl (decide_eq_false hc) ?_
          refine lQ.loadN rfl rfl ?_
          refine lQ.get hR rfl (tf_3_29 hn) ?_
          refine lQ.loadI rfl rfl ?_
          refine lQ.push rfl ?_
          obtain ⟨s7, hx, h6⟩ := bindC h6
          refine lQ.bst hR rfl (tw_120 hn hx) ?_
          rintro _ rfl
          obtain rfl := Option.some.inj h6
          exact lQ.sub (lSb rfl (lSb rfl (lSb rfl (lSb rfl (lSb rfl lSb0))))) hJ4
      rcases iteC hy6 with ⟨hc, hy6⟩ | ⟨hc, hy6⟩
      · refine lQ.ifT rfl (decide_eq_true hc) ?_
        obtain rfl := Option.some.inj hy6
        exact lQ.sub (lSb rfl (lSb rfl (lSb rfl (lSb rfl (lSb rfl lSb0))))) (hJ6 _ rfl)
      · refine lQ.ifF rfl (decide_eq_false hc) ?_
        refine lQ.loadI rfl rfl ?_
        rcases iteC hy6 with ⟨hc, hy6⟩ | ⟨hc, hy6⟩
        · refine lQ.ifF rfl (decide_eq_false (fun z => z hc)) ?_
          refine lQ.loadN rfl rfl ?_
          refine lQ.get hR rfl (tf_3_27 hn) ?_
          refine lQ.loadI rfl rfl ?_
          refine lQ.loadN rfl rfl ?_
          refine lQ.get hR rfl (tf_3_1 hn) ?_
          obtain ⟨s5, hx, hy6⟩ := bindC hy6
          refine lQ.ast hR rfl (tw_118 hn hx) ?_
          rintro _ rfl
          refine lQ.loadN rfl rfl ?_
          refine lQ.get hR rfl (tf_3_28 hn) ?_
          refine lQ.loadI rfl rfl ?_
          refine lQ.push rfl ?_
          obtain ⟨s6, hx, hy6⟩ := bindC hy6
          refine lQ.bst hR rfl (tw_119 hn hx) ?_
          rintro _ rfl
          refine lQ.goto rfl ?_
          obtain rfl := Option.some.inj hy6
          obtain rfl := elimD h6
          exact lQ.sub (lSb rfl (lSb rfl (lSb rfl (lSb rfl (lSb rfl lSb0))))) hJ4
        · refine lQ.ifT rfl (decide_eq_true hc) ?_
          obtain rfl := Option.some.inj hy6
          exact lQ.sub (lSb rfl (lSb rfl (lSb rfl (lSb rfl (lSb rfl lSb0))))) (hJ6 _ rfl)
    rcases iteC hy3 with ⟨hc, hy3⟩ | ⟨hc, hy3⟩
    · refine lQ.ifT rfl (decide_eq_true hc) ?_
      refine lQ.push rfl ?_
      obtain rfl := Option.some.inj hy3
      exact lQ.sub (lSb rfl (lSb rfl (lSb rfl (lSb rfl lSb0)))) hJ3
    · refine lQ.ifF rfl (decide_eq_false hc) ?_
      refine lQ.loadN rfl rfl ?_
      refine lQ.get hR rfl (tf_3_26 hn) ?_
      refine lQ.loadI rfl rfl ?_
      obtain ⟨x2, hx, hy3⟩ := bindC hy3
      refine lQ.ald hR rfl (ta_117 hn hx) ?_
      refine lQ.push rfl ?_
      rcases iteC hy3 with ⟨hc, hy3⟩ | ⟨hc, hy3⟩
      · refine lQ.cmpF rfl (decide_eq_false (fun z => z hc)) ?_
        refine lQ.loadI rfl rfl ?_
        rcases iteC hy3 with ⟨hc, hy3⟩ | ⟨hc, hy3⟩
        · refine lQ.ifF rfl (decide_eq_false (fun z => z hc)) ?_
          refine lQ.loadN rfl rfl ?_
          refine lQ.get hR rfl (tf_3_28 hn) ?_
          refine lQ.loadI rfl rfl ?_
          obtain ⟨x4, hx, hy3⟩ := bindC hy3
          refine lQ.ald hR rfl (ta_119 hn hx) ?_
          rcases iteC hy3 with ⟨hc, hy3⟩ | ⟨hc, hy3⟩
          · refine lQ.ifT rfl (decide_eq_true hc) ?_
            refine lQ.push rfl ?_
            refine lQ.goto rfl ?_
            obtain rfl := Option.some.inj hy3
            exact lQ.sub (lSb rfl (lSb rfl (lSb rfl (lSb rfl lSb0)))) hJ3
          · refine lQ.ifF rfl (decide_eq_false hc) ?_
            refine lQ.goto rfl ?_
            refine lQ.push rfl ?_
            obtain rfl := Option.some.inj hy3
            exact lQ.sub (lSb rfl (lSb rfl (lSb rfl (lSb rfl lSb0)))) hJ3
        · refine lQ.ifT rfl (decide_eq_true hc) ?_
          refine lQ.loadN rfl rfl ?_
          refine lQ.get hR rfl (tf_3_29 hn) ?_
          refine lQ.loadI rfl rfl ?_
          obtain ⟨x3, hx, hy3⟩ := bindC hy3
          refine lQ.ald hR rfl (ta_120 hn hx) ?_
          rcases iteC hy3 with ⟨hc, hy3⟩ | ⟨hc, hy3⟩
          · refine lQ.ifF rfl (decide_eq_false (fun z => z hc)) ?_
            refine lQ.push rfl ?_
            refine lQ.goto rfl ?_
            obtain rfl := Option.some.inj hy3
            exact lQ.sub (lSb rfl (lSb rfl (lSb rfl (lSb rfl lSb0)))) hJ3
          · refine lQ.ifT rfl (decide_eq_true hc) ?_
            refine lQ.push rfl ?_
            obtain rfl := Option.some.inj hy3
            exact lQ.sub (lSb rfl (lSb rfl (lSb rfl (lSb rfl lSb0)))) hJ3
      · refine lQ.cmpT rfl (decide_eq_true hc) ?_
        refine lQ.push rfl ?_
        obtain rfl := Option.some.inj hy3
        exact lQ.sub (lSb rfl (lSb rfl (lSb rfl (lSb rfl lSb0)))) hJ3
  · refine lQ.cmpT rfl (decide_eq_true (Int32.not_lt.mp hc)) ?_
    obtain rfl := Option.some.inj hb2
    obtain rfl := hX2 _ rfl
    exact lQ.sub (lSb rfl lSb0) hJ1
theorem ts_626 {R : lAR} (hR : lRok R) {E : lE} {ad : List Nat} (hn : tOk ad) {v1 : Int32} {s : TS} {A0 : lMem} {x : Int32 × TS} (h : t_626 v1 s = some x) {Z : lZ} (hz : Z (.inl (some (.int x.1))) (tp ad x.2 A0)) : lSQ R E 2 626 [.ref (adr ad 0), .int v1] (tp ad s A0) Z := by
  refine lQ.sq pg_626 (Nat.le_of_ble_eq_true rfl) rfl ?_
  unfold t_626 at h
  refine lQ.loadN rfl rfl ?_
  refine lQ.loadI rfl rfl ?_
  obtain ⟨v9, hy1, h1⟩ := bindC h
  have hJ1 : lQ R E 1 cd_626 9 [(0, .ref (adr ad 0)), (1, .int v1)] [.int v9, .ref (adr ad 0)] (tp ad s A0) Z := by
    refine lQ.loadN rfl rfl ?_
    refine lQ.get hR rfl (tf_0_1 hn) ?_
    obtain ⟨x1, hx, h1⟩ := bindC h1
    refine lQ.callVI (F := (fun y A => x1.1 = y ∧ A = tp ad x1.2 A0)) (G := fun _ _ => False) (args := [.ref (adr ad 0), .int v9, .int (s.1 1)]) (r := []) hR rfl rfl rfl (Nat.le_of_ble_eq_true rfl) (Nat.le_of_ble_eq_true rfl) rfl (tk_0 hn rfl) (ts_558 hR hn hx (cI_mk ⟨rfl, rfl⟩)) ?_ (fun _ _ _ z => z.elim)
    rintro _ _ ⟨rfl, rfl⟩
    rcases iteC h1 with ⟨hc, h1⟩ | ⟨hc, h1⟩
    · refine lQ.ifT rfl (decide_eq_true hc) ?_
      refine lQ.push rfl ?_
      obtain rfl := Option.some.inj h1
      exact lQ.retI rfl rfl hz
    · refine lQ.ifF rfl (decide_eq_false hc) ?_
      refine lQ.loadN rfl rfl ?_
      refine lQ.get hR rfl (tf_0_5 hn) ?_
      refine lQ.loadI rfl rfl ?_
      obtain ⟨x2, hx, h1⟩ := bindC h1
      refine lQ.callVI (F := (fun y A => x2.1 = y ∧ A = tp ad x2.2 A0)) (G := fun _ _ => False) (args := [.ref (adr ad 3), .int v1]) (r := []) hR rfl rfl rfl (Nat.le_of_ble_eq_true rfl) (Nat.le_of_ble_eq_true rfl) rfl (tk_3 hn rfl) (ts_792 hR hn hx (cI_mk ⟨rfl, rfl⟩)) ?_ (fun _ _ _ z => z.elim)
      rintro _ _ ⟨rfl, rfl⟩
      refine lQ.goto rfl ?_
      obtain rfl := Option.some.inj h1
      exact lQ.retI rfl rfl hz
  rcases iteC hy1 with ⟨hc, hy1⟩ | ⟨hc, hy1⟩
  · refine lQ.ifT rfl (decide_eq_true hc) ?_
    refine lQ.push rfl ?_
    refine lQ.goto rfl ?_
    obtain rfl := Option.some.inj hy1
    exact lQ.sub (lSb rfl (lSb rfl lSb0)) hJ1
  · refine lQ.ifF rfl (decide_eq_false hc) ?_
    refine lQ.loadI rfl rfl ?_
    refine lQ.push rfl ?_
    rcases iteC hy1 with ⟨hc, hy1⟩ | ⟨hc, hy1⟩
    · refine lQ.cmpF rfl (decide_eq_false (fun z => z hc)) ?_
      refine lQ.push rfl ?_
      refine lQ.goto rfl ?_
      obtain rfl := Option.some.inj hy1
      exact lQ.sub (lSb rfl (lSb rfl lSb0)) hJ1
    · refine lQ.cmpT rfl (decide_eq_true hc) ?_
      refine lQ.push rfl ?_
      obtain rfl := Option.some.inj hy1
      exact lQ.sub (lSb rfl (lSb rfl lSb0)) hJ1
theorem ts_793 {R : lAR} (hR : lRok R) {E : lE} {ad : List Nat} (hn : tOk ad) {v1 : Int32} {s : TS} {A0 : lMem} {x : Int32} (h : t_793 v1 s = some x) {Z : lZ} (hz : Z (.inl (some (.int x))) (tp ad s A0)) : lSQ R E 1 793 [.ref (adr ad 3), .int v1] (tp ad s A0) Z := by
  refine lQ.sq pg_793 (Nat.le_of_ble_eq_true rfl) rfl ?_
  unfold t_793 at h
  refine lQ.push rfl ?_
  refine lQ.stI rfl (lN2s rfl rfl) ?_
  obtain ⟨y1, hy1, h1⟩ := bindC h
  have hJ1 : ∀ v64, y1 = .inl v64 → lQ R E 0 cd_793 64 [] [] (tp ad s A0) Z := by
    rintro v64 rfl
    have h1 := elimC h1
    refine lQ.push rfl ?_
    obtain rfl := Option.some.inj h1
    exact lQ.retI rfl rfl hz
  obtain ⟨y2, hy2, h2⟩ := bindC hy1
  have hJ2 : ∀ v60, y2 = .inl v60 → lQ R E 0 cd_793 60 [(2, .int v60)] [] (tp ad s A0) Z := by
    rintro v60 rfl
    have h2 := elimC h2
    refine lQ.loadI rfl rfl ?_
    obtain rfl := Option.some.inj h2
    obtain rfl := elimD h1
    exact lQ.retI rfl rfl hz
  refine lQ.sub (lSb rfl (lSb rfl (lSb rfl lSb0))) (wh_run (P := fun p2 => lQ R E 0 cd_793 2 [(0, .ref (adr ad 3)), (1, .int v1), (2, .int p2)] [] (tp ad s A0) Z) hy2 ?_)
  intro p2 r3 hb3 hI3 hX3
  refine lQ.loadI rfl rfl ?_
  refine lQ.push rfl ?_
  rcases iteC hb3 with ⟨hc, hb3⟩ | ⟨hc, hb3⟩
  · refine lQ.cmpF rfl (decide_eq_false (Int32.not_le.mpr hc)) ?_
    refine lQ.push rfl ?_
    refine lQ.stI rfl (lN2s rfl rfl) ?_
    refine lQ.push rfl ?_
    refine lQ.stI rfl (lN2s rfl rfl) ?_
    obtain ⟨v52, hy4, h4⟩ := bindC hb3
    have hJ4 : lQ R E 0 cd_793 52 [(0, .ref (adr ad 3)), (1, .int v1), (2, .int p2), (3, .int v52)] [] (tp ad s A0) Z := by
      refine lQ.loadN rfl rfl ?_
      refine lQ.get hR rfl (tf_3_16 hn) ?_
      refine lQ.loadI rfl rfl ?_
      obtain ⟨x6, hx, h4⟩ := bindC h4
      refine lQ.ald hR rfl (ta_109 hn hx) ?_
      obtain ⟨y5, hy5, h5⟩ := bindC h4
      have hJ5 : ∀ v62, y5 = .inl v62 → lQ R E 0 cd_793 62 [(0, .ref (adr ad 3)), (1, .int v1), (2, .int p2)] [] (tp ad s A0) Z := by
        rintro v62 rfl
        have h5 := elimC h5
        refine lQ.inc rfl rfl (lN2s rfl rfl) ?_
        refine lQ.goto rfl ?_
        obtain rfl := Option.some.inj h5
        exact lQ.sub (lSb rfl (lSb rfl (lSb rfl lSb0))) (hI3 _ rfl)
      rcases iteC hy5 with ⟨hc, hy5⟩ | ⟨hc, hy5⟩
      · refine lQ.ifT rfl (decide_eq_true hc) ?_
        obtain rfl := Option.some.inj hy5
        exact lQ.sub (lSb rfl (lSb rfl (lSb rfl lSb0))) (hJ5 _ rfl)
      · refine lQ.ifF rfl (decide_eq_false hc) ?_
        refine lQ.loadI rfl rfl ?_
        refine lQ.loadI rfl rfl ?_
        rcases iteC hy5 with ⟨hc, hy5⟩ | ⟨hc, hy5⟩
        · refine lQ.cmpF rfl (decide_eq_false (fun z => z hc)) ?_
          obtain rfl := Option.some.inj hy5
          obtain rfl := elimD h5
          obtain rfl := hX3 _ rfl
          exact lQ.sub (lSb rfl lSb0) (hJ2 _ rfl)
        · refine lQ.cmpT rfl (decide_eq_true hc) ?_
          obtain rfl := Option.some.inj hy5
          exact lQ.sub (lSb rfl (lSb rfl (lSb rfl lSb0))) (hJ5 _ rfl)
    refine lQ.sub (lSb rfl (lSb rfl (lSb rfl (lSb rfl (lSb rfl lSb0))))) (wh_run (P := fun p9 => lQ R E 0 cd_793 9 [(0, .ref (adr ad 3)), (1, .int v1), (2, .int p2), (3, .int p9.1), (4, .int p9.2)] [] (tp ad s A0) Z) hy4 ?_)
    intro p9 r6 hb6 hI6 hX6
    refine lQ.loadI rfl rfl ?_
    refine lQ.push rfl ?_
    rcases iteC hb6 with ⟨hc, hb6⟩ | ⟨hc, hb6⟩
    · refine lQ.cmpF rfl (decide_eq_false (Int32.not_le.mpr hc)) ?_
      refine lQ.loadN rfl rfl ?_
      refine lQ.get hR rfl (tf_3_18 hn) ?_
      refine lQ.loadI rfl rfl ?_
      obtain ⟨x1, hx, hb6⟩ := bindC hb6
      refine lQ.ald hR rfl (ta_111 hn hx) ?_
      refine lQ.loadN rfl rfl ?_
      refine lQ.get hR rfl (tf_3_18 hn) ?_
      refine lQ.loadI rfl rfl ?_
      obtain ⟨x2, hx, hb6⟩ := bindC hb6
      refine lQ.ald hR rfl (ta_111 hn hx) ?_
      obtain ⟨v36, hy7, h7⟩ := bindC hb6
      have hJ7 : lQ R E 0 cd_793 36 [(0, .ref (adr ad 3)), (1, .int v1), (2, .int p2), (3, .int p9.1), (4, .int p9.2)] [.int v36] (tp ad s A0) Z := by
        refine lQ.stI rfl (lN2s rfl rfl) ?_
        refine lQ.loadI rfl rfl ?_
        refine lQ.loadN rfl rfl ?_
        refine lQ.get hR rfl (tf_3_16 hn) ?_
        refine lQ.loadI rfl rfl ?_
        obtain ⟨x5, hx, h7⟩ := bindC h7
        refine lQ.ald hR rfl (ta_109 hn hx) ?_
        obtain ⟨v48, hy8, h8⟩ := bindC h7
        have hJ8 : lQ R E 0 cd_793 48 [(0, .ref (adr ad 3)), (1, .int v1), (2, .int p2), (4, .int p9.2)] [.int v48, .int p9.1] (tp ad s A0) Z := by
          refine lQ.binI rfl ?_
          refine lQ.stI rfl (lN2s rfl rfl) ?_
          refine lQ.inc rfl rfl (lN2s rfl rfl) ?_
          refine lQ.goto rfl ?_
          obtain rfl := Option.some.inj h8
          exact lQ.sub (lSb rfl (lSb rfl (lSb rfl (lSb rfl (lSb rfl lSb0))))) (hI6 _ rfl)
        rcases iteC hy8 with ⟨hc, hy8⟩ | ⟨hc, hy8⟩
        · refine lQ.ifT rfl (decide_eq_true hc) ?_
          refine lQ.push rfl ?_
          obtain rfl := Option.some.inj hy8
          exact lQ.sub (lSb rfl (lSb rfl (lSb rfl (lSb rfl lSb0)))) hJ8
        · refine lQ.ifF rfl (decide_eq_false hc) ?_
          refine lQ.loadI rfl rfl ?_
          rcases iteC hy8 with ⟨hc, hy8⟩ | ⟨hc, hy8⟩
          · refine lQ.ifT rfl (decide_eq_true hc) ?_
            refine lQ.push rfl ?_
            obtain rfl := Option.some.inj hy8
            exact lQ.sub (lSb rfl (lSb rfl (lSb rfl (lSb rfl lSb0)))) hJ8
          · refine lQ.ifF rfl (decide_eq_false hc) ?_
            refine lQ.push rfl ?_
            refine lQ.goto rfl ?_
            obtain rfl := Option.some.inj hy8
            exact lQ.sub (lSb rfl (lSb rfl (lSb rfl (lSb rfl lSb0)))) hJ8
      rcases iteC hy7 with ⟨hc, hy7⟩ | ⟨hc, hy7⟩
      · refine lQ.cmpT rfl (decide_eq_true hc) ?_
        refine lQ.push rfl ?_
        refine lQ.goto rfl ?_
        obtain rfl := Option.some.inj hy7
        exact lQ.sub (lSb rfl (lSb rfl (lSb rfl (lSb rfl (lSb rfl lSb0))))) hJ7
      · refine lQ.cmpF rfl (decide_eq_false hc) ?_
        refine lQ.loadN rfl rfl ?_
        refine lQ.get hR rfl (tf_3_18 hn) ?_
        refine lQ.loadI rfl rfl ?_
        obtain ⟨x3, hx, hy7⟩ := bindC hy7
        refine lQ.ald hR rfl (ta_111 hn hx) ?_
        refine lQ.loadN rfl rfl ?_
        refine lQ.get hR rfl (tf_3_18 hn) ?_
        refine lQ.loadI rfl rfl ?_
        obtain ⟨x4, hx, hy7⟩ := bindC hy7
        refine lQ.ald hR rfl (ta_111 hn hx) ?_
        rcases iteC hy7 with ⟨hc, hy7⟩ | ⟨hc, hy7⟩
        · refine lQ.cmpF rfl (decide_eq_false (fun z => z hc)) ?_
          refine lQ.loadI rfl rfl ?_
          refine lQ.loadI rfl rfl ?_
          rcases iteC hy7 with ⟨hc, hy7⟩ | ⟨hc, hy7⟩
          · refine lQ.cmpF rfl (decide_eq_false (Int32.not_le.mpr hc)) ?_
            refine lQ.push rfl ?_
            refine lQ.goto rfl ?_
            obtain rfl := Option.some.inj hy7
            exact lQ.sub (lSb rfl (lSb rfl (lSb rfl (lSb rfl (lSb rfl lSb0))))) hJ7
          · refine lQ.cmpT rfl (decide_eq_true (Int32.not_lt.mp hc)) ?_
            refine lQ.push rfl ?_
            obtain rfl := Option.some.inj hy7
            exact lQ.sub (lSb rfl (lSb rfl (lSb rfl (lSb rfl (lSb rfl lSb0))))) hJ7
        · refine lQ.cmpT rfl (decide_eq_true hc) ?_
          refine lQ.push rfl ?_
          obtain rfl := Option.some.inj hy7
          exact lQ.sub (lSb rfl (lSb rfl (lSb rfl (lSb rfl (lSb rfl lSb0))))) hJ7
    · refine lQ.cmpT rfl (decide_eq_true (Int32.not_lt.mp hc)) ?_
      obtain rfl := Option.some.inj hb6
      obtain rfl := hX6 _ rfl
      exact lQ.sub (lSb rfl (lSb rfl (lSb rfl (lSb rfl lSb0)))) hJ4
  · refine lQ.cmpT rfl (decide_eq_true (Int32.not_lt.mp hc)) ?_
    obtain rfl := Option.some.inj hb3
    obtain rfl := hX3 _ rfl
    obtain rfl := elimD h2
    exact lQ.sub lSb0 (hJ1 _ rfl)
theorem ts_799 {R : lAR} (hR : lRok R) {E : lE} {ad : List Nat} (hn : tOk ad) {v1 : Int32} {s : TS} {A0 : lMem} {x : Int32} (h : t_799 v1 s = some x) {Z : lZ} (hz : Z (.inl (some (.int x))) (tp ad s A0)) : lSQ R E 1 799 [.ref (adr ad 3), .int v1] (tp ad s A0) Z := by
  refine lQ.sq pg_799 (Nat.le_of_ble_eq_true rfl) rfl ?_
  unfold t_799 at h
  refine lQ.loadN rfl rfl ?_
  refine lQ.get hR rfl (tf_3_3 hn) ?_
  refine lQ.loadI rfl rfl ?_
  obtain ⟨x1, hx, h⟩ := bindC h
  refine lQ.ald hR rfl (ta_100 hn hx) ?_
  rcases iteC h with ⟨hc, h⟩ | ⟨hc, h⟩
  · refine lQ.ifF rfl (decide_eq_false (fun z => z hc)) ?_
    refine lQ.loadN rfl rfl ?_
    refine lQ.get hR rfl (tf_3_1 hn) ?_
    refine lQ.loadN rfl rfl ?_
    refine lQ.get hR rfl (tf_3_4 hn) ?_
    refine lQ.loadI rfl rfl ?_
    obtain ⟨x2, hx, h⟩ := bindC h
    refine lQ.ald hR rfl (ta_101 hn hx) ?_
    rcases iteC h with ⟨hc, h⟩ | ⟨hc, h⟩
    · refine lQ.cmpT rfl (decide_eq_true hc) ?_
      refine lQ.push rfl ?_
      obtain rfl := Option.some.inj h
      exact lQ.retI rfl rfl hz
    · refine lQ.cmpF rfl (decide_eq_false hc) ?_
      refine lQ.push rfl ?_
      refine lQ.goto rfl ?_
      obtain rfl := Option.some.inj h
      exact lQ.retI rfl rfl hz
  · refine lQ.ifT rfl (decide_eq_true hc) ?_
    refine lQ.push rfl ?_
    obtain rfl := Option.some.inj h
    exact lQ.retI rfl rfl hz
theorem ts_798 {R : lAR} (hR : lRok R) {E : lE} {ad : List Nat} (hn : tOk ad) {v1 : Int32} {v2 : Int32} {s : TS} {A0 : lMem} {x : Int32} (h : t_798 v1 v2 s = some x) {Z : lZ} (hz : Z (.inl (some (.int x))) (tp ad s A0)) : lSQ R E 2 798 [.ref (adr ad 3), .int v1, .int v2] (tp ad s A0) Z := by
  refine lQ.sq pg_798 (Nat.le_of_ble_eq_true rfl) rfl ?_
  unfold t_798 at h
  refine lQ.push rfl ?_
  refine lQ.stI rfl (lN2s rfl rfl) ?_
  refine lQ.push rfl ?_
  refine lQ.stI rfl (lN2s rfl rfl) ?_
  obtain ⟨v39, hy1, h1⟩ := bindC h
  have hJ1 : lQ R E 1 cd_798 39 [(3, .int v39)] [] (tp ad s A0) Z := by
    refine lQ.loadI rfl rfl ?_
    obtain rfl := Option.some.inj h1
    exact lQ.retI rfl rfl hz
  refine lQ.sub (lSb rfl (lSb rfl (lSb rfl (lSb rfl (lSb rfl lSb0))))) (wh_run (P := fun p4 => lQ R E 1 cd_798 4 [(0, .ref (adr ad 3)), (1, .int v1), (2, .int v2), (3, .int p4.1), (4, .int p4.2)] [] (tp ad s A0) Z) hy1 ?_)
  intro p4 r2 hb2 hI2 hX2
  refine lQ.loadI rfl rfl ?_
  refine lQ.loadN rfl rfl ?_
  refine lQ.get hR rfl (tf_3_14 hn) ?_
  refine lQ.loadI rfl rfl ?_
  obtain ⟨x1, hx, hb2⟩ := bindC hb2
  refine lQ.ald hR rfl (ta_107 hn hx) ?_
  rcases iteC hb2 with ⟨hc, hb2⟩ | ⟨hc, hb2⟩
  · refine lQ.cmpF rfl (decide_eq_false (Int32.not_le.mpr hc)) ?_
    refine lQ.loadN rfl rfl ?_
    refine lQ.get hR rfl (tf_3_15 hn) ?_
    refine lQ.push rfl ?_
    refine lQ.loadI rfl rfl ?_
    refine lQ.binI rfl ?_
    refine lQ.loadI rfl rfl ?_
    refine lQ.binI rfl ?_
    obtain ⟨x2, hx, hb2⟩ := bindC hb2
    refine lQ.ald hR rfl (ta_108 hn hx) ?_
    refine lQ.stI rfl (lN2s rfl rfl) ?_
    refine lQ.loadI rfl rfl ?_
    refine lQ.loadN rfl rfl ?_
    refine lQ.loadI rfl rfl ?_
    obtain ⟨x3, hx, hb2⟩ := bindC hb2
    refine lQ.callVI (F := (fun y A => x3 = y ∧ A = tp ad s A0)) (G := fun _ _ => False) (args := [.ref (adr ad 3), .int x2]) (r := [.int p4.1]) hR rfl rfl rfl (Nat.le_of_ble_eq_true rfl) (Nat.le_of_ble_eq_true rfl) rfl (tk_3 hn rfl) (ts_799 hR hn hx (cI_mk ⟨rfl, rfl⟩)) ?_ (fun _ _ _ z => z.elim)
    rintro _ _ ⟨rfl, rfl⟩
    obtain ⟨v35, hy3, h3⟩ := bindC hb2
    have hJ3 : lQ R E 1 cd_798 35 [(0, .ref (adr ad 3)), (1, .int v1), (2, .int v2), (4, .int p4.2)] [.int v35, .int p4.1] (tp ad s A0) Z := by
      refine lQ.binI rfl ?_
      refine lQ.stI rfl (lN2s rfl rfl) ?_
      refine lQ.inc rfl rfl (lN2s rfl rfl) ?_
      refine lQ.goto rfl ?_
      obtain rfl := Option.some.inj h3
      exact lQ.sub (lSb rfl (lSb rfl (lSb rfl (lSb rfl (lSb rfl lSb0))))) (hI2 _ rfl)
    rcases iteC hy3 with ⟨hc, hy3⟩ | ⟨hc, hy3⟩
    · refine lQ.ifT rfl (decide_eq_true hc) ?_
      refine lQ.push rfl ?_
      obtain rfl := Option.some.inj hy3
      exact lQ.sub (lSb rfl (lSb rfl (lSb rfl (lSb rfl lSb0)))) hJ3
    · refine lQ.ifF rfl (decide_eq_false hc) ?_
      refine lQ.loadI rfl rfl ?_
      rcases iteC hy3 with ⟨hc, hy3⟩ | ⟨hc, hy3⟩
      · refine lQ.ifT rfl (decide_eq_true hc) ?_
        refine lQ.push rfl ?_
        refine lQ.goto rfl ?_
        obtain rfl := Option.some.inj hy3
        exact lQ.sub (lSb rfl (lSb rfl (lSb rfl (lSb rfl lSb0)))) hJ3
      · refine lQ.ifF rfl (decide_eq_false hc) ?_
        refine lQ.loadN rfl rfl ?_
        refine lQ.get hR rfl (tf_3_2 hn) ?_
        refine lQ.loadI rfl rfl ?_
        obtain ⟨x4, hx, hy3⟩ := bindC hy3
        refine lQ.ald hR rfl (ta_99 hn hx) ?_
        refine lQ.push rfl ?_
        rcases iteC hy3 with ⟨hc, hy3⟩ | ⟨hc, hy3⟩
        · refine lQ.cmpT rfl (decide_eq_true hc) ?_
          refine lQ.push rfl ?_
          obtain rfl := Option.some.inj hy3
          exact lQ.sub (lSb rfl (lSb rfl (lSb rfl (lSb rfl lSb0)))) hJ3
        · refine lQ.cmpF rfl (decide_eq_false hc) ?_
          refine lQ.push rfl ?_
          refine lQ.goto rfl ?_
          obtain rfl := Option.some.inj hy3
          exact lQ.sub (lSb rfl (lSb rfl (lSb rfl (lSb rfl lSb0)))) hJ3
  · refine lQ.cmpT rfl (decide_eq_true (Int32.not_lt.mp hc)) ?_
    obtain rfl := Option.some.inj hb2
    obtain rfl := hX2 _ rfl
    exact lQ.sub (lSb rfl lSb0) hJ1
theorem ts_797 {R : lAR} (hR : lRok R) {E : lE} {ad : List Nat} (hn : tOk ad) {v1 : Int32} {s : TS} {A0 : lMem} {x : Int32} (h : t_797 v1 s = some x) {Z : lZ} (hz : Z (.inl (some (.int x))) (tp ad s A0)) : lSQ R E 3 797 [.ref (adr ad 3), .int v1] (tp ad s A0) Z := by
  refine lQ.sq pg_797 (Nat.le_of_ble_eq_true rfl) rfl ?_
  unfold t_797 at h
  refine lQ.loadN rfl rfl ?_
  refine lQ.loadI rfl rfl ?_
  refine lQ.push rfl ?_
  obtain ⟨x1, hx, h⟩ := bindC h
  refine lQ.callVI (F := (fun y A => x1 = y ∧ A = tp ad s A0)) (G := fun _ _ => False) (args := [.ref (adr ad 3), .int v1, .int 1]) (r := []) hR rfl rfl rfl (Nat.le_of_ble_eq_true rfl) (Nat.le_of_ble_eq_true rfl) rfl (tk_3 hn rfl) (ts_798 hR hn hx (cI_mk ⟨rfl, rfl⟩)) ?_ (fun _ _ _ z => z.elim)
  rintro _ _ ⟨rfl, rfl⟩
  refine lQ.loadN rfl rfl ?_
  refine lQ.get hR rfl (tf_3_13 hn) ?_
  refine lQ.loadI rfl rfl ?_
  obtain ⟨x2, hx, h⟩ := bindC h
  refine lQ.ald hR rfl (ta_106 hn hx) ?_
  rcases iteC h with ⟨hc, h⟩ | ⟨hc, h⟩
  · refine lQ.cmpT rfl (decide_eq_true hc) ?_
    refine lQ.push rfl ?_
    obtain rfl := Option.some.inj h
    exact lQ.retI rfl rfl hz
  · refine lQ.cmpF rfl (decide_eq_false hc) ?_
    refine lQ.push rfl ?_
    refine lQ.goto rfl ?_
    obtain rfl := Option.some.inj h
    exact lQ.retI rfl rfl hz
theorem ts_796 {R : lAR} (hR : lRok R) {E : lE} {ad : List Nat} (hn : tOk ad) {v1 : Int32} {s : TS} {A0 : lMem} {x : Int32} (h : t_796 v1 s = some x) {Z : lZ} (hz : Z (.inl (some (.int x))) (tp ad s A0)) : lSQ R E 4 796 [.ref (adr ad 3), .int v1] (tp ad s A0) Z := by
  refine lQ.sq pg_796 (Nat.le_of_ble_eq_true rfl) rfl ?_
  unfold t_796 at h
  refine lQ.loadN rfl rfl ?_
  refine lQ.loadN rfl rfl ?_
  refine lQ.get hR rfl (tf_3_23 hn) ?_
  refine lQ.loadI rfl rfl ?_
  obtain ⟨x1, hx, h⟩ := bindC h
  refine lQ.ald hR rfl (ta_114 hn hx) ?_
  obtain ⟨x2, hx, h⟩ := bindC h
  refine lQ.callVI (F := (fun y A => x2 = y ∧ A = tp ad s A0)) (G := fun _ _ => False) (args := [.ref (adr ad 3), .int x1]) (r := []) hR rfl rfl rfl (Nat.le_of_ble_eq_true rfl) (Nat.le_of_ble_eq_true rfl) rfl (tk_3 hn rfl) (ts_797 hR hn hx (cI_mk ⟨rfl, rfl⟩)) ?_ (fun _ _ _ z => z.elim)
  rintro _ _ ⟨rfl, rfl⟩
  rcases iteC h with ⟨hc, h⟩ | ⟨hc, h⟩
  · refine lQ.ifT rfl (decide_eq_true hc) ?_
    refine lQ.push rfl ?_
    obtain rfl := Option.some.inj h
    exact lQ.retI rfl rfl hz
  · refine lQ.ifF rfl (decide_eq_false hc) ?_
    refine lQ.loadN rfl rfl ?_
    refine lQ.get hR rfl (tf_3_24 hn) ?_
    refine lQ.loadI rfl rfl ?_
    obtain ⟨x3, hx, h⟩ := bindC h
    refine lQ.ald hR rfl (ta_115 hn hx) ?_
    rcases iteC h with ⟨hc, h⟩ | ⟨hc, h⟩
    · refine lQ.ifT rfl (decide_eq_true hc) ?_
      refine lQ.push rfl ?_
      refine lQ.goto rfl ?_
      obtain rfl := Option.some.inj h
      exact lQ.retI rfl rfl hz
    · refine lQ.ifF rfl (decide_eq_false hc) ?_
      refine lQ.loadN rfl rfl ?_
      refine lQ.loadN rfl rfl ?_
      refine lQ.get hR rfl (tf_3_24 hn) ?_
      refine lQ.loadI rfl rfl ?_
      obtain ⟨x4, hx, h⟩ := bindC h
      refine lQ.ald hR rfl (ta_115 hn hx) ?_
      obtain ⟨x5, hx, h⟩ := bindC h
      refine lQ.callVI (F := (fun y A => x5 = y ∧ A = tp ad s A0)) (G := fun _ _ => False) (args := [.ref (adr ad 3), .int x4]) (r := []) hR rfl rfl rfl (Nat.le_of_ble_eq_true rfl) (Nat.le_of_ble_eq_true rfl) rfl (tk_3 hn rfl) (ts_797 hR hn hx (cI_mk ⟨rfl, rfl⟩)) ?_ (fun _ _ _ z => z.elim)
      rintro _ _ ⟨rfl, rfl⟩
      rcases iteC h with ⟨hc, h⟩ | ⟨hc, h⟩
      · refine lQ.ifT rfl (decide_eq_true hc) ?_
        refine lQ.push rfl ?_
        obtain rfl := Option.some.inj h
        exact lQ.retI rfl rfl hz
      · refine lQ.ifF rfl (decide_eq_false hc) ?_
        refine lQ.push rfl ?_
        refine lQ.goto rfl ?_
        obtain rfl := Option.some.inj h
        exact lQ.retI rfl rfl hz
theorem ts_800 {R : lAR} (hR : lRok R) {E : lE} {ad : List Nat} (hn : tOk ad) {v1 : Int32} {s : TS} {A0 : lMem} {x : Int32} (h : t_800 v1 s = some x) {Z : lZ} (hz : Z (.inl (some (.int x))) (tp ad s A0)) : lSQ R E 3 800 [.ref (adr ad 3), .int v1] (tp ad s A0) Z := by
  refine lQ.sq pg_800 (Nat.le_of_ble_eq_true rfl) rfl ?_
  unfold t_800 at h
  refine lQ.loadN rfl rfl ?_
  refine lQ.loadI rfl rfl ?_
  refine lQ.push rfl ?_
  obtain ⟨x1, hx, h⟩ := bindC h
  refine lQ.callVI (F := (fun y A => x1 = y ∧ A = tp ad s A0)) (G := fun _ _ => False) (args := [.ref (adr ad 3), .int v1, .int 0]) (r := []) hR rfl rfl rfl (Nat.le_of_ble_eq_true rfl) (Nat.le_of_ble_eq_true rfl) rfl (tk_3 hn rfl) (ts_798 hR hn hx (cI_mk ⟨rfl, rfl⟩)) ?_ (fun _ _ _ z => z.elim)
  rintro _ _ ⟨rfl, rfl⟩
  refine lQ.stI rfl (lN2s rfl rfl) ?_
  refine lQ.loadI rfl rfl ?_
  rcases iteC h with ⟨hc, h⟩ | ⟨hc, h⟩
  · refine lQ.ifF rfl (decide_eq_false (Int32.not_le.mpr hc)) ?_
    refine lQ.loadN rfl rfl ?_
    refine lQ.loadI rfl rfl ?_
    refine lQ.push rfl ?_
    obtain ⟨x2, hx, h⟩ := bindC h
    refine lQ.callVI (F := (fun y A => x2 = y ∧ A = tp ad s A0)) (G := fun _ _ => False) (args := [.ref (adr ad 3), .int v1, .int 1]) (r := []) hR rfl rfl rfl (Nat.le_of_ble_eq_true rfl) (Nat.le_of_ble_eq_true rfl) rfl (tk_3 hn rfl) (ts_798 hR hn hx (cI_mk ⟨rfl, rfl⟩)) ?_ (fun _ _ _ z => z.elim)
    rintro _ _ ⟨rfl, rfl⟩
    refine lQ.loadI rfl rfl ?_
    rcases iteC h with ⟨hc, h⟩ | ⟨hc, h⟩
    · refine lQ.cmpF rfl (decide_eq_false (fun z => z hc)) ?_
      refine lQ.push rfl ?_
      refine lQ.goto rfl ?_
      obtain rfl := Option.some.inj h
      exact lQ.retI rfl rfl hz
    · refine lQ.cmpT rfl (decide_eq_true hc) ?_
      refine lQ.push rfl ?_
      obtain rfl := Option.some.inj h
      exact lQ.retI rfl rfl hz
  · refine lQ.ifT rfl (decide_eq_true (Int32.not_lt.mp hc)) ?_
    refine lQ.push rfl ?_
    obtain rfl := Option.some.inj h
    exact lQ.retI rfl rfl hz
theorem ts_795 {R : lAR} (hR : lRok R) {E : lE} {ad : List Nat} (hn : tOk ad) {v1 : Int32} {v2 : Int32} {s : TS} {A0 : lMem} {x : Int32} (h : t_795 v1 v2 s = some x) {Z : lZ} (hz : Z (.inl (some (.int x))) (tp ad s A0)) : lSQ R E 5 795 [.ref (adr ad 3), .int v1, .int v2] (tp ad s A0) Z := by
  refine lQ.sq pg_795 (Nat.le_of_ble_eq_true rfl) rfl ?_
  unfold t_795 at h
  refine lQ.push rfl ?_
  refine lQ.stI rfl (lN2s rfl rfl) ?_
  refine lQ.push rfl ?_
  refine lQ.stI rfl (lN2s rfl rfl) ?_
  obtain ⟨v62, hy1, h1⟩ := bindC h
  have hJ1 : lQ R E 4 cd_795 62 [(3, .int v62)] [] (tp ad s A0) Z := by
    refine lQ.loadI rfl rfl ?_
    rcases iteC h1 with ⟨hg, h1⟩ | ⟨_, h1⟩
    case inr => cases h1
    have hb := hg
    obtain rfl := Option.some.inj h1
    exact lQ.retI rfl (fitB hb) hz
  refine lQ.sub (lSb rfl (lSb rfl (lSb rfl (lSb rfl (lSb rfl lSb0))))) (wh_run (P := fun p4 => lQ R E 4 cd_795 4 [(0, .ref (adr ad 3)), (1, .int v1), (2, .int v2), (3, .int p4.1), (4, .int p4.2)] [] (tp ad s A0) Z) hy1 ?_)
  intro p4 r2 hb2 hI2 hX2
  refine lQ.loadI rfl rfl ?_
  refine lQ.loadN rfl rfl ?_
  refine lQ.get hR rfl (tf_3_21 hn) ?_
  rcases iteC hb2 with ⟨hc, hb2⟩ | ⟨hc, hb2⟩
  · refine lQ.cmpF rfl (decide_eq_false (Int32.not_le.mpr hc)) ?_
    refine lQ.loadN rfl rfl ?_
    refine lQ.get hR rfl (tf_3_25 hn) ?_
    refine lQ.loadI rfl rfl ?_
    obtain ⟨x1, hx, hb2⟩ := bindC hb2
    refine lQ.ald hR rfl (ta_116 hn hx) ?_
    refine lQ.loadI rfl rfl ?_
    obtain ⟨v21, hy3, h3⟩ := bindC hb2
    have hJ3 : lQ R E 4 cd_795 21 [(0, .ref (adr ad 3)), (1, .int v1), (2, .int v2), (3, .int p4.1), (4, .int p4.2)] [.int v21] (tp ad s A0) Z := by
      refine lQ.stI rfl (lN2s rfl rfl) ?_
      refine lQ.loadI rfl rfl ?_
      obtain ⟨v46, hy4, h4⟩ := bindC h3
      have hJ4 : lQ R E 4 cd_795 46 [(0, .ref (adr ad 3)), (1, .int v1), (2, .int v2), (3, .int p4.1), (4, .int p4.2), (5, .int v21)] [.int v46] (tp ad s A0) Z := by
        refine lQ.stI rfl (lN2s rfl rfl) ?_
        refine lQ.loadI rfl rfl ?_
        obtain ⟨v59, hy5, h5⟩ := bindC h4
        have hJ5 : lQ R E 4 cd_795 59 [(0, .ref (adr ad 3)), (1, .int v1), (2, .int v2), (4, .int p4.2)] [.int v59] (tp ad s A0) Z := by
          refine lQ.stI rfl (lN2s rfl rfl) ?_
          refine lQ.inc rfl rfl (lN2s rfl rfl) ?_
          refine lQ.goto rfl ?_
          obtain rfl := Option.some.inj h5
          exact lQ.sub (lSb rfl (lSb rfl (lSb rfl (lSb rfl (lSb rfl lSb0))))) (hI2 _ rfl)
        rcases iteC hy5 with ⟨hc, hy5⟩ | ⟨hc, hy5⟩
        · refine lQ.ifF rfl (decide_eq_false (fun z => z hc)) ?_
          refine lQ.loadI rfl rfl ?_
          rcases iteC hy5 with ⟨hc, hy5⟩ | ⟨hc, hy5⟩
          · refine lQ.ifT rfl (decide_eq_true hc) ?_
            refine lQ.loadI rfl rfl ?_
            rcases iteC hy5 with ⟨hc, hy5⟩ | ⟨hc, hy5⟩
            · refine lQ.ifT rfl (decide_eq_true hc) ?_
              refine lQ.push rfl ?_
              obtain rfl := Option.some.inj hy5
              exact lQ.sub (lSb rfl (lSb rfl (lSb rfl (lSb rfl lSb0)))) hJ5
            · refine lQ.ifF rfl (decide_eq_false hc) ?_
              refine lQ.push rfl ?_
              refine lQ.goto rfl ?_
              obtain rfl := Option.some.inj hy5
              exact lQ.sub (lSb rfl (lSb rfl (lSb rfl (lSb rfl lSb0)))) hJ5
          · refine lQ.ifF rfl (decide_eq_false hc) ?_
            refine lQ.loadI rfl rfl ?_
            rcases iteC hy5 with ⟨hc, hy5⟩ | ⟨hc, hy5⟩
            · refine lQ.ifT rfl (decide_eq_true hc) ?_
              refine lQ.push rfl ?_
              obtain rfl := Option.some.inj hy5
              exact lQ.sub (lSb rfl (lSb rfl (lSb rfl (lSb rfl lSb0)))) hJ5
            · refine lQ.ifF rfl (decide_eq_false hc) ?_
              refine lQ.goto rfl ?_
              refine lQ.push rfl ?_
              refine lQ.goto rfl ?_
              obtain rfl := Option.some.inj hy5
              exact lQ.sub (lSb rfl (lSb rfl (lSb rfl (lSb rfl lSb0)))) hJ5
        · refine lQ.ifT rfl (decide_eq_true hc) ?_
          refine lQ.push rfl ?_
          refine lQ.goto rfl ?_
          obtain rfl := Option.some.inj hy5
          exact lQ.sub (lSb rfl (lSb rfl (lSb rfl (lSb rfl lSb0)))) hJ5
      rcases iteC hy4 with ⟨hc, hy4⟩ | ⟨hc, hy4⟩
      · refine lQ.ifT rfl (decide_eq_true hc) ?_
        refine lQ.push rfl ?_
        obtain rfl := Option.some.inj hy4
        exact lQ.sub (lSb rfl (lSb rfl (lSb rfl (lSb rfl (lSb rfl (lSb rfl lSb0)))))) hJ4
      · refine lQ.ifF rfl (decide_eq_false hc) ?_
        refine lQ.loadN rfl rfl ?_
        refine lQ.loadN rfl rfl ?_
        refine lQ.get hR rfl (tf_3_23 hn) ?_
        refine lQ.loadI rfl rfl ?_
        obtain ⟨x3, hx, hy4⟩ := bindC hy4
        refine lQ.ald hR rfl (ta_114 hn hx) ?_
        obtain ⟨x4, hx, hy4⟩ := bindC hy4
        refine lQ.callVI (F := (fun y A => x4 = y ∧ A = tp ad s A0)) (G := fun _ _ => False) (args := [.ref (adr ad 3), .int x3]) (r := []) hR rfl rfl rfl (Nat.le_of_ble_eq_true rfl) (Nat.le_of_ble_eq_true rfl) rfl (tk_3 hn rfl) (ts_800 hR hn hx (cI_mk ⟨rfl, rfl⟩)) ?_ (fun _ _ _ z => z.elim)
        rintro _ _ ⟨rfl, rfl⟩
        rcases iteC hy4 with ⟨hc, hy4⟩ | ⟨hc, hy4⟩
        · refine lQ.ifF rfl (decide_eq_false (fun z => z hc)) ?_
          refine lQ.loadN rfl rfl ?_
          refine lQ.get hR rfl (tf_3_24 hn) ?_
          refine lQ.loadI rfl rfl ?_
          obtain ⟨x5, hx, hy4⟩ := bindC hy4
          refine lQ.ald hR rfl (ta_115 hn hx) ?_
          rcases iteC hy4 with ⟨hc, hy4⟩ | ⟨hc, hy4⟩
          · refine lQ.ifT rfl (decide_eq_true hc) ?_
            refine lQ.push rfl ?_
            obtain rfl := Option.some.inj hy4
            exact lQ.sub (lSb rfl (lSb rfl (lSb rfl (lSb rfl (lSb rfl (lSb rfl lSb0)))))) hJ4
          · refine lQ.ifF rfl (decide_eq_false hc) ?_
            refine lQ.loadN rfl rfl ?_
            refine lQ.loadN rfl rfl ?_
            refine lQ.get hR rfl (tf_3_24 hn) ?_
            refine lQ.loadI rfl rfl ?_
            obtain ⟨x6, hx, hy4⟩ := bindC hy4
            refine lQ.ald hR rfl (ta_115 hn hx) ?_
            obtain ⟨x7, hx, hy4⟩ := bindC hy4
            refine lQ.callVI (F := (fun y A => x7 = y ∧ A = tp ad s A0)) (G := fun _ _ => False) (args := [.ref (adr ad 3), .int x6]) (r := []) hR rfl rfl rfl (Nat.le_of_ble_eq_true rfl) (Nat.le_of_ble_eq_true rfl) rfl (tk_3 hn rfl) (ts_800 hR hn hx (cI_mk ⟨rfl, rfl⟩)) ?_ (fun _ _ _ z => z.elim)
            rintro _ _ ⟨rfl, rfl⟩
            rcases iteC hy4 with ⟨hc, hy4⟩ | ⟨hc, hy4⟩
            · refine lQ.ifT rfl (decide_eq_true hc) ?_
              refine lQ.push rfl ?_
              obtain rfl := Option.some.inj hy4
              exact lQ.sub (lSb rfl (lSb rfl (lSb rfl (lSb rfl (lSb rfl (lSb rfl lSb0)))))) hJ4
            · refine lQ.ifF rfl (decide_eq_false hc) ?_
              refine lQ.push rfl ?_
              refine lQ.goto rfl ?_
              obtain rfl := Option.some.inj hy4
              exact lQ.sub (lSb rfl (lSb rfl (lSb rfl (lSb rfl (lSb rfl (lSb rfl lSb0)))))) hJ4
        · refine lQ.ifT rfl (decide_eq_true hc) ?_
          refine lQ.push rfl ?_
          refine lQ.goto rfl ?_
          obtain rfl := Option.some.inj hy4
          exact lQ.sub (lSb rfl (lSb rfl (lSb rfl (lSb rfl (lSb rfl (lSb rfl lSb0)))))) hJ4
    rcases iteC hy3 with ⟨hc, hy3⟩ | ⟨hc, hy3⟩
    · refine lQ.cmpF rfl (decide_eq_false (fun z => z hc)) ?_
      refine lQ.loadN rfl rfl ?_
      refine lQ.loadI rfl rfl ?_
      obtain ⟨x2, hx, hy3⟩ := bindC hy3
      refine lQ.callVI (F := (fun y A => x2 = y ∧ A = tp ad s A0)) (G := fun _ _ => False) (args := [.ref (adr ad 3), .int p4.2]) (r := []) hR rfl rfl rfl (Nat.le_of_ble_eq_true rfl) (Nat.le_of_ble_eq_true rfl) rfl (tk_3 hn rfl) (ts_796 hR hn hx (cI_mk ⟨rfl, rfl⟩)) ?_ (fun _ _ _ z => z.elim)
      rintro _ _ ⟨rfl, rfl⟩
      rcases iteC hy3 with ⟨hc, hy3⟩ | ⟨hc, hy3⟩
      · refine lQ.ifT rfl (decide_eq_true hc) ?_
        refine lQ.push rfl ?_
        obtain rfl := Option.some.inj hy3
        exact lQ.sub (lSb rfl (lSb rfl (lSb rfl (lSb rfl (lSb rfl lSb0))))) hJ3
      · refine lQ.ifF rfl (decide_eq_false hc) ?_
        refine lQ.push rfl ?_
        refine lQ.goto rfl ?_
        obtain rfl := Option.some.inj hy3
        exact lQ.sub (lSb rfl (lSb rfl (lSb rfl (lSb rfl (lSb rfl lSb0))))) hJ3
    · refine lQ.cmpT rfl (decide_eq_true hc) ?_
      refine lQ.push rfl ?_
      obtain rfl := Option.some.inj hy3
      exact lQ.sub (lSb rfl (lSb rfl (lSb rfl (lSb rfl (lSb rfl lSb0))))) hJ3
  · refine lQ.cmpT rfl (decide_eq_true (Int32.not_lt.mp hc)) ?_
    obtain rfl := Option.some.inj hb2
    obtain rfl := hX2 _ rfl
    exact lQ.sub (lSb rfl lSb0) hJ1
theorem ts_801 {R : lAR} (hR : lRok R) {E : lE} {ad : List Nat} (hn : tOk ad) {v1 : Int32} {v2 : Int32} {s : TS} {A0 : lMem} {x : TS} (h : t_801 v1 v2 s = some x) {Z : lZ} (hz : Z (.inl none) (tp ad x A0)) : lSQ R E 1 801 [.ref (adr ad 3), .int v1, .int v2] (tp ad s A0) Z := by
  refine lQ.sq pg_801 (Nat.le_of_ble_eq_true rfl) rfl ?_
  unfold t_801 at h
  refine lQ.loadN rfl rfl ?_
  refine lQ.get hR rfl (tf_3_30 hn) ?_
  refine lQ.push rfl ?_
  obtain ⟨v47, hy1, h1⟩ := bindC h
  have hJ1 : lQ R E 0 cd_801 47 [(0, .ref (adr ad 3)), (1, .int v1), (2, .int v2)] [] (tp ad v47 A0) Z := by
    refine lQ.loadN rfl rfl ?_
    refine lQ.get hR rfl (tf_3_31 hn) ?_
    refine lQ.loadN rfl rfl ?_
    refine lQ.get hR rfl (tf_3_30 hn) ?_
    refine lQ.loadN rfl rfl ?_
    refine lQ.get hR rfl (tf_3_1 hn) ?_
    obtain ⟨s8, hx, h1⟩ := bindC h1
    refine lQ.ast hR rfl (tw_121 hn hx) ?_
    rintro _ rfl
    refine lQ.loadN rfl rfl ?_
    refine lQ.get hR rfl (tf_3_32 hn) ?_
    refine lQ.loadN rfl rfl ?_
    refine lQ.get hR rfl (tf_3_30 hn) ?_
    refine lQ.loadI rfl rfl ?_
    obtain ⟨s9, hx, h1⟩ := bindC h1
    refine lQ.ast hR rfl (tw_122 hn hx) ?_
    rintro _ rfl
    refine lQ.loadN rfl rfl ?_
    refine lQ.get hR rfl (tf_3_33 hn) ?_
    refine lQ.loadN rfl rfl ?_
    refine lQ.get hR rfl (tf_3_30 hn) ?_
    refine lQ.loadI rfl rfl ?_
    obtain ⟨s10, hx, h1⟩ := bindC h1
    refine lQ.ast hR rfl (tw_123 hn hx) ?_
    rintro _ rfl
    refine lQ.loadN rfl rfl ?_
    refine lQ.dupN rfl ?_
    refine lQ.get hR rfl (tf_3_30 hn) ?_
    refine lQ.push rfl ?_
    refine lQ.binI rfl ?_
    obtain ⟨s11, hx, h1⟩ := bindC h1
    refine lQ.put hR rfl rfl (tq_3_30 hn hx) ?_
    rintro _ rfl
    obtain rfl := Option.some.inj h1
    exact lQ.retV rfl hz
  rcases iteC hy1 with ⟨hc, hy1⟩ | ⟨hc, hy1⟩
  · refine lQ.cmpF rfl (decide_eq_false (fun z => z hc)) ?_
    refine lQ.push rfl ?_
    refine lQ.stI rfl (lN2s rfl rfl) ?_
    obtain ⟨v41, hy2, h2⟩ := bindC hy1
    have hJ2 : lQ R E 0 cd_801 41 [(0, .ref (adr ad 3)), (1, .int v1), (2, .int v2)] [] (tp ad v41 A0) Z := by
      refine lQ.loadN rfl rfl ?_
      refine lQ.dupN rfl ?_
      refine lQ.get hR rfl (tf_3_30 hn) ?_
      refine lQ.push rfl ?_
      refine lQ.binI rfl ?_
      obtain ⟨s7, hx, h2⟩ := bindC h2
      refine lQ.put hR rfl rfl (tq_3_30 hn hx) ?_
      rintro _ rfl
      obtain rfl := Option.some.inj h2
      exact lQ.sub (lSb rfl (lSb rfl (lSb rfl lSb0))) hJ1
    refine lQ.sub (lSb rfl (lSb rfl (lSb rfl (lSb rfl lSb0)))) (wh_run (P := fun p6 => lQ R E 0 cd_801 6 [(0, .ref (adr ad 3)), (1, .int v1), (2, .int v2), (3, .int p6.2)] [] (tp ad p6.1 A0) Z) hy2 ?_)
    intro p6 r3 hb3 hI3 hX3
    refine lQ.loadI rfl rfl ?_
    refine lQ.push rfl ?_
    rcases iteC hb3 with ⟨hc, hb3⟩ | ⟨hc, hb3⟩
    · refine lQ.cmpF rfl (decide_eq_false (Int32.not_le.mpr hc)) ?_
      refine lQ.loadN rfl rfl ?_
      refine lQ.get hR rfl (tf_3_31 hn) ?_
      refine lQ.loadI rfl rfl ?_
      refine lQ.push rfl ?_
      refine lQ.binI rfl ?_
      refine lQ.loadN rfl rfl ?_
      refine lQ.get hR rfl (tf_3_31 hn) ?_
      refine lQ.loadI rfl rfl ?_
      obtain ⟨x1, hx, hb3⟩ := bindC hb3
      refine lQ.ald hR rfl (ta_121 hn hx) ?_
      obtain ⟨s2, hx, hb3⟩ := bindC hb3
      refine lQ.ast hR rfl (tw_121 hn hx) ?_
      rintro _ rfl
      refine lQ.loadN rfl rfl ?_
      refine lQ.get hR rfl (tf_3_32 hn) ?_
      refine lQ.loadI rfl rfl ?_
      refine lQ.push rfl ?_
      refine lQ.binI rfl ?_
      refine lQ.loadN rfl rfl ?_
      refine lQ.get hR rfl (tf_3_32 hn) ?_
      refine lQ.loadI rfl rfl ?_
      obtain ⟨x3, hx, hb3⟩ := bindC hb3
      refine lQ.ald hR rfl (ta_122 hn hx) ?_
      obtain ⟨s4, hx, hb3⟩ := bindC hb3
      refine lQ.ast hR rfl (tw_122 hn hx) ?_
      rintro _ rfl
      refine lQ.loadN rfl rfl ?_
      refine lQ.get hR rfl (tf_3_33 hn) ?_
      refine lQ.loadI rfl rfl ?_
      refine lQ.push rfl ?_
      refine lQ.binI rfl ?_
      refine lQ.loadN rfl rfl ?_
      refine lQ.get hR rfl (tf_3_33 hn) ?_
      refine lQ.loadI rfl rfl ?_
      obtain ⟨x5, hx, hb3⟩ := bindC hb3
      refine lQ.ald hR rfl (ta_123 hn hx) ?_
      obtain ⟨s6, hx, hb3⟩ := bindC hb3
      refine lQ.ast hR rfl (tw_123 hn hx) ?_
      rintro _ rfl
      refine lQ.inc rfl rfl (lN2s rfl rfl) ?_
      refine lQ.goto rfl ?_
      obtain rfl := Option.some.inj hb3
      exact lQ.sub (lSb rfl (lSb rfl (lSb rfl (lSb rfl lSb0)))) (hI3 _ rfl)
    · refine lQ.cmpT rfl (decide_eq_true (Int32.not_lt.mp hc)) ?_
      obtain rfl := Option.some.inj hb3
      obtain rfl := hX3 _ rfl
      exact lQ.sub (lSb rfl (lSb rfl (lSb rfl lSb0))) hJ2
  · refine lQ.cmpT rfl (decide_eq_true hc) ?_
    obtain rfl := Option.some.inj hy1
    exact lQ.sub (lSb rfl (lSb rfl (lSb rfl lSb0))) hJ1
theorem ts_794 {R : lAR} (hR : lRok R) {E : lE} {ad : List Nat} (hn : tOk ad) {v1 : Int32} {s : TS} {A0 : lMem} {x : Int32 × TS} (h : t_794 v1 s = some x) {Z : lZ} (hz : Z (.inl (some (.int x.1))) (tp ad x.2 A0)) : lSQ R E 6 794 [.ref (adr ad 3), .int v1] (tp ad s A0) Z := by
  refine lQ.sq pg_794 (Nat.le_of_ble_eq_true rfl) rfl ?_
  unfold t_794 at h
  refine lQ.loadN rfl rfl ?_
  refine lQ.get hR rfl (tf_3_20 hn) ?_
  refine lQ.loadI rfl rfl ?_
  obtain ⟨x1, hx, h⟩ := bindC h
  refine lQ.ald hR rfl (ta_113 hn hx) ?_
  rcases iteC h with ⟨hc, h⟩ | ⟨hc, h⟩
  · refine lQ.ifT rfl (decide_eq_true hc) ?_
    refine lQ.push rfl ?_
    obtain rfl := Option.some.inj h
    exact lQ.retI rfl rfl hz
  · refine lQ.ifF rfl (decide_eq_false hc) ?_
    refine lQ.loadN rfl rfl ?_
    refine lQ.get hR rfl (tf_3_26 hn) ?_
    refine lQ.loadI rfl rfl ?_
    obtain ⟨x2, hx, h⟩ := bindC h
    refine lQ.ald hR rfl (ta_117 hn hx) ?_
    refine lQ.push rfl ?_
    rcases iteC h with ⟨hc, h⟩ | ⟨hc, h⟩
    · refine lQ.cmpF rfl (decide_eq_false (fun z => z hc)) ?_
      refine lQ.loadN rfl rfl ?_
      refine lQ.loadI rfl rfl ?_
      refine lQ.push rfl ?_
      obtain ⟨x3, hx, h⟩ := bindC h
      refine lQ.callVI (F := (fun y A => x3 = y ∧ A = tp ad s A0)) (G := fun _ _ => False) (args := [.ref (adr ad 3), .int v1, .int 0]) (r := []) hR rfl rfl rfl (Nat.le_of_ble_eq_true rfl) (Nat.le_of_ble_eq_true rfl) rfl (tk_3 hn rfl) (ts_795 hR hn hx (cI_mk ⟨rfl, rfl⟩)) ?_ (fun _ _ _ z => z.elim)
      rintro _ _ ⟨rfl, rfl⟩
      rcases iteC h with ⟨hc, h⟩ | ⟨hc, h⟩
      · refine lQ.ifT rfl (decide_eq_true hc) ?_
        refine lQ.loadN rfl rfl ?_
        refine lQ.loadI rfl rfl ?_
        obtain ⟨x4, hx, h⟩ := bindC h
        refine lQ.callVV (F := (fun A => A = tp ad x4 A0)) (G := fun _ _ => False) (args := [.ref (adr ad 3), .int v1]) (r := []) hR rfl rfl rfl (Nat.le_of_ble_eq_true rfl) (Nat.le_of_ble_eq_true rfl) rfl (tk_3 hn rfl) (ts_791 hR hn hx (cV_mk rfl)) ?_ (fun _ _ _ z => z.elim)
        rintro _ rfl
        refine lQ.loadN rfl rfl ?_
        refine lQ.loadI rfl rfl ?_
        refine lQ.push rfl ?_
        obtain ⟨x5, hx, h⟩ := bindC h
        refine lQ.callVV (F := (fun A => A = tp ad x5 A0)) (G := fun _ _ => False) (args := [.ref (adr ad 3), .int v1, .int 0]) (r := []) hR rfl rfl rfl (Nat.le_of_ble_eq_true rfl) (Nat.le_of_ble_eq_true rfl) rfl (tk_3 hn rfl) (ts_801 hR hn hx (cV_mk rfl)) ?_ (fun _ _ _ z => z.elim)
        rintro _ rfl
        refine lQ.push rfl ?_
        obtain rfl := Option.some.inj h
        exact lQ.retI rfl rfl hz
      · refine lQ.ifF rfl (decide_eq_false hc) ?_
        refine lQ.push rfl ?_
        obtain rfl := Option.some.inj h
        exact lQ.retI rfl rfl hz
    · refine lQ.cmpT rfl (decide_eq_true hc) ?_
      refine lQ.push rfl ?_
      obtain rfl := Option.some.inj h
      exact lQ.retI rfl rfl hz
theorem ts_826 {R : lAR} (hR : lRok R) {E : lE} {ad : List Nat} (hn : tOk ad) {v1 : Int32} {s : TS} {A0 : lMem} {x : TS} (h : t_826 v1 s = some x) {Z : lZ} (hz : Z (.inl none) (tp ad x A0)) : lSQ R E 1 826 [.ref (adr ad 5), .int v1] (tp ad s A0) Z := by
  refine lQ.sq pg_826 (Nat.le_of_ble_eq_true rfl) rfl ?_
  unfold t_826 at h
  refine lQ.loadN rfl rfl ?_
  refine lQ.get hR rfl (tf_5_8 hn) ?_
  refine lQ.loadI rfl rfl ?_
  refine lQ.push rfl ?_
  refine lQ.binI rfl ?_
  obtain ⟨x1, hx, h⟩ := bindC h
  refine lQ.ald hR rfl (ta_147 hn hx) ?_
  refine lQ.stI rfl (lN2s rfl rfl) ?_
  refine lQ.push rfl ?_
  refine lQ.stI rfl (lN2s rfl rfl) ?_
  refine lQ.push rfl ?_
  refine lQ.stI rfl (lN2s rfl rfl) ?_
  obtain ⟨v27, hy1, h1⟩ := bindC h
  have hJ1 : lQ R E 0 cd_826 27 [(0, .ref (adr ad 5)), (1, .int v1), (2, .int x1), (3, .int v27)] [] (tp ad s A0) Z := by
    refine lQ.loadN rfl rfl ?_
    refine lQ.get hR rfl (tf_5_8 hn) ?_
    refine lQ.loadI rfl rfl ?_
    refine lQ.loadI rfl rfl ?_
    refine lQ.binI rfl ?_
    refine lQ.push rfl ?_
    refine lQ.binI rfl ?_
    refine lQ.loadI rfl rfl ?_
    obtain ⟨s3, hx, h1⟩ := bindC h1
    refine lQ.ast hR rfl (tw_147 hn hx) ?_
    rintro _ rfl
    obtain rfl := Option.some.inj h1
    exact lQ.retV rfl hz
  refine lQ.sub (lSb rfl (lSb rfl (lSb rfl (lSb rfl (lSb rfl lSb0))))) (wh_run (P := fun p11 => lQ R E 0 cd_826 11 [(0, .ref (adr ad 5)), (1, .int v1), (2, .int x1), (3, .int p11.1), (4, .int p11.2)] [] (tp ad s A0) Z) hy1 ?_)
  intro p11 r2 hb2 hI2 hX2
  refine lQ.loadI rfl rfl ?_
  refine lQ.loadI rfl rfl ?_
  refine lQ.push rfl ?_
  refine lQ.binI rfl ?_
  rcases iteC hb2 with ⟨hc, hb2⟩ | ⟨hc, hb2⟩
  · refine lQ.cmpF rfl (decide_eq_false (Int32.not_le.mpr hc)) ?_
    refine lQ.loadI rfl rfl ?_
    refine lQ.loadN rfl rfl ?_
    refine lQ.get hR rfl (tf_5_8 hn) ?_
    refine lQ.loadI rfl rfl ?_
    refine lQ.loadI rfl rfl ?_
    refine lQ.binI rfl ?_
    obtain ⟨x2, hx, hb2⟩ := bindC hb2
    refine lQ.ald hR rfl (ta_147 hn hx) ?_
    refine lQ.binI rfl ?_
    refine lQ.stI rfl (lN2s rfl rfl) ?_
    refine lQ.inc rfl rfl (lN2s rfl rfl) ?_
    refine lQ.goto rfl ?_
    obtain rfl := Option.some.inj hb2
    exact lQ.sub (lSb rfl (lSb rfl (lSb rfl (lSb rfl (lSb rfl lSb0))))) (hI2 _ rfl)
  · refine lQ.cmpT rfl (decide_eq_true (Int32.not_lt.mp hc)) ?_
    obtain rfl := Option.some.inj hb2
    obtain rfl := hX2 _ rfl
    exact lQ.sub (lSb rfl (lSb rfl (lSb rfl (lSb rfl lSb0)))) hJ1
theorem ts_825 {R : lAR} (hR : lRok R) {E : lE} {ad : List Nat} (hn : tOk ad) {v1 : Int32} {v2 : Int32} {v3 : Int32} {v4 : Int32} {v5 : Int32} {v6 : Int32} {s : TS} {A0 : lMem} {x : Int32 × TS} (h : t_825 v1 v2 v3 v4 v5 v6 s = some x) {Z : lZ} (hz : Z (.inl (some (.int x.1))) (tp ad x.2 A0)) : lSQ R E 2 825 [.ref (adr ad 5), .int v1, .int v2, .int v3, .int v4, .int v5, .int v6] (tp ad s A0) Z := by
  refine lQ.sq pg_825 (Nat.le_of_ble_eq_true rfl) rfl ?_
  unfold t_825 at h
  refine lQ.push rfl ?_
  refine lQ.push rfl ?_
  refine lQ.loadI rfl rfl ?_
  refine lQ.binI rfl ?_
  refine lQ.loadN rfl rfl ?_
  refine lQ.get hR rfl (tf_5_7 hn) ?_
  refine lQ.loadI rfl rfl ?_
  obtain ⟨x1, hx, h⟩ := bindC h
  refine lQ.ald hR rfl (ta_146 hn hx) ?_
  refine lQ.binI rfl ?_
  refine lQ.binI rfl ?_
  refine lQ.stI rfl (lN2s rfl rfl) ?_
  refine lQ.loadN rfl rfl ?_
  refine lQ.get hR rfl (tf_5_8 hn) ?_
  refine lQ.loadI rfl rfl ?_
  refine lQ.push rfl ?_
  refine lQ.push rfl ?_
  refine lQ.loadI rfl rfl ?_
  refine lQ.binI rfl ?_
  refine lQ.binI rfl ?_
  obtain ⟨s2, hx, h⟩ := bindC h
  refine lQ.ast hR rfl (tw_147 hn hx) ?_
  rintro _ rfl
  refine lQ.loadN rfl rfl ?_
  refine lQ.get hR rfl (tf_5_8 hn) ?_
  refine lQ.loadI rfl rfl ?_
  refine lQ.push rfl ?_
  refine lQ.binI rfl ?_
  refine lQ.loadN rfl rfl ?_
  refine lQ.get hR rfl (tf_5_4 hn) ?_
  refine lQ.loadI rfl rfl ?_
  obtain ⟨x3, hx, h⟩ := bindC h
  refine lQ.ald hR rfl (ta_143 hn hx) ?_
  refine lQ.push rfl ?_
  refine lQ.divI rfl (by decide) ?_
  obtain ⟨s4, hx, h⟩ := bindC h
  refine lQ.ast hR rfl (tw_147 hn hx) ?_
  rintro _ rfl
  refine lQ.loadN rfl rfl ?_
  refine lQ.get hR rfl (tf_5_8 hn) ?_
  refine lQ.loadI rfl rfl ?_
  refine lQ.push rfl ?_
  refine lQ.binI rfl ?_
  refine lQ.loadN rfl rfl ?_
  refine lQ.get hR rfl (tf_5_4 hn) ?_
  refine lQ.loadI rfl rfl ?_
  obtain ⟨x5, hx, h⟩ := bindC h
  refine lQ.ald hR rfl (ta_143 hn hx) ?_
  refine lQ.push rfl ?_
  refine lQ.divI rfl (by decide) ?_
  obtain ⟨s6, hx, h⟩ := bindC h
  refine lQ.ast hR rfl (tw_147 hn hx) ?_
  rintro _ rfl
  refine lQ.loadN rfl rfl ?_
  refine lQ.get hR rfl (tf_5_8 hn) ?_
  refine lQ.loadI rfl rfl ?_
  refine lQ.push rfl ?_
  refine lQ.binI rfl ?_
  refine lQ.loadI rfl rfl ?_
  refine lQ.push rfl ?_
  refine lQ.divI rfl (by decide) ?_
  obtain ⟨s7, hx, h⟩ := bindC h
  refine lQ.ast hR rfl (tw_147 hn hx) ?_
  rintro _ rfl
  refine lQ.loadN rfl rfl ?_
  refine lQ.get hR rfl (tf_5_8 hn) ?_
  refine lQ.loadI rfl rfl ?_
  refine lQ.push rfl ?_
  refine lQ.binI rfl ?_
  refine lQ.loadI rfl rfl ?_
  refine lQ.push rfl ?_
  refine lQ.divI rfl (by decide) ?_
  obtain ⟨s8, hx, h⟩ := bindC h
  refine lQ.ast hR rfl (tw_147 hn hx) ?_
  rintro _ rfl
  refine lQ.loadN rfl rfl ?_
  refine lQ.get hR rfl (tf_5_8 hn) ?_
  refine lQ.loadI rfl rfl ?_
  refine lQ.push rfl ?_
  refine lQ.binI rfl ?_
  refine lQ.loadI rfl rfl ?_
  refine lQ.push rfl ?_
  refine lQ.binI rfl ?_
  refine lQ.loadI rfl rfl ?_
  obtain ⟨v75, hy1, h1⟩ := bindC h
  have hJ1 : lQ R E 1 cd_825 75 [(0, .ref (adr ad 5)), (1, .int v1), (2, .int v2), (5, .int v5), (6, .int v6), (7, .int (24 * ((6 * v1) + x1)))] [.int v75, .int (v5 - 1), .int ((24 * ((6 * v1) + x1)) + 5), .ref (adr ad 147)] (tp ad s8 A0) Z := by
    refine lQ.binI rfl ?_
    obtain ⟨s9, hx, h1⟩ := bindC h1
    refine lQ.ast hR rfl (tw_147 hn hx) ?_
    rintro _ rfl
    refine lQ.push rfl ?_
    refine lQ.stI rfl (lN2s rfl rfl) ?_
    obtain ⟨v97, hy2, h2⟩ := bindC h1
    have hJ2 : lQ R E 1 cd_825 97 [(0, .ref (adr ad 5)), (1, .int v1), (2, .int v2), (5, .int v5), (7, .int (24 * ((6 * v1) + x1)))] [] (tp ad v97 A0) Z := by
      refine lQ.loadN rfl rfl ?_
      refine lQ.get hR rfl (tf_5_8 hn) ?_
      refine lQ.loadI rfl rfl ?_
      refine lQ.push rfl ?_
      refine lQ.binI rfl ?_
      refine lQ.loadI rfl rfl ?_
      refine lQ.push rfl ?_
      refine lQ.binI rfl ?_
      obtain ⟨s11, hx, h2⟩ := bindC h2
      refine lQ.ast hR rfl (tw_147 hn hx) ?_
      rintro _ rfl
      refine lQ.loadN rfl rfl ?_
      refine lQ.get hR rfl (tf_5_8 hn) ?_
      refine lQ.loadI rfl rfl ?_
      refine lQ.push rfl ?_
      refine lQ.binI rfl ?_
      refine lQ.loadI rfl rfl ?_
      obtain ⟨s12, hx, h2⟩ := bindC h2
      refine lQ.ast hR rfl (tw_147 hn hx) ?_
      rintro _ rfl
      refine lQ.loadN rfl rfl ?_
      refine lQ.get hR rfl (tf_5_8 hn) ?_
      refine lQ.loadI rfl rfl ?_
      refine lQ.push rfl ?_
      refine lQ.binI rfl ?_
      refine lQ.push rfl ?_
      obtain ⟨s13, hx, h2⟩ := bindC h2
      refine lQ.ast hR rfl (tw_147 hn hx) ?_
      rintro _ rfl
      refine lQ.loadN rfl rfl ?_
      refine lQ.loadI rfl rfl ?_
      obtain ⟨x14, hx, h2⟩ := bindC h2
      refine lQ.callVV (F := (fun A => A = tp ad x14 A0)) (G := fun _ _ => False) (args := [.ref (adr ad 5), .int (24 * ((6 * v1) + x1))]) (r := []) hR rfl rfl rfl (Nat.le_of_ble_eq_true rfl) (Nat.le_of_ble_eq_true rfl) rfl (tk_5 hn rfl) (ts_826 hR hn hx (cV_mk rfl)) ?_ (fun _ _ _ z => z.elim)
      rintro _ rfl
      refine lQ.loadN rfl rfl ?_
      refine lQ.get hR rfl (tf_5_7 hn) ?_
      refine lQ.loadI rfl rfl ?_
      refine lQ.dup2 rfl rfl rfl ?_
      obtain ⟨x15, hx, h2⟩ := bindC h2
      refine lQ.ald hR rfl (ta_146 hn hx) ?_
      refine lQ.push rfl ?_
      refine lQ.binI rfl ?_
      obtain ⟨s16, hx, h2⟩ := bindC h2
      refine lQ.ast hR rfl (tw_146 hn hx) ?_
      rintro _ rfl
      refine lQ.loadN rfl rfl ?_
      refine lQ.get hR rfl (tf_5_7 hn) ?_
      refine lQ.loadI rfl rfl ?_
      obtain ⟨x17, hx, h2⟩ := bindC h2
      refine lQ.ald hR rfl (ta_146 hn hx) ?_
      obtain rfl := Option.some.inj h2
      exact lQ.retI rfl rfl hz
    refine lQ.sub (lSb rfl (lSb rfl (lSb rfl (lSb rfl (lSb rfl (lSb rfl (lSb rfl lSb0))))))) (wh_run (P := fun p79 => lQ R E 1 cd_825 79 [(0, .ref (adr ad 5)), (1, .int v1), (2, .int v2), (5, .int v5), (6, .int v6), (7, .int (24 * ((6 * v1) + x1))), (8, .int p79.2)] [] (tp ad p79.1 A0) Z) hy2 ?_)
    intro p79 r3 hb3 hI3 hX3
    refine lQ.loadI rfl rfl ?_
    refine lQ.loadI rfl rfl ?_
    rcases iteC hb3 with ⟨hc, hb3⟩ | ⟨hc, hb3⟩
    · refine lQ.cmpF rfl (decide_eq_false (Int32.not_le.mpr hc)) ?_
      refine lQ.loadN rfl rfl ?_
      refine lQ.get hR rfl (tf_5_8 hn) ?_
      refine lQ.loadI rfl rfl ?_
      refine lQ.push rfl ?_
      refine lQ.binI rfl ?_
      refine lQ.loadI rfl rfl ?_
      refine lQ.binI rfl ?_
      refine lQ.loadI rfl rfl ?_
      refine lQ.loadI rfl rfl ?_
      refine lQ.binI rfl ?_
      refine lQ.push rfl ?_
      refine lQ.divI rfl (by decide) ?_
      obtain ⟨s10, hx, hb3⟩ := bindC hb3
      refine lQ.ast hR rfl (tw_147 hn hx) ?_
      rintro _ rfl
      refine lQ.inc rfl rfl (lN2s rfl rfl) ?_
      refine lQ.goto rfl ?_
      obtain rfl := Option.some.inj hb3
      exact lQ.sub (lSb rfl (lSb rfl (lSb rfl (lSb rfl (lSb rfl (lSb rfl (lSb rfl lSb0))))))) (hI3 _ rfl)
    · refine lQ.cmpT rfl (decide_eq_true (Int32.not_lt.mp hc)) ?_
      obtain rfl := Option.some.inj hb3
      obtain rfl := hX3 _ rfl
      exact lQ.sub (lSb rfl (lSb rfl (lSb rfl (lSb rfl (lSb rfl lSb0))))) hJ2
  rcases iteC hy1 with ⟨hc, hy1⟩ | ⟨hc, hy1⟩
  · refine lQ.ifT rfl (decide_eq_true hc) ?_
    refine lQ.push rfl ?_
    obtain rfl := Option.some.inj hy1
    exact lQ.sub (lSb rfl (lSb rfl (lSb rfl (lSb rfl (lSb rfl (lSb rfl lSb0)))))) hJ1
  · refine lQ.ifF rfl (decide_eq_false hc) ?_
    refine lQ.push rfl ?_
    refine lQ.goto rfl ?_
    obtain rfl := Option.some.inj hy1
    exact lQ.sub (lSb rfl (lSb rfl (lSb rfl (lSb rfl (lSb rfl (lSb rfl lSb0)))))) hJ1
theorem ts_628 {R : lAR} (hR : lRok R) {E : lE} {ad : List Nat} (hn : tOk ad) {v1 : Int32} {v2 : Int32} {s : TS} {A0 : lMem} {x : TS} (h : t_628 v1 v2 s = some x) {Z : lZ} (hz : Z (.inl none) (tp ad x A0)) : lSQ R E 3 628 [.ref (adr ad 0), .int v1, .int v2] (tp ad s A0) Z := by
  refine lQ.sq pg_628 (Nat.le_of_ble_eq_true rfl) rfl ?_
  unfold t_628 at h
  refine lQ.loadN rfl rfl ?_
  refine lQ.get hR rfl (tf_0_5 hn) ?_
  refine lQ.get hR rfl (tf_3_17 hn) ?_
  refine lQ.loadI rfl rfl ?_
  obtain ⟨x1, hx, h⟩ := bindC h
  refine lQ.ald hR rfl (ta_110 hn hx) ?_
  refine lQ.push rfl ?_
  obtain ⟨v24, hy1, h1⟩ := bindC h
  have hJ1 : lQ R E 2 cd_628 24 [(0, .ref (adr ad 0)), (1, .int v1), (2, .int v2)] [] (tp ad v24 A0) Z := by
    refine lQ.loadN rfl rfl ?_
    refine lQ.get hR rfl (tf_0_5 hn) ?_
    refine lQ.get hR rfl (tf_3_17 hn) ?_
    refine lQ.loadI rfl rfl ?_
    obtain ⟨x4, hx, h1⟩ := bindC h1
    refine lQ.ald hR rfl (ta_110 hn hx) ?_
    refine lQ.push rfl ?_
    rcases iteC h1 with ⟨hc, h1⟩ | ⟨hc, h1⟩
    · refine lQ.cmpF rfl (decide_eq_false (fun z => z hc)) ?_
      refine lQ.loadN rfl rfl ?_
      refine lQ.get hR rfl (tf_0_6 hn) ?_
      refine lQ.get hR rfl (tf_4_12 hn) ?_
      refine lQ.push rfl ?_
      refine lQ.loadI rfl rfl ?_
      refine lQ.push rfl ?_
      refine lQ.divI rfl (by decide) ?_
      refine lQ.binI rfl ?_
      refine lQ.loadI rfl rfl ?_
      obtain ⟨s5, hx, h1⟩ := bindC h1
      refine lQ.ast hR rfl (tw_136 hn hx) ?_
      rintro _ rfl
      obtain rfl := Option.some.inj h1
      exact lQ.retV rfl hz
    · refine lQ.cmpT rfl (decide_eq_true hc) ?_
      obtain rfl := Option.some.inj h1
      exact lQ.retV rfl hz
  rcases iteC hy1 with ⟨hc, hy1⟩ | ⟨hc, hy1⟩
  · refine lQ.cmpF rfl (decide_eq_false (fun z => z hc)) ?_
    refine lQ.loadN rfl rfl ?_
    refine lQ.get hR rfl (tf_0_7 hn) ?_
    refine lQ.get hR rfl (tf_5_7 hn) ?_
    refine lQ.push rfl ?_
    obtain ⟨x2, hx, hy1⟩ := bindC hy1
    refine lQ.ald hR rfl (ta_146 hn hx) ?_
    refine lQ.push rfl ?_
    rcases iteC hy1 with ⟨hc, hy1⟩ | ⟨hc, hy1⟩
    · refine lQ.cmpF rfl (decide_eq_false (Int32.not_le.mpr hc)) ?_
      refine lQ.loadN rfl rfl ?_
      refine lQ.get hR rfl (tf_0_7 hn) ?_
      refine lQ.push rfl ?_
      refine lQ.push rfl ?_
      refine lQ.loadI rfl rfl ?_
      refine lQ.push rfl ?_
      refine lQ.push rfl ?_
      refine lQ.loadI rfl rfl ?_
      obtain ⟨x3, hx, hy1⟩ := bindC hy1
      refine lQ.callVI (F := (fun y A => x3.1 = y ∧ A = tp ad x3.2 A0)) (G := fun _ _ => False) (args := [.ref (adr ad 5), .int 7, .int 0, .int v1, .int 1, .int 2, .int v2]) (r := []) hR rfl rfl rfl (Nat.le_of_ble_eq_true rfl) (Nat.le_of_ble_eq_true rfl) rfl (tk_5 hn rfl) (ts_825 hR hn hx (cI_mk ⟨rfl, rfl⟩)) ?_ (fun _ _ _ z => z.elim)
      rintro _ _ ⟨rfl, rfl⟩
      refine lQ.stI rfl (lN2s rfl rfl) ?_
      obtain rfl := Option.some.inj hy1
      exact lQ.sub (lSb rfl (lSb rfl (lSb rfl lSb0))) hJ1
    · refine lQ.cmpT rfl (decide_eq_true (Int32.not_lt.mp hc)) ?_
      obtain rfl := Option.some.inj hy1
      exact lQ.sub (lSb rfl (lSb rfl (lSb rfl lSb0))) hJ1
  · refine lQ.cmpT rfl (decide_eq_true hc) ?_
    obtain rfl := Option.some.inj hy1
    exact lQ.sub (lSb rfl (lSb rfl (lSb rfl lSb0))) hJ1
theorem ts_627 {R : lAR} (hR : lRok R) {E : lE} {ad : List Nat} (hn : tOk ad) {s : TS} {A0 : lMem} {x : Int32 × TS} (h : t_627 s = some x) {Z : lZ} (hz : Z (.inl (some (.int x.1))) (tp ad x.2 A0)) : lSQ R E 7 627 [.ref (adr ad 0)] (tp ad s A0) Z := by
  refine lQ.sq pg_627 (Nat.le_of_ble_eq_true rfl) rfl ?_
  unfold t_627 at h
  refine lQ.loadN rfl rfl ?_
  refine lQ.loadN rfl rfl ?_
  refine lQ.get hR rfl (tf_0_1 hn) ?_
  obtain ⟨x1, hx, h⟩ := bindC h
  refine lQ.callVI (F := (fun y A => x1.1 = y ∧ A = tp ad x1.2 A0)) (G := fun _ _ => False) (args := [.ref (adr ad 0), .int (s.1 1)]) (r := []) hR rfl rfl rfl (Nat.le_of_ble_eq_true rfl) (Nat.le_of_ble_eq_true rfl) rfl (tk_0 hn rfl) (ts_563 hR hn hx (cI_mk ⟨rfl, rfl⟩)) ?_ (fun _ _ _ z => z.elim)
  rintro _ _ ⟨rfl, rfl⟩
  rcases iteC h with ⟨hc, h⟩ | ⟨hc, h⟩
  · refine lQ.ifF rfl (decide_eq_false (fun z => z hc)) ?_
    refine lQ.push rfl ?_
    obtain rfl := Option.some.inj h
    exact lQ.retI rfl rfl hz
  · refine lQ.ifT rfl (decide_eq_true hc) ?_
    refine lQ.push rfl ?_
    refine lQ.stI rfl (lN2s rfl rfl) ?_
    refine lQ.loadN rfl rfl ?_
    refine lQ.get hR rfl (tf_0_5 hn) ?_
    refine lQ.push rfl ?_
    obtain ⟨x2, hx, h⟩ := bindC h
    refine lQ.callVI (F := (fun y A => x2 = y ∧ A = tp ad x1.2 A0)) (G := fun _ _ => False) (args := [.ref (adr ad 3), .int 0]) (r := []) hR rfl rfl rfl (Nat.le_of_ble_eq_true rfl) (Nat.le_of_ble_eq_true rfl) rfl (tk_3 hn rfl) (ts_793 hR hn hx (cI_mk ⟨rfl, rfl⟩)) ?_ (fun _ _ _ z => z.elim)
    rintro _ _ ⟨rfl, rfl⟩
    refine lQ.stI rfl (lN2s rfl rfl) ?_
    refine lQ.push rfl ?_
    refine lQ.stI rfl (lN2s rfl rfl) ?_
    obtain ⟨v35, hy1, h1⟩ := bindC h
    have hJ1 : lQ R E 6 cd_627 35 [(1, .int v35.2)] [] (tp ad v35.1 A0) Z := by
      refine lQ.loadI rfl rfl ?_
      obtain rfl := Option.some.inj h1
      exact lQ.retI rfl rfl hz
    refine lQ.sub (lSb rfl (lSb rfl (lSb rfl (lSb rfl lSb0)))) (wh_run (P := fun p16 => lQ R E 6 cd_627 16 [(0, .ref (adr ad 0)), (1, .int p16.2.1), (2, .int p16.2.2.1), (3, .int p16.2.2.2)] [] (tp ad p16.1 A0) Z) hy1 ?_)
    intro p16 r2 hb2 hI2 hX2
    refine lQ.loadI rfl rfl ?_
    rcases iteC hb2 with ⟨hc, hb2⟩ | ⟨hc, hb2⟩
    · refine lQ.ifT rfl (decide_eq_true hc) ?_
      obtain rfl := Option.some.inj hb2
      obtain rfl := hX2 _ rfl
      exact lQ.sub (lSb rfl lSb0) hJ1
    · refine lQ.ifF rfl (decide_eq_false hc) ?_
      refine lQ.loadN rfl rfl ?_
      refine lQ.get hR rfl (tf_0_5 hn) ?_
      refine lQ.loadI rfl rfl ?_
      obtain ⟨x3, hx, hb2⟩ := bindC hb2
      refine lQ.callVI (F := (fun y A => x3.1 = y ∧ A = tp ad x3.2 A0)) (G := fun _ _ => False) (args := [.ref (adr ad 3), .int p16.2.2.1]) (r := []) hR rfl rfl rfl (Nat.le_of_ble_eq_true rfl) (Nat.le_of_ble_eq_true rfl) rfl (tk_3 hn rfl) (ts_794 hR hn hx (cI_mk ⟨rfl, rfl⟩)) ?_ (fun _ _ _ z => z.elim)
      rintro _ _ ⟨rfl, rfl⟩
      obtain ⟨v28, hy3, h3⟩ := bindC hb2
      have hJ3 : lQ R E 6 cd_627 28 [(0, .ref (adr ad 0)), (1, .int v28.2), (3, .int p16.2.2.2)] [] (tp ad v28.1 A0) Z := by
        refine lQ.loadN rfl rfl ?_
        refine lQ.get hR rfl (tf_0_5 hn) ?_
        refine lQ.loadI rfl rfl ?_
        obtain ⟨x5, hx, h3⟩ := bindC h3
        refine lQ.callVI (F := (fun y A => x5 = y ∧ A = tp ad v28.1 A0)) (G := fun _ _ => False) (args := [.ref (adr ad 3), .int p16.2.2.2]) (r := []) hR rfl rfl rfl (Nat.le_of_ble_eq_true rfl) (Nat.le_of_ble_eq_true rfl) rfl (tk_3 hn rfl) (ts_793 hR hn hx (cI_mk ⟨rfl, rfl⟩)) ?_ (fun _ _ _ z => z.elim)
        rintro _ _ ⟨rfl, rfl⟩
        refine lQ.stI rfl (lN2s rfl rfl) ?_
        refine lQ.inc rfl rfl (lN2s rfl rfl) ?_
        refine lQ.goto rfl ?_
        obtain rfl := Option.some.inj h3
        exact lQ.sub (lSb rfl (lSb rfl (lSb rfl (lSb rfl lSb0)))) (hI2 _ rfl)
      rcases iteC hy3 with ⟨hc, hy3⟩ | ⟨hc, hy3⟩
      · refine lQ.ifT rfl (decide_eq_true hc) ?_
        obtain rfl := Option.some.inj hy3
        exact lQ.sub (lSb rfl (lSb rfl (lSb rfl lSb0))) hJ3
      · refine lQ.ifF rfl (decide_eq_false hc) ?_
        refine lQ.loadN rfl rfl ?_
        refine lQ.loadI rfl rfl ?_
        refine lQ.push rfl ?_
        obtain ⟨x4, hx, hy3⟩ := bindC hy3
        refine lQ.callVV (F := (fun A => A = tp ad x4 A0)) (G := fun _ _ => False) (args := [.ref (adr ad 0), .int p16.2.2.1, .int 0]) (r := []) hR rfl rfl rfl (Nat.le_of_ble_eq_true rfl) (Nat.le_of_ble_eq_true rfl) rfl (tk_0 hn rfl) (ts_628 hR hn hx (cV_mk rfl)) ?_ (fun _ _ _ z => z.elim)
        rintro _ rfl
        refine lQ.inc rfl rfl (lN2s rfl rfl) ?_
        obtain rfl := Option.some.inj hy3
        exact lQ.sub (lSb rfl (lSb rfl (lSb rfl lSb0))) hJ3
theorem ts_802 {R : lAR} (hR : lRok R) {E : lE} {ad : List Nat} (hn : tOk ad) {v1 : Int32} {v2 : Int32} {s : TS} {A0 : lMem} {x : Int32} (h : t_802 v1 v2 s = some x) {Z : lZ} (hz : Z (.inl (some (.int x))) (tp ad s A0)) : lSQ R E 1 802 [.ref (adr ad 3), .int v1, .int v2] (tp ad s A0) Z := by
  refine lQ.sq pg_802 (Nat.le_of_ble_eq_true rfl) rfl ?_
  unfold t_802 at h
  refine lQ.loadI rfl rfl ?_
  rcases iteC h with ⟨hc, h⟩ | ⟨hc, h⟩
  · refine lQ.ifF rfl (decide_eq_false (fun z => z hc)) ?_
    refine lQ.loadN rfl rfl ?_
    refine lQ.get hR rfl (tf_3_26 hn) ?_
    refine lQ.loadI rfl rfl ?_
    obtain ⟨x6, hx, h⟩ := bindC h
    refine lQ.ald hR rfl (ta_117 hn hx) ?_
    refine lQ.goto rfl ?_
    obtain rfl := Option.some.inj h
    exact lQ.retI rfl rfl hz
  · refine lQ.ifT rfl (decide_eq_true hc) ?_
    refine lQ.loadI rfl rfl ?_
    refine lQ.push rfl ?_
    rcases iteC h with ⟨hc, h⟩ | ⟨hc, h⟩
    · refine lQ.cmpF rfl (decide_eq_false (fun z => z hc)) ?_
      refine lQ.loadN rfl rfl ?_
      refine lQ.get hR rfl (tf_3_27 hn) ?_
      refine lQ.loadI rfl rfl ?_
      obtain ⟨x5, hx, h⟩ := bindC h
      refine lQ.ald hR rfl (ta_118 hn hx) ?_
      refine lQ.goto rfl ?_
      obtain rfl := Option.some.inj h
      exact lQ.retI rfl rfl hz
    · refine lQ.cmpT rfl (decide_eq_true hc) ?_
      refine lQ.loadI rfl rfl ?_
      refine lQ.push rfl ?_
      rcases iteC h with ⟨hc, h⟩ | ⟨hc, h⟩
      · refine lQ.cmpF rfl (decide_eq_false (fun z => z hc)) ?_
        refine lQ.loadN rfl rfl ?_
        refine lQ.get hR rfl (tf_3_17 hn) ?_
        refine lQ.loadI rfl rfl ?_
        obtain ⟨x4, hx, h⟩ := bindC h
        refine lQ.ald hR rfl (ta_110 hn hx) ?_
        refine lQ.goto rfl ?_
        obtain rfl := Option.some.inj h
        exact lQ.retI rfl rfl hz
      · refine lQ.cmpT rfl (decide_eq_true hc) ?_
        refine lQ.loadI rfl rfl ?_
        refine lQ.push rfl ?_
        rcases iteC h with ⟨hc, h⟩ | ⟨hc, h⟩
        · refine lQ.cmpF rfl (decide_eq_false (fun z => z hc)) ?_
          refine lQ.loadN rfl rfl ?_
          refine lQ.get hR rfl (tf_3_18 hn) ?_
          refine lQ.loadI rfl rfl ?_
          obtain ⟨x3, hx, h⟩ := bindC h
          refine lQ.ald hR rfl (ta_111 hn hx) ?_
          refine lQ.goto rfl ?_
          obtain rfl := Option.some.inj h
          exact lQ.retI rfl rfl hz
        · refine lQ.cmpT rfl (decide_eq_true hc) ?_
          refine lQ.loadI rfl rfl ?_
          refine lQ.push rfl ?_
          rcases iteC h with ⟨hc, h⟩ | ⟨hc, h⟩
          · refine lQ.cmpF rfl (decide_eq_false (fun z => z hc)) ?_
            refine lQ.loadN rfl rfl ?_
            refine lQ.get hR rfl (tf_3_19 hn) ?_
            refine lQ.loadI rfl rfl ?_
            obtain ⟨x2, hx, h⟩ := bindC h
            refine lQ.ald hR rfl (ta_112 hn hx) ?_
            refine lQ.goto rfl ?_
            obtain rfl := Option.some.inj h
            exact lQ.retI rfl rfl hz
          · refine lQ.cmpT rfl (decide_eq_true hc) ?_
            refine lQ.loadN rfl rfl ?_
            refine lQ.get hR rfl (tf_3_20 hn) ?_
            refine lQ.loadI rfl rfl ?_
            obtain ⟨x1, hx, h⟩ := bindC h
            refine lQ.ald hR rfl (ta_113 hn hx) ?_
            rcases iteC h with ⟨hc, h⟩ | ⟨hc, h⟩
            · refine lQ.ifT rfl (decide_eq_true hc) ?_
              refine lQ.push rfl ?_
              obtain rfl := Option.some.inj h
              exact lQ.retI rfl rfl hz
            · refine lQ.ifF rfl (decide_eq_false hc) ?_
              refine lQ.push rfl ?_
              refine lQ.goto rfl ?_
              obtain rfl := Option.some.inj h
              exact lQ.retI rfl rfl hz
theorem ts_629 {R : lAR} (hR : lRok R) {E : lE} {ad : List Nat} (hn : tOk ad) {v1 : Int32} {v2 : Int32} {s : TS} {A0 : lMem} {x : Int32 × TS} (h : t_629 v1 v2 s = some x) {Z : lZ} (hz : Z (.inl (some (.int x.1))) (tp ad x.2 A0)) : lSQ R E 2 629 [.ref (adr ad 0), .int v1, .int v2] (tp ad s A0) Z := by
  refine lQ.sq pg_629 (Nat.le_of_ble_eq_true rfl) rfl ?_
  unfold t_629 at h
  refine lQ.loadN rfl rfl ?_
  refine lQ.loadI rfl rfl ?_
  refine lQ.push rfl ?_
  obtain ⟨x1, hx, h⟩ := bindC h
  refine lQ.callI (F := (fun y A => x1 = y ∧ A = tp ad s A0)) (G := fun _ _ => False) (args := [.int v1, .int 20]) (r := [.ref (adr ad 0)]) hR rfl rfl rfl (Nat.le_of_ble_eq_true rfl) (Nat.le_of_ble_eq_true rfl) (ts_560 hR hn hx (cI_mk ⟨rfl, rfl⟩)) ?_ (fun _ _ _ z => z.elim)
  rintro _ _ ⟨rfl, rfl⟩
  obtain ⟨v18, hy1, h1⟩ := bindC h
  have hJ1 : lQ R E 1 cd_629 18 [(0, .ref (adr ad 0)), (1, .int v1), (2, .int v2)] [.int v18, .ref (adr ad 0)] (tp ad s A0) Z := by
    refine lQ.loadN rfl rfl ?_
    refine lQ.get hR rfl (tf_0_1 hn) ?_
    obtain ⟨x4, hx, h1⟩ := bindC h1
    refine lQ.callVI (F := (fun y A => x4.1 = y ∧ A = tp ad x4.2 A0)) (G := fun _ _ => False) (args := [.ref (adr ad 0), .int v18, .int (s.1 1)]) (r := []) hR rfl rfl rfl (Nat.le_of_ble_eq_true rfl) (Nat.le_of_ble_eq_true rfl) rfl (tk_0 hn rfl) (ts_558 hR hn hx (cI_mk ⟨rfl, rfl⟩)) ?_ (fun _ _ _ z => z.elim)
    rintro _ _ ⟨rfl, rfl⟩
    rcases iteC h1 with ⟨hc, h1⟩ | ⟨hc, h1⟩
    · refine lQ.ifT rfl (decide_eq_true hc) ?_
      refine lQ.push rfl ?_
      obtain rfl := Option.some.inj h1
      exact lQ.retI rfl rfl hz
    · refine lQ.ifF rfl (decide_eq_false hc) ?_
      refine lQ.loadN rfl rfl ?_
      refine lQ.get hR rfl (tf_0_5 hn) ?_
      refine lQ.loadI rfl rfl ?_
      refine lQ.loadI rfl rfl ?_
      obtain ⟨x5, hx, h1⟩ := bindC h1
      refine lQ.callVI (F := (fun y A => x5 = y ∧ A = tp ad x4.2 A0)) (G := fun _ _ => False) (args := [.ref (adr ad 3), .int v1, .int v2]) (r := []) hR rfl rfl rfl (Nat.le_of_ble_eq_true rfl) (Nat.le_of_ble_eq_true rfl) rfl (tk_3 hn rfl) (ts_802 hR hn hx (cI_mk ⟨rfl, rfl⟩)) ?_ (fun _ _ _ z => z.elim)
      rintro _ _ ⟨rfl, rfl⟩
      refine lQ.goto rfl ?_
      obtain rfl := Option.some.inj h1
      exact lQ.retI rfl rfl hz
  rcases iteC hy1 with ⟨hc, hy1⟩ | ⟨hc, hy1⟩
  · refine lQ.ifT rfl (decide_eq_true hc) ?_
    refine lQ.push rfl ?_
    obtain rfl := Option.some.inj hy1
    exact lQ.sub (lSb rfl (lSb rfl (lSb rfl lSb0))) hJ1
  · refine lQ.ifF rfl (decide_eq_false hc) ?_
    refine lQ.loadN rfl rfl ?_
    refine lQ.get hR rfl (tf_0_5 hn) ?_
    refine lQ.get hR rfl (tf_3_16 hn) ?_
    refine lQ.loadI rfl rfl ?_
    obtain ⟨x2, hx, hy1⟩ := bindC hy1
    refine lQ.ald hR rfl (ta_109 hn hx) ?_
    rcases iteC hy1 with ⟨hc, hy1⟩ | ⟨hc, hy1⟩
    · refine lQ.ifT rfl (decide_eq_true hc) ?_
      refine lQ.push rfl ?_
      obtain rfl := Option.some.inj hy1
      exact lQ.sub (lSb rfl (lSb rfl (lSb rfl lSb0))) hJ1
    · refine lQ.ifF rfl (decide_eq_false hc) ?_
      refine lQ.loadI rfl rfl ?_
      refine lQ.push rfl ?_
      obtain ⟨x3, hx, hy1⟩ := bindC hy1
      refine lQ.callI (F := (fun y A => x3 = y ∧ A = tp ad s A0)) (G := fun _ _ => False) (args := [.int v2, .int 6]) (r := [.ref (adr ad 0)]) hR rfl rfl rfl (Nat.le_of_ble_eq_true rfl) (Nat.le_of_ble_eq_true rfl) (ts_560 hR hn hx (cI_mk ⟨rfl, rfl⟩)) ?_ (fun _ _ _ z => z.elim)
      rintro _ _ ⟨rfl, rfl⟩
      rcases iteC hy1 with ⟨hc, hy1⟩ | ⟨hc, hy1⟩
      · refine lQ.ifT rfl (decide_eq_true hc) ?_
        refine lQ.push rfl ?_
        obtain rfl := Option.some.inj hy1
        exact lQ.sub (lSb rfl (lSb rfl (lSb rfl lSb0))) hJ1
      · refine lQ.ifF rfl (decide_eq_false hc) ?_
        refine lQ.push rfl ?_
        refine lQ.goto rfl ?_
        obtain rfl := Option.some.inj hy1
        exact lQ.sub (lSb rfl (lSb rfl (lSb rfl lSb0))) hJ1
theorem ts_630 {R : lAR} (hR : lRok R) {E : lE} {ad : List Nat} (hn : tOk ad) {v1 : Int32} {v2 : Int32} {s : TS} {A0 : lMem} {x : Int32 × TS} (h : t_630 v1 v2 s = some x) {Z : lZ} (hz : Z (.inl (some (.int x.1))) (tp ad x.2 A0)) : lSQ R E 4 630 [.ref (adr ad 0), .int v1, .int v2] (tp ad s A0) Z := by
  refine lQ.sq pg_630 (Nat.le_of_ble_eq_true rfl) rfl ?_
  unfold t_630 at h
  refine lQ.loadN rfl rfl ?_
  refine lQ.loadI rfl rfl ?_
  refine lQ.push rfl ?_
  obtain ⟨x1, hx, h⟩ := bindC h
  refine lQ.callI (F := (fun y A => x1 = y ∧ A = tp ad s A0)) (G := fun _ _ => False) (args := [.int v1, .int 20]) (r := [.ref (adr ad 0)]) hR rfl rfl rfl (Nat.le_of_ble_eq_true rfl) (Nat.le_of_ble_eq_true rfl) (ts_560 hR hn hx (cI_mk ⟨rfl, rfl⟩)) ?_ (fun _ _ _ z => z.elim)
  rintro _ _ ⟨rfl, rfl⟩
  obtain ⟨v18, hy1, h1⟩ := bindC h
  have hJ1 : lQ R E 3 cd_630 18 [(0, .ref (adr ad 0)), (1, .int v1), (2, .int v2)] [.int v18, .ref (adr ad 0)] (tp ad s A0) Z := by
    refine lQ.loadN rfl rfl ?_
    refine lQ.get hR rfl (tf_0_1 hn) ?_
    obtain ⟨x4, hx, h1⟩ := bindC h1
    refine lQ.callVI (F := (fun y A => x4.1 = y ∧ A = tp ad x4.2 A0)) (G := fun _ _ => False) (args := [.ref (adr ad 0), .int v18, .int (s.1 1)]) (r := []) hR rfl rfl rfl (Nat.le_of_ble_eq_true rfl) (Nat.le_of_ble_eq_true rfl) rfl (tk_0 hn rfl) (ts_558 hR hn hx (cI_mk ⟨rfl, rfl⟩)) ?_ (fun _ _ _ z => z.elim)
    rintro _ _ ⟨rfl, rfl⟩
    rcases iteC h1 with ⟨hc, h1⟩ | ⟨hc, h1⟩
    · refine lQ.ifF rfl (decide_eq_false (fun z => z hc)) ?_
      refine lQ.push rfl ?_
      obtain rfl := Option.some.inj h1
      exact lQ.retI rfl rfl hz
    · refine lQ.ifT rfl (decide_eq_true hc) ?_
      refine lQ.loadI rfl rfl ?_
      rcases iteC h1 with ⟨hc, h1⟩ | ⟨hc, h1⟩
      · refine lQ.ifF rfl (decide_eq_false (fun z => z hc)) ?_
        refine lQ.loadN rfl rfl ?_
        refine lQ.get hR rfl (tf_0_5 hn) ?_
        refine lQ.loadI rfl rfl ?_
        obtain ⟨x8, hx, h1⟩ := bindC h1
        refine lQ.callVI (F := (fun y A => x8 = y ∧ A = tp ad x4.2 A0)) (G := fun _ _ => False) (args := [.ref (adr ad 3), .int v1]) (r := []) hR rfl rfl rfl (Nat.le_of_ble_eq_true rfl) (Nat.le_of_ble_eq_true rfl) rfl (tk_3 hn rfl) (ts_797 hR hn hx (cI_mk ⟨rfl, rfl⟩)) ?_ (fun _ _ _ z => z.elim)
        rintro _ _ ⟨rfl, rfl⟩
        rcases iteC h1 with ⟨hc, h1⟩ | ⟨hc, h1⟩
        · refine lQ.ifT rfl (decide_eq_true hc) ?_
          refine lQ.push rfl ?_
          refine lQ.goto rfl ?_
          obtain rfl := Option.some.inj h1
          exact lQ.retI rfl rfl hz
        · refine lQ.ifF rfl (decide_eq_false hc) ?_
          refine lQ.push rfl ?_
          refine lQ.goto rfl ?_
          obtain rfl := Option.some.inj h1
          exact lQ.retI rfl rfl hz
      · refine lQ.ifT rfl (decide_eq_true hc) ?_
        refine lQ.loadI rfl rfl ?_
        refine lQ.push rfl ?_
        rcases iteC h1 with ⟨hc, h1⟩ | ⟨hc, h1⟩
        · refine lQ.cmpF rfl (decide_eq_false (fun z => z hc)) ?_
          refine lQ.loadN rfl rfl ?_
          refine lQ.get hR rfl (tf_0_5 hn) ?_
          refine lQ.loadI rfl rfl ?_
          obtain ⟨x7, hx, h1⟩ := bindC h1
          refine lQ.callVI (F := (fun y A => x7 = y ∧ A = tp ad x4.2 A0)) (G := fun _ _ => False) (args := [.ref (adr ad 3), .int v1]) (r := []) hR rfl rfl rfl (Nat.le_of_ble_eq_true rfl) (Nat.le_of_ble_eq_true rfl) rfl (tk_3 hn rfl) (ts_800 hR hn hx (cI_mk ⟨rfl, rfl⟩)) ?_ (fun _ _ _ z => z.elim)
          rintro _ _ ⟨rfl, rfl⟩
          rcases iteC h1 with ⟨hc, h1⟩ | ⟨hc, h1⟩
          · refine lQ.ifT rfl (decide_eq_true hc) ?_
            refine lQ.push rfl ?_
            refine lQ.goto rfl ?_
            obtain rfl := Option.some.inj h1
            exact lQ.retI rfl rfl hz
          · refine lQ.ifF rfl (decide_eq_false hc) ?_
            refine lQ.push rfl ?_
            refine lQ.goto rfl ?_
            obtain rfl := Option.some.inj h1
            exact lQ.retI rfl rfl hz
        · refine lQ.cmpT rfl (decide_eq_true hc) ?_
          refine lQ.loadI rfl rfl ?_
          refine lQ.push rfl ?_
          rcases iteC h1 with ⟨hc, h1⟩ | ⟨hc, h1⟩
          · refine lQ.cmpF rfl (decide_eq_false (fun z => z hc)) ?_
            refine lQ.loadN rfl rfl ?_
            refine lQ.get hR rfl (tf_0_5 hn) ?_
            refine lQ.get hR rfl (tf_3_13 hn) ?_
            refine lQ.loadI rfl rfl ?_
            obtain ⟨x6, hx, h1⟩ := bindC h1
            refine lQ.ald hR rfl (ta_106 hn hx) ?_
            refine lQ.goto rfl ?_
            obtain rfl := Option.some.inj h1
            exact lQ.retI rfl rfl hz
          · refine lQ.cmpT rfl (decide_eq_true hc) ?_
            refine lQ.loadN rfl rfl ?_
            refine lQ.get hR rfl (tf_0_5 hn) ?_
            refine lQ.loadI rfl rfl ?_
            refine lQ.push rfl ?_
            obtain ⟨x5, hx, h1⟩ := bindC h1
            refine lQ.callVI (F := (fun y A => x5 = y ∧ A = tp ad x4.2 A0)) (G := fun _ _ => False) (args := [.ref (adr ad 3), .int v1, .int 1]) (r := []) hR rfl rfl rfl (Nat.le_of_ble_eq_true rfl) (Nat.le_of_ble_eq_true rfl) rfl (tk_3 hn rfl) (ts_798 hR hn hx (cI_mk ⟨rfl, rfl⟩)) ?_ (fun _ _ _ z => z.elim)
            rintro _ _ ⟨rfl, rfl⟩
            obtain rfl := Option.some.inj h1
            exact lQ.retI rfl rfl hz
  rcases iteC hy1 with ⟨hc, hy1⟩ | ⟨hc, hy1⟩
  · refine lQ.ifT rfl (decide_eq_true hc) ?_
    refine lQ.push rfl ?_
    obtain rfl := Option.some.inj hy1
    exact lQ.sub (lSb rfl (lSb rfl (lSb rfl lSb0))) hJ1
  · refine lQ.ifF rfl (decide_eq_false hc) ?_
    refine lQ.loadN rfl rfl ?_
    refine lQ.get hR rfl (tf_0_5 hn) ?_
    refine lQ.get hR rfl (tf_3_12 hn) ?_
    refine lQ.loadI rfl rfl ?_
    obtain ⟨x2, hx, hy1⟩ := bindC hy1
    refine lQ.ald hR rfl (ta_105 hn hx) ?_
    rcases iteC hy1 with ⟨hc, hy1⟩ | ⟨hc, hy1⟩
    · refine lQ.ifT rfl (decide_eq_true hc) ?_
      refine lQ.push rfl ?_
      obtain rfl := Option.some.inj hy1
      exact lQ.sub (lSb rfl (lSb rfl (lSb rfl lSb0))) hJ1
    · refine lQ.ifF rfl (decide_eq_false hc) ?_
      refine lQ.loadI rfl rfl ?_
      refine lQ.push rfl ?_
      obtain ⟨x3, hx, hy1⟩ := bindC hy1
      refine lQ.callI (F := (fun y A => x3 = y ∧ A = tp ad s A0)) (G := fun _ _ => False) (args := [.int v2, .int 4]) (r := [.ref (adr ad 0)]) hR rfl rfl rfl (Nat.le_of_ble_eq_true rfl) (Nat.le_of_ble_eq_true rfl) (ts_560 hR hn hx (cI_mk ⟨rfl, rfl⟩)) ?_ (fun _ _ _ z => z.elim)
      rintro _ _ ⟨rfl, rfl⟩
      rcases iteC hy1 with ⟨hc, hy1⟩ | ⟨hc, hy1⟩
      · refine lQ.ifT rfl (decide_eq_true hc) ?_
        refine lQ.push rfl ?_
        obtain rfl := Option.some.inj hy1
        exact lQ.sub (lSb rfl (lSb rfl (lSb rfl lSb0))) hJ1
      · refine lQ.ifF rfl (decide_eq_false hc) ?_
        refine lQ.push rfl ?_
        refine lQ.goto rfl ?_
        obtain rfl := Option.some.inj hy1
        exact lQ.sub (lSb rfl (lSb rfl (lSb rfl lSb0))) hJ1
theorem ts_803 {R : lAR} (hR : lRok R) {E : lE} {ad : List Nat} (hn : tOk ad) {v1 : Int32} {v2 : Int32} {s : TS} {A0 : lMem} {x : Int32} (h : t_803 v1 v2 s = some x) {Z : lZ} (hz : Z (.inl (some (.int x))) (tp ad s A0)) : lSQ R E 1 803 [.ref (adr ad 3), .int v1, .int v2] (tp ad s A0) Z := by
  refine lQ.sq pg_803 (Nat.le_of_ble_eq_true rfl) rfl ?_
  unfold t_803 at h
  refine lQ.loadN rfl rfl ?_
  refine lQ.get hR rfl (tf_3_30 hn) ?_
  refine lQ.push rfl ?_
  refine lQ.binI rfl ?_
  refine lQ.loadI rfl rfl ?_
  refine lQ.binI rfl ?_
  refine lQ.stI rfl (lN2s rfl rfl) ?_
  refine lQ.loadI rfl rfl ?_
  rcases iteC h with ⟨hc, h⟩ | ⟨hc, h⟩
  · refine lQ.ifF rfl (decide_eq_false (fun z => z hc)) ?_
    refine lQ.loadN rfl rfl ?_
    refine lQ.get hR rfl (tf_3_31 hn) ?_
    refine lQ.loadI rfl rfl ?_
    obtain ⟨x3, hx, h⟩ := bindC h
    refine lQ.ald hR rfl (ta_121 hn hx) ?_
    refine lQ.goto rfl ?_
    obtain rfl := Option.some.inj h
    exact lQ.retI rfl rfl hz
  · refine lQ.ifT rfl (decide_eq_true hc) ?_
    refine lQ.loadI rfl rfl ?_
    refine lQ.push rfl ?_
    rcases iteC h with ⟨hc, h⟩ | ⟨hc, h⟩
    · refine lQ.cmpF rfl (decide_eq_false (fun z => z hc)) ?_
      refine lQ.loadN rfl rfl ?_
      refine lQ.get hR rfl (tf_3_32 hn) ?_
      refine lQ.loadI rfl rfl ?_
      obtain ⟨x2, hx, h⟩ := bindC h
      refine lQ.ald hR rfl (ta_122 hn hx) ?_
      refine lQ.goto rfl ?_
      obtain rfl := Option.some.inj h
      exact lQ.retI rfl rfl hz
    · refine lQ.cmpT rfl (decide_eq_true hc) ?_
      refine lQ.loadN rfl rfl ?_
      refine lQ.get hR rfl (tf_3_33 hn) ?_
      refine lQ.loadI rfl rfl ?_
      obtain ⟨x1, hx, h⟩ := bindC h
      refine lQ.ald hR rfl (ta_123 hn hx) ?_
      obtain rfl := Option.some.inj h
      exact lQ.retI rfl rfl hz
theorem ts_631 {R : lAR} (hR : lRok R) {E : lE} {ad : List Nat} (hn : tOk ad) {v1 : Int32} {v2 : Int32} {s : TS} {A0 : lMem} {x : Int32 × TS} (h : t_631 v1 v2 s = some x) {Z : lZ} (hz : Z (.inl (some (.int x.1))) (tp ad x.2 A0)) : lSQ R E 2 631 [.ref (adr ad 0), .int v1, .int v2] (tp ad s A0) Z := by
  refine lQ.sq pg_631 (Nat.le_of_ble_eq_true rfl) rfl ?_
  unfold t_631 at h
  refine lQ.loadN rfl rfl ?_
  refine lQ.loadI rfl rfl ?_
  refine lQ.loadN rfl rfl ?_
  refine lQ.get hR rfl (tf_0_5 hn) ?_
  refine lQ.get hR rfl (tf_3_30 hn) ?_
  obtain ⟨x1, hx, h⟩ := bindC h
  refine lQ.callI (F := (fun y A => x1 = y ∧ A = tp ad s A0)) (G := fun _ _ => False) (args := [.int v1, .int (s.1 330)]) (r := [.ref (adr ad 0)]) hR rfl rfl rfl (Nat.le_of_ble_eq_true rfl) (Nat.le_of_ble_eq_true rfl) (ts_560 hR hn hx (cI_mk ⟨rfl, rfl⟩)) ?_ (fun _ _ _ z => z.elim)
  rintro _ _ ⟨rfl, rfl⟩
  obtain ⟨v14, hy1, h1⟩ := bindC h
  have hJ1 : lQ R E 1 cd_631 14 [(0, .ref (adr ad 0)), (1, .int v1), (2, .int v2)] [.int v14, .ref (adr ad 0)] (tp ad s A0) Z := by
    refine lQ.loadN rfl rfl ?_
    refine lQ.get hR rfl (tf_0_1 hn) ?_
    obtain ⟨x3, hx, h1⟩ := bindC h1
    refine lQ.callVI (F := (fun y A => x3.1 = y ∧ A = tp ad x3.2 A0)) (G := fun _ _ => False) (args := [.ref (adr ad 0), .int v14, .int (s.1 1)]) (r := []) hR rfl rfl rfl (Nat.le_of_ble_eq_true rfl) (Nat.le_of_ble_eq_true rfl) rfl (tk_0 hn rfl) (ts_558 hR hn hx (cI_mk ⟨rfl, rfl⟩)) ?_ (fun _ _ _ z => z.elim)
    rintro _ _ ⟨rfl, rfl⟩
    rcases iteC h1 with ⟨hc, h1⟩ | ⟨hc, h1⟩
    · refine lQ.ifT rfl (decide_eq_true hc) ?_
      refine lQ.push rfl ?_
      obtain rfl := Option.some.inj h1
      exact lQ.retI rfl rfl hz
    · refine lQ.ifF rfl (decide_eq_false hc) ?_
      refine lQ.loadN rfl rfl ?_
      refine lQ.get hR rfl (tf_0_5 hn) ?_
      refine lQ.loadI rfl rfl ?_
      refine lQ.loadI rfl rfl ?_
      obtain ⟨x4, hx, h1⟩ := bindC h1
      refine lQ.callVI (F := (fun y A => x4 = y ∧ A = tp ad x3.2 A0)) (G := fun _ _ => False) (args := [.ref (adr ad 3), .int v1, .int v2]) (r := []) hR rfl rfl rfl (Nat.le_of_ble_eq_true rfl) (Nat.le_of_ble_eq_true rfl) rfl (tk_3 hn rfl) (ts_803 hR hn hx (cI_mk ⟨rfl, rfl⟩)) ?_ (fun _ _ _ z => z.elim)
      rintro _ _ ⟨rfl, rfl⟩
      refine lQ.goto rfl ?_
      obtain rfl := Option.some.inj h1
      exact lQ.retI rfl rfl hz
  rcases iteC hy1 with ⟨hc, hy1⟩ | ⟨hc, hy1⟩
  · refine lQ.ifT rfl (decide_eq_true hc) ?_
    refine lQ.push rfl ?_
    obtain rfl := Option.some.inj hy1
    exact lQ.sub (lSb rfl (lSb rfl (lSb rfl lSb0))) hJ1
  · refine lQ.ifF rfl (decide_eq_false hc) ?_
    refine lQ.loadI rfl rfl ?_
    refine lQ.push rfl ?_
    obtain ⟨x2, hx, hy1⟩ := bindC hy1
    refine lQ.callI (F := (fun y A => x2 = y ∧ A = tp ad s A0)) (G := fun _ _ => False) (args := [.int v2, .int 3]) (r := [.ref (adr ad 0)]) hR rfl rfl rfl (Nat.le_of_ble_eq_true rfl) (Nat.le_of_ble_eq_true rfl) (ts_560 hR hn hx (cI_mk ⟨rfl, rfl⟩)) ?_ (fun _ _ _ z => z.elim)
    rintro _ _ ⟨rfl, rfl⟩
    rcases iteC hy1 with ⟨hc, hy1⟩ | ⟨hc, hy1⟩
    · refine lQ.ifT rfl (decide_eq_true hc) ?_
      refine lQ.push rfl ?_
      obtain rfl := Option.some.inj hy1
      exact lQ.sub (lSb rfl (lSb rfl (lSb rfl lSb0))) hJ1
    · refine lQ.ifF rfl (decide_eq_false hc) ?_
      refine lQ.push rfl ?_
      refine lQ.goto rfl ?_
      obtain rfl := Option.some.inj hy1
      exact lQ.sub (lSb rfl (lSb rfl (lSb rfl lSb0))) hJ1
theorem ts_806 {R : lAR} (hR : lRok R) {E : lE} {ad : List Nat} (hn : tOk ad) {v1 : Int32} {s : TS} {A0 : lMem} {x : Int32 × TS} (h : t_806 v1 s = some x) {Z : lZ} (hz : Z (.inl (some (.int x.1))) (tp ad x.2 A0)) : lSQ R E 1 806 [.ref (adr ad 4), .int v1] (tp ad s A0) Z := by
  refine lQ.sq pg_806 (Nat.le_of_ble_eq_true rfl) rfl ?_
  unfold t_806 at h
  refine lQ.loadN rfl rfl ?_
  refine lQ.get hR rfl (tf_4_1 hn) ?_
  refine lQ.loadN rfl rfl ?_
  refine lQ.get hR rfl (tf_4_0 hn) ?_
  refine lQ.loadI rfl rfl ?_
  obtain ⟨s1, hx, h⟩ := bindC h
  refine lQ.ast hR rfl (tw_125 hn hx) ?_
  rintro _ rfl
  refine lQ.push rfl ?_
  refine lQ.stI rfl (lN2s rfl rfl) ?_
  obtain ⟨v23, hy1, h1⟩ := bindC h
  have hJ1 : lQ R E 0 cd_806 23 [(0, .ref (adr ad 4))] [] (tp ad v23 A0) Z := by
    refine lQ.loadN rfl rfl ?_
    refine lQ.dupN rfl ?_
    refine lQ.get hR rfl (tf_4_0 hn) ?_
    refine lQ.push rfl ?_
    refine lQ.binI rfl ?_
    obtain ⟨s3, hx, h1⟩ := bindC h1
    refine lQ.put hR rfl rfl (tq_4_0 hn hx) ?_
    rintro _ rfl
    refine lQ.loadN rfl rfl ?_
    refine lQ.get hR rfl (tf_4_0 hn) ?_
    refine lQ.push rfl ?_
    refine lQ.binI rfl ?_
    obtain rfl := Option.some.inj h1
    exact lQ.retI rfl rfl hz
  refine lQ.sub (lSb rfl (lSb rfl lSb0)) (wh_run (P := fun p8 => lQ R E 0 cd_806 8 [(0, .ref (adr ad 4)), (2, .int p8.2)] [] (tp ad p8.1 A0) Z) hy1 ?_)
  intro p8 r2 hb2 hI2 hX2
  refine lQ.loadI rfl rfl ?_
  refine lQ.push rfl ?_
  rcases iteC hb2 with ⟨hc, hb2⟩ | ⟨hc, hb2⟩
  · refine lQ.cmpF rfl (decide_eq_false (Int32.not_le.mpr hc)) ?_
    refine lQ.loadN rfl rfl ?_
    refine lQ.get hR rfl (tf_4_5 hn) ?_
    refine lQ.push rfl ?_
    refine lQ.loadN rfl rfl ?_
    refine lQ.get hR rfl (tf_4_0 hn) ?_
    refine lQ.binI rfl ?_
    refine lQ.loadI rfl rfl ?_
    refine lQ.binI rfl ?_
    refine lQ.push rfl ?_
    obtain ⟨s2, hx, hb2⟩ := bindC hb2
    refine lQ.ast hR rfl (tw_129 hn hx) ?_
    rintro _ rfl
    refine lQ.inc rfl rfl (lN2n rfl) ?_
    refine lQ.goto rfl ?_
    obtain rfl := Option.some.inj hb2
    exact lQ.sub (lSb rfl (lSb rfl lSb0)) (hI2 _ rfl)
  · refine lQ.cmpT rfl (decide_eq_true (Int32.not_lt.mp hc)) ?_
    obtain rfl := Option.some.inj hb2
    obtain rfl := hX2 _ rfl
    exact lQ.sub (lSb rfl lSb0) hJ1
theorem ts_632 {R : lAR} (hR : lRok R) {E : lE} {ad : List Nat} (hn : tOk ad) {v1 : Int32} {s : TS} {A0 : lMem} {x : Int32 × TS} (h : t_632 v1 s = some x) {Z : lZ} (hz : Z (.inl (some (.int x.1))) (tp ad x.2 A0)) : lSQ R E 2 632 [.ref (adr ad 0), .int v1] (tp ad s A0) Z := by
  refine lQ.sq pg_632 (Nat.le_of_ble_eq_true rfl) rfl ?_
  unfold t_632 at h
  refine lQ.loadN rfl rfl ?_
  refine lQ.loadI rfl rfl ?_
  refine lQ.push rfl ?_
  obtain ⟨x1, hx, h⟩ := bindC h
  refine lQ.callI (F := (fun y A => x1 = y ∧ A = tp ad s A0)) (G := fun _ _ => False) (args := [.int v1, .int 26]) (r := [.ref (adr ad 0)]) hR rfl rfl rfl (Nat.le_of_ble_eq_true rfl) (Nat.le_of_ble_eq_true rfl) (ts_560 hR hn hx (cI_mk ⟨rfl, rfl⟩)) ?_ (fun _ _ _ z => z.elim)
  rintro _ _ ⟨rfl, rfl⟩
  refine lQ.loadN rfl rfl ?_
  refine lQ.get hR rfl (tf_0_1 hn) ?_
  obtain ⟨v15, hy1, h1⟩ := bindC h
  have hJ1 : lQ R E 1 cd_632 15 [(0, .ref (adr ad 0)), (1, .int v1)] [.int v15, .int x1, .ref (adr ad 0)] (tp ad s A0) Z := by
    obtain ⟨x2, hx, h1⟩ := bindC h1
    refine lQ.callVI (F := (fun y A => x2.1 = y ∧ A = tp ad x2.2 A0)) (G := fun _ _ => False) (args := [.ref (adr ad 0), .int x1, .int v15]) (r := []) hR rfl rfl rfl (Nat.le_of_ble_eq_true rfl) (Nat.le_of_ble_eq_true rfl) rfl (tk_0 hn rfl) (ts_558 hR hn hx (cI_mk ⟨rfl, rfl⟩)) ?_ (fun _ _ _ z => z.elim)
    rintro _ _ ⟨rfl, rfl⟩
    rcases iteC h1 with ⟨hc, h1⟩ | ⟨hc, h1⟩
    · refine lQ.ifT rfl (decide_eq_true hc) ?_
      refine lQ.push rfl ?_
      obtain rfl := Option.some.inj h1
      exact lQ.retI rfl rfl hz
    · refine lQ.ifF rfl (decide_eq_false hc) ?_
      refine lQ.loadN rfl rfl ?_
      refine lQ.get hR rfl (tf_0_6 hn) ?_
      refine lQ.loadI rfl rfl ?_
      obtain ⟨x3, hx, h1⟩ := bindC h1
      refine lQ.callVI (F := (fun y A => x3.1 = y ∧ A = tp ad x3.2 A0)) (G := fun _ _ => False) (args := [.ref (adr ad 4), .int v1]) (r := []) hR rfl rfl rfl (Nat.le_of_ble_eq_true rfl) (Nat.le_of_ble_eq_true rfl) rfl (tk_4 hn rfl) (ts_806 hR hn hx (cI_mk ⟨rfl, rfl⟩)) ?_ (fun _ _ _ z => z.elim)
      rintro _ _ ⟨rfl, rfl⟩
      refine lQ.goto rfl ?_
      obtain rfl := Option.some.inj h1
      exact lQ.retI rfl rfl hz
  rcases iteC hy1 with ⟨hc, hy1⟩ | ⟨hc, hy1⟩
  · refine lQ.ifT rfl (decide_eq_true hc) ?_
    refine lQ.push rfl ?_
    obtain rfl := Option.some.inj hy1
    exact lQ.sub (lSb rfl (lSb rfl lSb0)) hJ1
  · refine lQ.ifF rfl (decide_eq_false hc) ?_
    refine lQ.loadN rfl rfl ?_
    refine lQ.get hR rfl (tf_0_6 hn) ?_
    refine lQ.get hR rfl (tf_4_0 hn) ?_
    refine lQ.push rfl ?_
    rcases iteC hy1 with ⟨hc, hy1⟩ | ⟨hc, hy1⟩
    · refine lQ.cmpF rfl (decide_eq_false (Int32.not_le.mpr hc)) ?_
      refine lQ.push rfl ?_
      refine lQ.goto rfl ?_
      obtain rfl := Option.some.inj hy1
      exact lQ.sub (lSb rfl (lSb rfl lSb0)) hJ1
    · refine lQ.cmpT rfl (decide_eq_true (Int32.not_lt.mp hc)) ?_
      refine lQ.push rfl ?_
      obtain rfl := Option.some.inj hy1
      exact lQ.sub (lSb rfl (lSb rfl lSb0)) hJ1
theorem ts_633 {R : lAR} (hR : lRok R) {E : lE} {ad : List Nat} (hn : tOk ad) {v1 : Int32} {v2 : Int32} {v3 : Int32} {s : TS} {A0 : lMem} {x : Int32 × TS} (h : t_633 v1 v2 v3 s = some x) {Z : lZ} (hz : Z (.inl (some (.int x.1))) (tp ad x.2 A0)) : lSQ R E 2 633 [.ref (adr ad 0), .int v1, .int v2, .int v3] (tp ad s A0) Z := by
  refine lQ.sq pg_633 (Nat.le_of_ble_eq_true rfl) rfl ?_
  unfold t_633 at h
  refine lQ.loadN rfl rfl ?_
  refine lQ.loadI rfl rfl ?_
  refine lQ.loadN rfl rfl ?_
  refine lQ.get hR rfl (tf_0_6 hn) ?_
  refine lQ.get hR rfl (tf_4_0 hn) ?_
  obtain ⟨x1, hx, h⟩ := bindC h
  refine lQ.callI (F := (fun y A => x1 = y ∧ A = tp ad s A0)) (G := fun _ _ => False) (args := [.int v1, .int (s.1 400)]) (r := [.ref (adr ad 0)]) hR rfl rfl rfl (Nat.le_of_ble_eq_true rfl) (Nat.le_of_ble_eq_true rfl) (ts_560 hR hn hx (cI_mk ⟨rfl, rfl⟩)) ?_ (fun _ _ _ z => z.elim)
  rintro _ _ ⟨rfl, rfl⟩
  obtain ⟨v23, hy1, h1⟩ := bindC h
  have hJ1 : lQ R E 1 cd_633 23 [(0, .ref (adr ad 0)), (1, .int v1), (2, .int v2), (3, .int v3)] [.int v23, .ref (adr ad 0)] (tp ad s A0) Z := by
    refine lQ.loadN rfl rfl ?_
    refine lQ.get hR rfl (tf_0_1 hn) ?_
    obtain ⟨x4, hx, h1⟩ := bindC h1
    refine lQ.callVI (F := (fun y A => x4.1 = y ∧ A = tp ad x4.2 A0)) (G := fun _ _ => False) (args := [.ref (adr ad 0), .int v23, .int (s.1 1)]) (r := []) hR rfl rfl rfl (Nat.le_of_ble_eq_true rfl) (Nat.le_of_ble_eq_true rfl) rfl (tk_0 hn rfl) (ts_558 hR hn hx (cI_mk ⟨rfl, rfl⟩)) ?_ (fun _ _ _ z => z.elim)
    rintro _ _ ⟨rfl, rfl⟩
    rcases iteC h1 with ⟨hc, h1⟩ | ⟨hc, h1⟩
    · refine lQ.ifF rfl (decide_eq_false (fun z => z hc)) ?_
      refine lQ.push rfl ?_
      obtain rfl := Option.some.inj h1
      exact lQ.retI rfl rfl hz
    · refine lQ.ifT rfl (decide_eq_true hc) ?_
      refine lQ.loadN rfl rfl ?_
      refine lQ.get hR rfl (tf_0_6 hn) ?_
      refine lQ.get hR rfl (tf_4_5 hn) ?_
      refine lQ.push rfl ?_
      refine lQ.loadI rfl rfl ?_
      refine lQ.binI rfl ?_
      refine lQ.loadI rfl rfl ?_
      refine lQ.binI rfl ?_
      obtain ⟨x5, hx, h1⟩ := bindC h1
      refine lQ.ald hR rfl (ta_129 hn hx) ?_
      refine lQ.stI rfl (lN2s rfl rfl) ?_
      refine lQ.loadN rfl rfl ?_
      refine lQ.get hR rfl (tf_0_6 hn) ?_
      refine lQ.get hR rfl (tf_4_5 hn) ?_
      refine lQ.push rfl ?_
      refine lQ.loadI rfl rfl ?_
      refine lQ.binI rfl ?_
      refine lQ.loadI rfl rfl ?_
      refine lQ.binI rfl ?_
      refine lQ.loadI rfl rfl ?_
      obtain ⟨s6, hx, h1⟩ := bindC h1
      refine lQ.ast hR rfl (tw_129 hn hx) ?_
      rintro _ rfl
      refine lQ.loadI rfl rfl ?_
      obtain rfl := Option.some.inj h1
      exact lQ.retI rfl rfl hz
  rcases iteC hy1 with ⟨hc, hy1⟩ | ⟨hc, hy1⟩
  · refine lQ.ifT rfl (decide_eq_true hc) ?_
    refine lQ.push rfl ?_
    obtain rfl := Option.some.inj hy1
    exact lQ.sub (lSb rfl (lSb rfl (lSb rfl (lSb rfl lSb0)))) hJ1
  · refine lQ.ifF rfl (decide_eq_false hc) ?_
    refine lQ.loadI rfl rfl ?_
    refine lQ.push rfl ?_
    obtain ⟨x2, hx, hy1⟩ := bindC hy1
    refine lQ.callI (F := (fun y A => x2 = y ∧ A = tp ad s A0)) (G := fun _ _ => False) (args := [.int v2, .int 3]) (r := [.ref (adr ad 0)]) hR rfl rfl rfl (Nat.le_of_ble_eq_true rfl) (Nat.le_of_ble_eq_true rfl) (ts_560 hR hn hx (cI_mk ⟨rfl, rfl⟩)) ?_ (fun _ _ _ z => z.elim)
    rintro _ _ ⟨rfl, rfl⟩
    rcases iteC hy1 with ⟨hc, hy1⟩ | ⟨hc, hy1⟩
    · refine lQ.ifT rfl (decide_eq_true hc) ?_
      refine lQ.push rfl ?_
      obtain rfl := Option.some.inj hy1
      exact lQ.sub (lSb rfl (lSb rfl (lSb rfl (lSb rfl lSb0)))) hJ1
    · refine lQ.ifF rfl (decide_eq_false hc) ?_
      refine lQ.loadI rfl rfl ?_
      refine lQ.push rfl ?_
      rcases iteC hy1 with ⟨hc, hy1⟩ | ⟨hc, hy1⟩
      · refine lQ.cmpT rfl (decide_eq_true hc) ?_
        refine lQ.push rfl ?_
        refine lQ.goto rfl ?_
        obtain rfl := Option.some.inj hy1
        exact lQ.sub (lSb rfl (lSb rfl (lSb rfl (lSb rfl lSb0)))) hJ1
      · refine lQ.cmpF rfl (decide_eq_false hc) ?_
        refine lQ.loadI rfl rfl ?_
        refine lQ.loadN rfl rfl ?_
        refine lQ.get hR rfl (tf_0_6 hn) ?_
        refine lQ.get hR rfl (tf_4_0 hn) ?_
        obtain ⟨x3, hx, hy1⟩ := bindC hy1
        refine lQ.callI (F := (fun y A => x3 = y ∧ A = tp ad s A0)) (G := fun _ _ => False) (args := [.int v3, .int (s.1 400)]) (r := [.ref (adr ad 0)]) hR rfl rfl rfl (Nat.le_of_ble_eq_true rfl) (Nat.le_of_ble_eq_true rfl) (ts_560 hR hn hx (cI_mk ⟨rfl, rfl⟩)) ?_ (fun _ _ _ z => z.elim)
        rintro _ _ ⟨rfl, rfl⟩
        rcases iteC hy1 with ⟨hc, hy1⟩ | ⟨hc, hy1⟩
        · refine lQ.ifT rfl (decide_eq_true hc) ?_
          refine lQ.push rfl ?_
          obtain rfl := Option.some.inj hy1
          exact lQ.sub (lSb rfl (lSb rfl (lSb rfl (lSb rfl lSb0)))) hJ1
        · refine lQ.ifF rfl (decide_eq_false hc) ?_
          refine lQ.push rfl ?_
          refine lQ.goto rfl ?_
          obtain rfl := Option.some.inj hy1
          exact lQ.sub (lSb rfl (lSb rfl (lSb rfl (lSb rfl lSb0)))) hJ1
theorem ts_634 {R : lAR} (hR : lRok R) {E : lE} {ad : List Nat} (hn : tOk ad) {v1 : Int32} {v2 : Int32} {v3 : Int32} {s : TS} {A0 : lMem} {x : TS} (h : t_634 v1 v2 v3 s = some x) {Z : lZ} (hz : Z (.inl none) (tp ad x A0)) : lSQ R E 2 634 [.ref (adr ad 0), .int v1, .int v2, .int v3] (tp ad s A0) Z := by
  refine lQ.sq pg_634 (Nat.le_of_ble_eq_true rfl) rfl ?_
  unfold t_634 at h
  refine lQ.loadN rfl rfl ?_
  refine lQ.loadI rfl rfl ?_
  refine lQ.loadN rfl rfl ?_
  refine lQ.get hR rfl (tf_0_6 hn) ?_
  refine lQ.get hR rfl (tf_4_0 hn) ?_
  obtain ⟨x1, hx, h⟩ := bindC h
  refine lQ.callI (F := (fun y A => x1 = y ∧ A = tp ad s A0)) (G := fun _ _ => False) (args := [.int v1, .int (s.1 400)]) (r := [.ref (adr ad 0)]) hR rfl rfl rfl (Nat.le_of_ble_eq_true rfl) (Nat.le_of_ble_eq_true rfl) (ts_560 hR hn hx (cI_mk ⟨rfl, rfl⟩)) ?_ (fun _ _ _ z => z.elim)
  rintro _ _ ⟨rfl, rfl⟩
  refine lQ.loadN rfl rfl ?_
  refine lQ.get hR rfl (tf_0_1 hn) ?_
  obtain ⟨x2, hx, h⟩ := bindC h
  refine lQ.callVI (F := (fun y A => x2.1 = y ∧ A = tp ad x2.2 A0)) (G := fun _ _ => False) (args := [.ref (adr ad 0), .int x1, .int (s.1 1)]) (r := []) hR rfl rfl rfl (Nat.le_of_ble_eq_true rfl) (Nat.le_of_ble_eq_true rfl) rfl (tk_0 hn rfl) (ts_558 hR hn hx (cI_mk ⟨rfl, rfl⟩)) ?_ (fun _ _ _ z => z.elim)
  rintro _ _ ⟨rfl, rfl⟩
  rcases iteC h with ⟨hc, h⟩ | ⟨hc, h⟩
  · refine lQ.ifT rfl (decide_eq_true hc) ?_
    obtain rfl := Option.some.inj h
    exact lQ.retV rfl hz
  · refine lQ.ifF rfl (decide_eq_false hc) ?_
    refine lQ.loadN rfl rfl ?_
    refine lQ.get hR rfl (tf_0_6 hn) ?_
    refine lQ.get hR rfl (tf_4_2 hn) ?_
    refine lQ.loadI rfl rfl ?_
    refine lQ.loadI rfl rfl ?_
    obtain ⟨s3, hx, h⟩ := bindC h
    refine lQ.ast hR rfl (tw_126 hn hx) ?_
    rintro _ rfl
    refine lQ.loadN rfl rfl ?_
    refine lQ.get hR rfl (tf_0_6 hn) ?_
    refine lQ.get hR rfl (tf_4_3 hn) ?_
    refine lQ.loadI rfl rfl ?_
    refine lQ.loadI rfl rfl ?_
    obtain ⟨s4, hx, h⟩ := bindC h
    refine lQ.ast hR rfl (tw_127 hn hx) ?_
    rintro _ rfl
    obtain rfl := Option.some.inj h
    exact lQ.retV rfl hz
theorem ts_635 {R : lAR} (hR : lRok R) {E : lE} {ad : List Nat} (hn : tOk ad) {v1 : Int32} {v2 : Int32} {v3 : Int32} {s : TS} {A0 : lMem} {x : Int32 × TS} (h : t_635 v1 v2 v3 s = some x) {Z : lZ} (hz : Z (.inl (some (.int x.1))) (tp ad x.2 A0)) : lSQ R E 2 635 [.ref (adr ad 0), .int v1, .int v2, .int v3] (tp ad s A0) Z := by
  refine lQ.sq pg_635 (Nat.le_of_ble_eq_true rfl) rfl ?_
  unfold t_635 at h
  refine lQ.loadI rfl rfl ?_
  refine lQ.loadN rfl rfl ?_
  refine lQ.get hR rfl (tf_0_6 hn) ?_
  refine lQ.get hR rfl (tf_4_0 hn) ?_
  obtain ⟨x1, hx, h⟩ := bindC h
  refine lQ.callI (F := (fun y A => x1 = y ∧ A = tp ad s A0)) (G := fun _ _ => False) (args := [.int v1, .int (s.1 400)]) (r := []) hR rfl rfl rfl (Nat.le_of_ble_eq_true rfl) (Nat.le_of_ble_eq_true rfl) (ts_560 hR hn hx (cI_mk ⟨rfl, rfl⟩)) ?_ (fun _ _ _ z => z.elim)
  rintro _ _ ⟨rfl, rfl⟩
  obtain ⟨v13, hy1, h1⟩ := bindC h
  have hJ1 : lQ R E 1 cd_635 13 [(0, .ref (adr ad 0)), (1, .int v1), (2, .int v2), (3, .int v3)] [.int v13] (tp ad s A0) Z := by
    refine lQ.stI rfl (lN2s rfl rfl) ?_
    refine lQ.loadN rfl rfl ?_
    refine lQ.loadI rfl rfl ?_
    refine lQ.loadN rfl rfl ?_
    refine lQ.get hR rfl (tf_0_1 hn) ?_
    obtain ⟨v31, hy2, h2⟩ := bindC h1
    have hJ2 : lQ R E 1 cd_635 31 [(0, .ref (adr ad 0)), (1, .int v1), (2, .int v2), (3, .int v3)] [.int v31, .int v13, .ref (adr ad 0)] (tp ad s A0) Z := by
      obtain ⟨x4, hx, h2⟩ := bindC h2
      refine lQ.callVI (F := (fun y A => x4.1 = y ∧ A = tp ad x4.2 A0)) (G := fun _ _ => False) (args := [.ref (adr ad 0), .int v13, .int v31]) (r := []) hR rfl rfl rfl (Nat.le_of_ble_eq_true rfl) (Nat.le_of_ble_eq_true rfl) rfl (tk_0 hn rfl) (ts_558 hR hn hx (cI_mk ⟨rfl, rfl⟩)) ?_ (fun _ _ _ z => z.elim)
      rintro _ _ ⟨rfl, rfl⟩
      rcases iteC h2 with ⟨hc, h2⟩ | ⟨hc, h2⟩
      · refine lQ.ifF rfl (decide_eq_false (fun z => z hc)) ?_
        refine lQ.push rfl ?_
        obtain rfl := Option.some.inj h2
        exact lQ.retI rfl rfl hz
      · refine lQ.ifT rfl (decide_eq_true hc) ?_
        refine lQ.loadN rfl rfl ?_
        refine lQ.get hR rfl (tf_0_6 hn) ?_
        refine lQ.get hR rfl (tf_4_6 hn) ?_
        refine lQ.push rfl ?_
        refine lQ.loadI rfl rfl ?_
        refine lQ.binI rfl ?_
        refine lQ.loadI rfl rfl ?_
        refine lQ.binI rfl ?_
        obtain ⟨x5, hx, h2⟩ := bindC h2
        refine lQ.ald hR rfl (ta_130 hn hx) ?_
        refine lQ.stI rfl (lN2n rfl) ?_
        refine lQ.loadN rfl rfl ?_
        refine lQ.get hR rfl (tf_0_6 hn) ?_
        refine lQ.get hR rfl (tf_4_6 hn) ?_
        refine lQ.push rfl ?_
        refine lQ.loadI rfl rfl ?_
        refine lQ.binI rfl ?_
        refine lQ.loadI rfl rfl ?_
        refine lQ.binI rfl ?_
        refine lQ.loadI rfl rfl ?_
        obtain ⟨s6, hx, h2⟩ := bindC h2
        refine lQ.ast hR rfl (tw_130 hn hx) ?_
        rintro _ rfl
        refine lQ.loadI rfl rfl ?_
        obtain rfl := Option.some.inj h2
        exact lQ.retI rfl rfl hz
    rcases iteC hy2 with ⟨hc, hy2⟩ | ⟨hc, hy2⟩
    · refine lQ.ifT rfl (decide_eq_true hc) ?_
      refine lQ.push rfl ?_
      obtain rfl := Option.some.inj hy2
      exact lQ.sub (lSb rfl (lSb rfl (lSb rfl (lSb rfl lSb0)))) hJ2
    · refine lQ.ifF rfl (decide_eq_false hc) ?_
      refine lQ.loadI rfl rfl ?_
      rcases iteC hy2 with ⟨hc, hy2⟩ | ⟨hc, hy2⟩
      · refine lQ.ifT rfl (decide_eq_true hc) ?_
        refine lQ.push rfl ?_
        refine lQ.goto rfl ?_
        obtain rfl := Option.some.inj hy2
        exact lQ.sub (lSb rfl (lSb rfl (lSb rfl (lSb rfl lSb0)))) hJ2
      · refine lQ.ifF rfl (decide_eq_false hc) ?_
        refine lQ.loadN rfl rfl ?_
        refine lQ.get hR rfl (tf_0_6 hn) ?_
        refine lQ.get hR rfl (tf_4_1 hn) ?_
        refine lQ.loadI rfl rfl ?_
        obtain ⟨x3, hx, hy2⟩ := bindC hy2
        refine lQ.ald hR rfl (ta_125 hn hx) ?_
        refine lQ.push rfl ?_
        rcases iteC hy2 with ⟨hc, hy2⟩ | ⟨hc, hy2⟩
        · refine lQ.cmpF rfl (decide_eq_false (fun z => z hc)) ?_
          refine lQ.push rfl ?_
          refine lQ.goto rfl ?_
          obtain rfl := Option.some.inj hy2
          exact lQ.sub (lSb rfl (lSb rfl (lSb rfl (lSb rfl lSb0)))) hJ2
        · refine lQ.cmpT rfl (decide_eq_true hc) ?_
          refine lQ.push rfl ?_
          obtain rfl := Option.some.inj hy2
          exact lQ.sub (lSb rfl (lSb rfl (lSb rfl (lSb rfl lSb0)))) hJ2
  rcases iteC hy1 with ⟨hc, hy1⟩ | ⟨hc, hy1⟩
  · refine lQ.ifT rfl (decide_eq_true hc) ?_
    refine lQ.push rfl ?_
    obtain rfl := Option.some.inj hy1
    exact lQ.sub (lSb rfl (lSb rfl (lSb rfl (lSb rfl lSb0)))) hJ1
  · refine lQ.ifF rfl (decide_eq_false hc) ?_
    refine lQ.loadI rfl rfl ?_
    refine lQ.push rfl ?_
    obtain ⟨x2, hx, hy1⟩ := bindC hy1
    refine lQ.callI (F := (fun y A => x2 = y ∧ A = tp ad s A0)) (G := fun _ _ => False) (args := [.int v2, .int 8]) (r := []) hR rfl rfl rfl (Nat.le_of_ble_eq_true rfl) (Nat.le_of_ble_eq_true rfl) (ts_560 hR hn hx (cI_mk ⟨rfl, rfl⟩)) ?_ (fun _ _ _ z => z.elim)
    rintro _ _ ⟨rfl, rfl⟩
    rcases iteC hy1 with ⟨hc, hy1⟩ | ⟨hc, hy1⟩
    · refine lQ.ifT rfl (decide_eq_true hc) ?_
      refine lQ.push rfl ?_
      obtain rfl := Option.some.inj hy1
      exact lQ.sub (lSb rfl (lSb rfl (lSb rfl (lSb rfl lSb0)))) hJ1
    · refine lQ.ifF rfl (decide_eq_false hc) ?_
      refine lQ.push rfl ?_
      refine lQ.goto rfl ?_
      obtain rfl := Option.some.inj hy1
      exact lQ.sub (lSb rfl (lSb rfl (lSb rfl (lSb rfl lSb0)))) hJ1
theorem ts_636 {R : lAR} (hR : lRok R) {E : lE} {ad : List Nat} (hn : tOk ad) {v1 : Int32} {v2 : Int32} {s : TS} {A0 : lMem} {x : Int32 × TS} (h : t_636 v1 v2 s = some x) {Z : lZ} (hz : Z (.inl (some (.int x.1))) (tp ad x.2 A0)) : lSQ R E 2 636 [.ref (adr ad 0), .int v1, .int v2] (tp ad s A0) Z := by
  refine lQ.sq pg_636 (Nat.le_of_ble_eq_true rfl) rfl ?_
  unfold t_636 at h
  refine lQ.loadN rfl rfl ?_
  refine lQ.loadI rfl rfl ?_
  refine lQ.loadN rfl rfl ?_
  refine lQ.get hR rfl (tf_0_6 hn) ?_
  refine lQ.get hR rfl (tf_4_0 hn) ?_
  obtain ⟨x1, hx, h⟩ := bindC h
  refine lQ.callI (F := (fun y A => x1 = y ∧ A = tp ad s A0)) (G := fun _ _ => False) (args := [.int v1, .int (s.1 400)]) (r := [.ref (adr ad 0)]) hR rfl rfl rfl (Nat.le_of_ble_eq_true rfl) (Nat.le_of_ble_eq_true rfl) (ts_560 hR hn hx (cI_mk ⟨rfl, rfl⟩)) ?_ (fun _ _ _ z => z.elim)
  rintro _ _ ⟨rfl, rfl⟩
  refine lQ.loadN rfl rfl ?_
  refine lQ.get hR rfl (tf_0_1 hn) ?_
  obtain ⟨x2, hx, h⟩ := bindC h
  refine lQ.callVI (F := (fun y A => x2.1 = y ∧ A = tp ad x2.2 A0)) (G := fun _ _ => False) (args := [.ref (adr ad 0), .int x1, .int (s.1 1)]) (r := []) hR rfl rfl rfl (Nat.le_of_ble_eq_true rfl) (Nat.le_of_ble_eq_true rfl) rfl (tk_0 hn rfl) (ts_558 hR hn hx (cI_mk ⟨rfl, rfl⟩)) ?_ (fun _ _ _ z => z.elim)
  rintro _ _ ⟨rfl, rfl⟩
  rcases iteC h with ⟨hc, h⟩ | ⟨hc, h⟩
  · refine lQ.ifF rfl (decide_eq_false (fun z => z hc)) ?_
    refine lQ.push rfl ?_
    obtain rfl := Option.some.inj h
    exact lQ.retI rfl rfl hz
  · refine lQ.ifT rfl (decide_eq_true hc) ?_
    refine lQ.loadN rfl rfl ?_
    refine lQ.get hR rfl (tf_0_6 hn) ?_
    refine lQ.get hR rfl (tf_4_4 hn) ?_
    refine lQ.loadI rfl rfl ?_
    obtain ⟨x3, hx, h⟩ := bindC h
    refine lQ.ald hR rfl (ta_128 hn hx) ?_
    refine lQ.stI rfl (lN2s rfl rfl) ?_
    refine lQ.loadN rfl rfl ?_
    refine lQ.get hR rfl (tf_0_6 hn) ?_
    refine lQ.get hR rfl (tf_4_4 hn) ?_
    refine lQ.loadI rfl rfl ?_
    refine lQ.loadI rfl rfl ?_
    obtain ⟨s4, hx, h⟩ := bindC h
    refine lQ.ast hR rfl (tw_128 hn hx) ?_
    rintro _ rfl
    refine lQ.loadI rfl rfl ?_
    obtain rfl := Option.some.inj h
    exact lQ.retI rfl rfl hz
theorem ts_637 {R : lAR} (hR : lRok R) {E : lE} {ad : List Nat} (hn : tOk ad) {v1 : Int32} {v2 : Int32} {v3 : Int32} {s : TS} {A0 : lMem} {x : Int32 × TS} (h : t_637 v1 v2 v3 s = some x) {Z : lZ} (hz : Z (.inl (some (.int x.1))) (tp ad x.2 A0)) : lSQ R E 2 637 [.ref (adr ad 0), .int v1, .int v2, .int v3] (tp ad s A0) Z := by
  refine lQ.sq pg_637 (Nat.le_of_ble_eq_true rfl) rfl ?_
  unfold t_637 at h
  refine lQ.loadN rfl rfl ?_
  refine lQ.loadI rfl rfl ?_
  refine lQ.loadN rfl rfl ?_
  refine lQ.get hR rfl (tf_0_6 hn) ?_
  refine lQ.get hR rfl (tf_4_0 hn) ?_
  obtain ⟨x1, hx, h⟩ := bindC h
  refine lQ.callI (F := (fun y A => x1 = y ∧ A = tp ad s A0)) (G := fun _ _ => False) (args := [.int v1, .int (s.1 400)]) (r := [.ref (adr ad 0)]) hR rfl rfl rfl (Nat.le_of_ble_eq_true rfl) (Nat.le_of_ble_eq_true rfl) (ts_560 hR hn hx (cI_mk ⟨rfl, rfl⟩)) ?_ (fun _ _ _ z => z.elim)
  rintro _ _ ⟨rfl, rfl⟩
  refine lQ.loadN rfl rfl ?_
  refine lQ.get hR rfl (tf_0_1 hn) ?_
  obtain ⟨x2, hx, h⟩ := bindC h
  refine lQ.callVI (F := (fun y A => x2.1 = y ∧ A = tp ad x2.2 A0)) (G := fun _ _ => False) (args := [.ref (adr ad 0), .int x1, .int (s.1 1)]) (r := []) hR rfl rfl rfl (Nat.le_of_ble_eq_true rfl) (Nat.le_of_ble_eq_true rfl) rfl (tk_0 hn rfl) (ts_558 hR hn hx (cI_mk ⟨rfl, rfl⟩)) ?_ (fun _ _ _ z => z.elim)
  rintro _ _ ⟨rfl, rfl⟩
  rcases iteC h with ⟨hc, h⟩ | ⟨hc, h⟩
  · refine lQ.ifF rfl (decide_eq_false (fun z => z hc)) ?_
    refine lQ.push rfl ?_
    obtain rfl := Option.some.inj h
    exact lQ.retI rfl rfl hz
  · refine lQ.ifT rfl (decide_eq_true hc) ?_
    refine lQ.loadN rfl rfl ?_
    refine lQ.get hR rfl (tf_0_6 hn) ?_
    refine lQ.get hR rfl (tf_4_10 hn) ?_
    refine lQ.loadI rfl rfl ?_
    obtain ⟨x3, hx, h⟩ := bindC h
    refine lQ.ald hR rfl (ta_134 hn hx) ?_
    refine lQ.stI rfl (lN2s rfl rfl) ?_
    refine lQ.loadN rfl rfl ?_
    refine lQ.get hR rfl (tf_0_6 hn) ?_
    refine lQ.get hR rfl (tf_4_10 hn) ?_
    refine lQ.loadI rfl rfl ?_
    refine lQ.loadI rfl rfl ?_
    obtain ⟨s4, hx, h⟩ := bindC h
    refine lQ.bst hR rfl (tw_134 hn hx) ?_
    rintro _ rfl
    refine lQ.loadN rfl rfl ?_
    refine lQ.get hR rfl (tf_0_6 hn) ?_
    refine lQ.get hR rfl (tf_4_11 hn) ?_
    refine lQ.loadI rfl rfl ?_
    refine lQ.loadI rfl rfl ?_
    obtain ⟨s5, hx, h⟩ := bindC h
    refine lQ.ast hR rfl (tw_135 hn hx) ?_
    rintro _ rfl
    refine lQ.loadI rfl rfl ?_
    rcases iteC h with ⟨hg, h⟩ | ⟨_, h⟩
    case inr => cases h
    have hb := hg
    obtain rfl := Option.some.inj h
    exact lQ.retI rfl (fitB hb) hz
theorem ts_638 {R : lAR} (hR : lRok R) {E : lE} {ad : List Nat} (hn : tOk ad) {v1 : Int32} {v2 : Int32} {s : TS} {A0 : lMem} {x : Int32 × TS} (h : t_638 v1 v2 s = some x) {Z : lZ} (hz : Z (.inl (some (.int x.1))) (tp ad x.2 A0)) : lSQ R E 2 638 [.ref (adr ad 0), .int v1, .int v2] (tp ad s A0) Z := by
  refine lQ.sq pg_638 (Nat.le_of_ble_eq_true rfl) rfl ?_
  unfold t_638 at h
  refine lQ.loadN rfl rfl ?_
  refine lQ.loadI rfl rfl ?_
  refine lQ.loadN rfl rfl ?_
  refine lQ.get hR rfl (tf_0_6 hn) ?_
  refine lQ.get hR rfl (tf_4_0 hn) ?_
  obtain ⟨x1, hx, h⟩ := bindC h
  refine lQ.callI (F := (fun y A => x1 = y ∧ A = tp ad s A0)) (G := fun _ _ => False) (args := [.int v1, .int (s.1 400)]) (r := [.ref (adr ad 0)]) hR rfl rfl rfl (Nat.le_of_ble_eq_true rfl) (Nat.le_of_ble_eq_true rfl) (ts_560 hR hn hx (cI_mk ⟨rfl, rfl⟩)) ?_ (fun _ _ _ z => z.elim)
  rintro _ _ ⟨rfl, rfl⟩
  obtain ⟨v16, hy1, h1⟩ := bindC h
  have hJ1 : lQ R E 1 cd_638 16 [(0, .ref (adr ad 0)), (1, .int v1), (2, .int v2)] [.int v16, .ref (adr ad 0)] (tp ad s A0) Z := by
    refine lQ.loadN rfl rfl ?_
    refine lQ.get hR rfl (tf_0_1 hn) ?_
    obtain ⟨x2, hx, h1⟩ := bindC h1
    refine lQ.callVI (F := (fun y A => x2.1 = y ∧ A = tp ad x2.2 A0)) (G := fun _ _ => False) (args := [.ref (adr ad 0), .int v16, .int (s.1 1)]) (r := []) hR rfl rfl rfl (Nat.le_of_ble_eq_true rfl) (Nat.le_of_ble_eq_true rfl) rfl (tk_0 hn rfl) (ts_558 hR hn hx (cI_mk ⟨rfl, rfl⟩)) ?_ (fun _ _ _ z => z.elim)
    rintro _ _ ⟨rfl, rfl⟩
    rcases iteC h1 with ⟨hc, h1⟩ | ⟨hc, h1⟩
    · refine lQ.ifF rfl (decide_eq_false (fun z => z hc)) ?_
      refine lQ.push rfl ?_
      obtain rfl := Option.some.inj h1
      exact lQ.retI rfl rfl hz
    · refine lQ.ifT rfl (decide_eq_true hc) ?_
      refine lQ.loadN rfl rfl ?_
      refine lQ.get hR rfl (tf_0_6 hn) ?_
      refine lQ.get hR rfl (tf_4_13 hn) ?_
      refine lQ.loadI rfl rfl ?_
      obtain ⟨x3, hx, h1⟩ := bindC h1
      refine lQ.ald hR rfl (ta_137 hn hx) ?_
      refine lQ.push rfl ?_
      refine lQ.binI rfl ?_
      refine lQ.stI rfl (lN2s rfl rfl) ?_
      refine lQ.loadN rfl rfl ?_
      refine lQ.get hR rfl (tf_0_6 hn) ?_
      refine lQ.get hR rfl (tf_4_13 hn) ?_
      refine lQ.loadI rfl rfl ?_
      refine lQ.loadI rfl rfl ?_
      refine lQ.push rfl ?_
      refine lQ.binI rfl ?_
      obtain ⟨s4, hx, h1⟩ := bindC h1
      refine lQ.ast hR rfl (tw_137 hn hx) ?_
      rintro _ rfl
      refine lQ.loadI rfl rfl ?_
      obtain rfl := Option.some.inj h1
      exact lQ.retI rfl rfl hz
  rcases iteC hy1 with ⟨hc, hy1⟩ | ⟨hc, hy1⟩
  · refine lQ.ifT rfl (decide_eq_true hc) ?_
    refine lQ.push rfl ?_
    obtain rfl := Option.some.inj hy1
    exact lQ.sub (lSb rfl (lSb rfl (lSb rfl lSb0))) hJ1
  · refine lQ.ifF rfl (decide_eq_false hc) ?_
    refine lQ.loadI rfl rfl ?_
    refine lQ.push rfl ?_
    rcases iteC hy1 with ⟨hc, hy1⟩ | ⟨hc, hy1⟩
    · refine lQ.cmpT rfl (decide_eq_true hc) ?_
      refine lQ.push rfl ?_
      obtain rfl := Option.some.inj hy1
      exact lQ.sub (lSb rfl (lSb rfl (lSb rfl lSb0))) hJ1
    · refine lQ.cmpF rfl (decide_eq_false hc) ?_
      refine lQ.loadI rfl rfl ?_
      refine lQ.push rfl ?_
      rcases iteC hy1 with ⟨hc, hy1⟩ | ⟨hc, hy1⟩
      · refine lQ.cmpF rfl (decide_eq_false (Int32.not_le.mpr hc)) ?_
        refine lQ.push rfl ?_
        refine lQ.goto rfl ?_
        obtain rfl := Option.some.inj hy1
        exact lQ.sub (lSb rfl (lSb rfl (lSb rfl lSb0))) hJ1
      · refine lQ.cmpT rfl (decide_eq_true (Int32.not_lt.mp hc)) ?_
        refine lQ.push rfl ?_
        obtain rfl := Option.some.inj hy1
        exact lQ.sub (lSb rfl (lSb rfl (lSb rfl lSb0))) hJ1
theorem ts_639 {R : lAR} (hR : lRok R) {E : lE} {ad : List Nat} (hn : tOk ad) {v1 : Int32} {v2 : Int32} {s : TS} {A0 : lMem} {x : Int32 × TS} (h : t_639 v1 v2 s = some x) {Z : lZ} (hz : Z (.inl (some (.int x.1))) (tp ad x.2 A0)) : lSQ R E 2 639 [.ref (adr ad 0), .int v1, .int v2] (tp ad s A0) Z := by
  refine lQ.sq pg_639 (Nat.le_of_ble_eq_true rfl) rfl ?_
  unfold t_639 at h
  refine lQ.loadN rfl rfl ?_
  refine lQ.loadI rfl rfl ?_
  refine lQ.push rfl ?_
  obtain ⟨v10, hy1, h1⟩ := bindC h
  have hJ1 : lQ R E 1 cd_639 10 [(0, .ref (adr ad 0)), (1, .int v1), (2, .int v2)] [.int v10, .ref (adr ad 0)] (tp ad s A0) Z := by
    refine lQ.loadN rfl rfl ?_
    refine lQ.get hR rfl (tf_0_1 hn) ?_
    obtain ⟨x1, hx, h1⟩ := bindC h1
    refine lQ.callVI (F := (fun y A => x1.1 = y ∧ A = tp ad x1.2 A0)) (G := fun _ _ => False) (args := [.ref (adr ad 0), .int v10, .int (s.1 1)]) (r := []) hR rfl rfl rfl (Nat.le_of_ble_eq_true rfl) (Nat.le_of_ble_eq_true rfl) rfl (tk_0 hn rfl) (ts_558 hR hn hx (cI_mk ⟨rfl, rfl⟩)) ?_ (fun _ _ _ z => z.elim)
    rintro _ _ ⟨rfl, rfl⟩
    rcases iteC h1 with ⟨hc, h1⟩ | ⟨hc, h1⟩
    · refine lQ.ifF rfl (decide_eq_false (fun z => z hc)) ?_
      refine lQ.push rfl ?_
      obtain rfl := Option.some.inj h1
      exact lQ.retI rfl rfl hz
    · refine lQ.ifT rfl (decide_eq_true hc) ?_
      refine lQ.loadN rfl rfl ?_
      refine lQ.get hR rfl (tf_0_6 hn) ?_
      refine lQ.get hR rfl (tf_4_12 hn) ?_
      refine lQ.loadI rfl rfl ?_
      obtain ⟨x2, hx, h1⟩ := bindC h1
      refine lQ.ald hR rfl (ta_136 hn hx) ?_
      refine lQ.stI rfl (lN2s rfl rfl) ?_
      refine lQ.loadN rfl rfl ?_
      refine lQ.get hR rfl (tf_0_6 hn) ?_
      refine lQ.get hR rfl (tf_4_12 hn) ?_
      refine lQ.loadI rfl rfl ?_
      refine lQ.loadI rfl rfl ?_
      obtain ⟨s3, hx, h1⟩ := bindC h1
      refine lQ.ast hR rfl (tw_136 hn hx) ?_
      rintro _ rfl
      refine lQ.loadI rfl rfl ?_
      obtain rfl := Option.some.inj h1
      exact lQ.retI rfl rfl hz
  rcases iteC hy1 with ⟨hc, hy1⟩ | ⟨hc, hy1⟩
  · refine lQ.cmpT rfl (decide_eq_true hc) ?_
    refine lQ.push rfl ?_
    obtain rfl := Option.some.inj hy1
    exact lQ.sub (lSb rfl (lSb rfl (lSb rfl lSb0))) hJ1
  · refine lQ.cmpF rfl (decide_eq_false hc) ?_
    refine lQ.loadI rfl rfl ?_
    refine lQ.push rfl ?_
    rcases iteC hy1 with ⟨hc, hy1⟩ | ⟨hc, hy1⟩
    · refine lQ.cmpF rfl (decide_eq_false (Int32.not_le.mpr hc)) ?_
      refine lQ.push rfl ?_
      refine lQ.goto rfl ?_
      obtain rfl := Option.some.inj hy1
      exact lQ.sub (lSb rfl (lSb rfl (lSb rfl lSb0))) hJ1
    · refine lQ.cmpT rfl (decide_eq_true (Int32.not_lt.mp hc)) ?_
      refine lQ.push rfl ?_
      obtain rfl := Option.some.inj hy1
      exact lQ.sub (lSb rfl (lSb rfl (lSb rfl lSb0))) hJ1
theorem ts_640 {R : lAR} (hR : lRok R) {E : lE} {ad : List Nat} (hn : tOk ad) {v1 : Int32} {s : TS} {A0 : lMem} {x : Int32 × TS} (h : t_640 v1 s = some x) {Z : lZ} (hz : Z (.inl (some (.int x.1))) (tp ad x.2 A0)) : lSQ R E 2 640 [.ref (adr ad 0), .int v1] (tp ad s A0) Z := by
  refine lQ.sq pg_640 (Nat.le_of_ble_eq_true rfl) rfl ?_
  unfold t_640 at h
  refine lQ.loadN rfl rfl ?_
  refine lQ.loadI rfl rfl ?_
  refine lQ.push rfl ?_
  obtain ⟨x1, hx, h⟩ := bindC h
  refine lQ.callI (F := (fun y A => x1 = y ∧ A = tp ad s A0)) (G := fun _ _ => False) (args := [.int v1, .int 10]) (r := [.ref (adr ad 0)]) hR rfl rfl rfl (Nat.le_of_ble_eq_true rfl) (Nat.le_of_ble_eq_true rfl) (ts_560 hR hn hx (cI_mk ⟨rfl, rfl⟩)) ?_ (fun _ _ _ z => z.elim)
  rintro _ _ ⟨rfl, rfl⟩
  refine lQ.loadN rfl rfl ?_
  refine lQ.get hR rfl (tf_0_1 hn) ?_
  obtain ⟨x2, hx, h⟩ := bindC h
  refine lQ.callVI (F := (fun y A => x2.1 = y ∧ A = tp ad x2.2 A0)) (G := fun _ _ => False) (args := [.ref (adr ad 0), .int x1, .int (s.1 1)]) (r := []) hR rfl rfl rfl (Nat.le_of_ble_eq_true rfl) (Nat.le_of_ble_eq_true rfl) rfl (tk_0 hn rfl) (ts_558 hR hn hx (cI_mk ⟨rfl, rfl⟩)) ?_ (fun _ _ _ z => z.elim)
  rintro _ _ ⟨rfl, rfl⟩
  rcases iteC h with ⟨hc, h⟩ | ⟨hc, h⟩
  · refine lQ.ifT rfl (decide_eq_true hc) ?_
    refine lQ.push rfl ?_
    obtain rfl := Option.some.inj h
    exact lQ.retI rfl rfl hz
  · refine lQ.ifF rfl (decide_eq_false hc) ?_
    refine lQ.loadN rfl rfl ?_
    refine lQ.get hR rfl (tf_0_6 hn) ?_
    refine lQ.get hR rfl (tf_4_12 hn) ?_
    refine lQ.loadI rfl rfl ?_
    obtain ⟨x3, hx, h⟩ := bindC h
    refine lQ.ald hR rfl (ta_136 hn hx) ?_
    refine lQ.goto rfl ?_
    obtain rfl := Option.some.inj h
    exact lQ.retI rfl rfl hz
theorem ts_809 {R : lAR} (hR : lRok R) {E : lE} {ad : List Nat} (hn : tOk ad) {v0 : Int32} {s : TS} {A0 : lMem} {x : Int32} (h : t_809 v0 s = some x) {Z : lZ} (hz : Z (.inl (some (.int x))) (tp ad s A0)) : lSQ R E 1 809 [.int v0] (tp ad s A0) Z := by
  refine lQ.sq pg_809 (Nat.le_of_ble_eq_true rfl) rfl ?_
  unfold t_809 at h
  refine lQ.loadI rfl rfl ?_
  refine lQ.push rfl ?_
  rcases iteC h with ⟨hc, h⟩ | ⟨hc, h⟩
  · refine lQ.cmpT rfl (decide_eq_true hc) ?_
    refine lQ.push rfl ?_
    obtain rfl := Option.some.inj h
    exact lQ.retI rfl rfl hz
  · refine lQ.cmpF rfl (decide_eq_false hc) ?_
    refine lQ.loadI rfl rfl ?_
    refine lQ.push rfl ?_
    rcases iteC h with ⟨hc, h⟩ | ⟨hc, h⟩
    · refine lQ.cmpF rfl (decide_eq_false (fun z => z hc)) ?_
      refine lQ.push rfl ?_
      obtain rfl := Option.some.inj h
      exact lQ.retI rfl rfl hz
    · refine lQ.cmpT rfl (decide_eq_true hc) ?_
      refine lQ.loadI rfl rfl ?_
      refine lQ.push rfl ?_
      rcases iteC h with ⟨hc, h⟩ | ⟨hc, h⟩
      · refine lQ.cmpF rfl (decide_eq_false (fun z => z hc)) ?_
        refine lQ.push rfl ?_
        obtain rfl := Option.some.inj h
        exact lQ.retI rfl rfl hz
      · refine lQ.cmpT rfl (decide_eq_true hc) ?_
        refine lQ.loadI rfl rfl ?_
        refine lQ.push rfl ?_
        rcases iteC h with ⟨hc, h⟩ | ⟨hc, h⟩
        · refine lQ.cmpT rfl (decide_eq_true hc) ?_
          refine lQ.push rfl ?_
          refine lQ.goto rfl ?_
          obtain rfl := Option.some.inj h
          exact lQ.retI rfl rfl hz
        · refine lQ.cmpF rfl (decide_eq_false hc) ?_
          refine lQ.loadI rfl rfl ?_
          refine lQ.push rfl ?_
          rcases iteC h with ⟨hc, h⟩ | ⟨hc, h⟩
          · refine lQ.cmpT rfl (decide_eq_true hc) ?_
            refine lQ.push rfl ?_
            refine lQ.goto rfl ?_
            obtain rfl := Option.some.inj h
            exact lQ.retI rfl rfl hz
          · refine lQ.cmpF rfl (decide_eq_false hc) ?_
            refine lQ.loadI rfl rfl ?_
            refine lQ.push rfl ?_
            rcases iteC h with ⟨hc, h⟩ | ⟨hc, h⟩
            · refine lQ.cmpT rfl (decide_eq_true hc) ?_
              refine lQ.push rfl ?_
              refine lQ.goto rfl ?_
              obtain rfl := Option.some.inj h
              exact lQ.retI rfl rfl hz
            · refine lQ.cmpF rfl (decide_eq_false hc) ?_
              refine lQ.loadI rfl rfl ?_
              refine lQ.push rfl ?_
              rcases iteC h with ⟨hc, h⟩ | ⟨hc, h⟩
              · refine lQ.cmpT rfl (decide_eq_true hc) ?_
                refine lQ.push rfl ?_
                refine lQ.goto rfl ?_
                obtain rfl := Option.some.inj h
                exact lQ.retI rfl rfl hz
              · refine lQ.cmpF rfl (decide_eq_false hc) ?_
                refine lQ.loadI rfl rfl ?_
                refine lQ.push rfl ?_
                rcases iteC h with ⟨hc, h⟩ | ⟨hc, h⟩
                · refine lQ.cmpF rfl (decide_eq_false (fun z => z hc)) ?_
                  refine lQ.push rfl ?_
                  refine lQ.goto rfl ?_
                  obtain rfl := Option.some.inj h
                  exact lQ.retI rfl rfl hz
                · refine lQ.cmpT rfl (decide_eq_true hc) ?_
                  refine lQ.push rfl ?_
                  obtain rfl := Option.some.inj h
                  exact lQ.retI rfl rfl hz
theorem ts_808 {R : lAR} (hR : lRok R) {E : lE} {ad : List Nat} (hn : tOk ad) {v1 : Int32} {s : TS} {A0 : lMem} {x : Int32} (h : t_808 v1 s = some x) {Z : lZ} (hz : Z (.inl (some (.int x))) (tp ad s A0)) : lSQ R E 2 808 [.ref (adr ad 4), .int v1] (tp ad s A0) Z := by
  refine lQ.sq pg_808 (Nat.le_of_ble_eq_true rfl) rfl ?_
  unfold t_808 at h
  refine lQ.push rfl ?_
  refine lQ.stI rfl (lN2s rfl rfl) ?_
  refine lQ.push rfl ?_
  refine lQ.stI rfl (lN2s rfl rfl) ?_
  obtain ⟨v41, hy1, h1⟩ := bindC h
  have hJ1 : lQ R E 1 cd_808 41 [(2, .int v41)] [] (tp ad s A0) Z := by
    refine lQ.loadI rfl rfl ?_
    rcases iteC h1 with ⟨hg, h1⟩ | ⟨_, h1⟩
    case inr => cases h1
    have hb := hg
    obtain rfl := Option.some.inj h1
    exact lQ.retI rfl (fitB hb) hz
  refine lQ.sub (lSb rfl (lSb rfl (lSb rfl (lSb rfl lSb0)))) (wh_run (P := fun p4 => lQ R E 1 cd_808 4 [(0, .ref (adr ad 4)), (1, .int v1), (2, .int p4.1), (3, .int p4.2)] [] (tp ad s A0) Z) hy1 ?_)
  intro p4 r2 hb2 hI2 hX2
  refine lQ.loadI rfl rfl ?_
  refine lQ.loadN rfl rfl ?_
  refine lQ.get hR rfl (tf_4_1 hn) ?_
  refine lQ.loadI rfl rfl ?_
  obtain ⟨x1, hx, hb2⟩ := bindC hb2
  refine lQ.ald hR rfl (ta_125 hn hx) ?_
  obtain ⟨x2, hx, hb2⟩ := bindC hb2
  refine lQ.callI (F := (fun y A => x2 = y ∧ A = tp ad s A0)) (G := fun _ _ => False) (args := [.int x1]) (r := [.int p4.2]) hR rfl rfl rfl (Nat.le_of_ble_eq_true rfl) (Nat.le_of_ble_eq_true rfl) (ts_809 hR hn hx (cI_mk ⟨rfl, rfl⟩)) ?_ (fun _ _ _ z => z.elim)
  rintro _ _ ⟨rfl, rfl⟩
  rcases iteC hb2 with ⟨hc, hb2⟩ | ⟨hc, hb2⟩
  · refine lQ.cmpF rfl (decide_eq_false (Int32.not_le.mpr hc)) ?_
    refine lQ.loadN rfl rfl ?_
    refine lQ.get hR rfl (tf_4_1 hn) ?_
    refine lQ.loadI rfl rfl ?_
    obtain ⟨x3, hx, hb2⟩ := bindC hb2
    refine lQ.ald hR rfl (ta_125 hn hx) ?_
    refine lQ.push rfl ?_
    rcases iteC hb2 with ⟨hc, hb2⟩ | ⟨hc, hb2⟩
    · refine lQ.cmpT rfl (decide_eq_true hc) ?_
      obtain rfl := Option.some.inj hb2
      obtain rfl := hX2 _ rfl
      exact lQ.sub (lSb rfl lSb0) hJ1
    · refine lQ.cmpF rfl (decide_eq_false hc) ?_
      refine lQ.loadN rfl rfl ?_
      refine lQ.get hR rfl (tf_4_5 hn) ?_
      refine lQ.push rfl ?_
      refine lQ.loadI rfl rfl ?_
      refine lQ.binI rfl ?_
      refine lQ.loadI rfl rfl ?_
      refine lQ.binI rfl ?_
      obtain ⟨x4, hx, hb2⟩ := bindC hb2
      refine lQ.ald hR rfl (ta_129 hn hx) ?_
      refine lQ.stI rfl (lN2s rfl rfl) ?_
      refine lQ.loadI rfl rfl ?_
      obtain ⟨v38, hy3, h3⟩ := bindC hb2
      have hJ3 : lQ R E 1 cd_808 38 [(0, .ref (adr ad 4)), (1, .int v1), (3, .int p4.2)] [.int v38] (tp ad s A0) Z := by
        refine lQ.stI rfl (lN2s rfl rfl) ?_
        refine lQ.inc rfl rfl (lN2s rfl rfl) ?_
        refine lQ.goto rfl ?_
        obtain rfl := Option.some.inj h3
        exact lQ.sub (lSb rfl (lSb rfl (lSb rfl (lSb rfl lSb0)))) (hI2 _ rfl)
      rcases iteC hy3 with ⟨hc, hy3⟩ | ⟨hc, hy3⟩
      · refine lQ.ifT rfl (decide_eq_true hc) ?_
        refine lQ.push rfl ?_
        obtain rfl := Option.some.inj hy3
        exact lQ.sub (lSb rfl (lSb rfl (lSb rfl lSb0))) hJ3
      · refine lQ.ifF rfl (decide_eq_false hc) ?_
        refine lQ.loadI rfl rfl ?_
        rcases iteC hy3 with ⟨hc, hy3⟩ | ⟨hc, hy3⟩
        · refine lQ.ifT rfl (decide_eq_true hc) ?_
          refine lQ.push rfl ?_
          refine lQ.goto rfl ?_
          obtain rfl := Option.some.inj hy3
          exact lQ.sub (lSb rfl (lSb rfl (lSb rfl lSb0))) hJ3
        · refine lQ.ifF rfl (decide_eq_false hc) ?_
          refine lQ.loadN rfl rfl ?_
          refine lQ.get hR rfl (tf_4_16 hn) ?_
          refine lQ.loadI rfl rfl ?_
          obtain ⟨x5, hx, hy3⟩ := bindC hy3
          refine lQ.ald hR rfl (ta_139 hn hx) ?_
          rcases iteC hy3 with ⟨hc, hy3⟩ | ⟨hc, hy3⟩
          · refine lQ.ifT rfl (decide_eq_true hc) ?_
            refine lQ.push rfl ?_
            obtain rfl := Option.some.inj hy3
            exact lQ.sub (lSb rfl (lSb rfl (lSb rfl lSb0))) hJ3
          · refine lQ.ifF rfl (decide_eq_false hc) ?_
            refine lQ.push rfl ?_
            refine lQ.goto rfl ?_
            obtain rfl := Option.some.inj hy3
            exact lQ.sub (lSb rfl (lSb rfl (lSb rfl lSb0))) hJ3
  · refine lQ.cmpT rfl (decide_eq_true (Int32.not_lt.mp hc)) ?_
    obtain rfl := Option.some.inj hb2
    obtain rfl := hX2 _ rfl
    exact lQ.sub (lSb rfl lSb0) hJ1
theorem ts_807 {R : lAR} (hR : lRok R) {E : lE} {ad : List Nat} (hn : tOk ad) {s : TS} {A0 : lMem} {x : Int32 × TS} (h : t_807 s = some x) {Z : lZ} (hz : Z (.inl (some (.int x.1))) (tp ad x.2 A0)) : lSQ R E 3 807 [.ref (adr ad 4)] (tp ad s A0) Z := by
  refine lQ.sq pg_807 (Nat.le_of_ble_eq_true rfl) rfl ?_
  unfold t_807 at h
  refine lQ.push rfl ?_
  refine lQ.stI rfl (lN2s rfl rfl) ?_
  obtain ⟨v13, hy1, h1⟩ := bindC h
  have hJ1 : lQ R E 2 cd_807 13 [(0, .ref (adr ad 4))] [] (tp ad v13 A0) Z := by
    refine lQ.push rfl ?_
    refine lQ.stI rfl (lN2s rfl rfl) ?_
    refine lQ.push rfl ?_
    refine lQ.stI rfl (lN2s rfl rfl) ?_
    obtain ⟨v63, hy2, h2⟩ := bindC h1
    have hJ2 : lQ R E 2 cd_807 63 [(0, .ref (adr ad 4)), (1, .int v63.2)] [] (tp ad v63.1 A0) Z := by
      refine lQ.loadI rfl rfl ?_
      refine lQ.stI rfl (lN2n rfl) ?_
      refine lQ.push rfl ?_
      refine lQ.stI rfl (lN2s rfl rfl) ?_
      obtain ⟨v84, hy3, h3⟩ := bindC h2
      have hJ3 : lQ R E 2 cd_807 84 [(1, .int v63.2)] [] (tp ad v84 A0) Z := by
        refine lQ.loadI rfl rfl ?_
        obtain rfl := Option.some.inj h3
        exact lQ.retI rfl rfl hz
      refine lQ.sub (lSb rfl (lSb rfl (lSb rfl (lSb rfl lSb0)))) (wh_run (P := fun p67 => lQ R E 2 cd_807 67 [(0, .ref (adr ad 4)), (1, .int v63.2), (3, .int p67.2.1), (4, .int p67.2.2)] [] (tp ad p67.1 A0) Z) hy3 ?_)
      intro p67 r4 hb4 hI4 hX4
      refine lQ.loadI rfl rfl ?_
      refine lQ.loadN rfl rfl ?_
      refine lQ.get hR rfl (tf_4_0 hn) ?_
      rcases iteC hb4 with ⟨hc, hb4⟩ | ⟨hc, hb4⟩
      · refine lQ.cmpF rfl (decide_eq_false (Int32.not_le.mpr hc)) ?_
        refine lQ.loadN rfl rfl ?_
        refine lQ.get hR rfl (tf_4_16 hn) ?_
        refine lQ.loadI rfl rfl ?_
        obtain ⟨x6, hx, hb4⟩ := bindC hb4
        refine lQ.ald hR rfl (ta_139 hn hx) ?_
        obtain ⟨v82, hy5, h5⟩ := bindC hb4
        have hJ5 : lQ R E 2 cd_807 82 [(0, .ref (adr ad 4)), (1, .int v63.2), (3, .int v82.2), (4, .int p67.2.2)] [] (tp ad v82.1 A0) Z := by
          refine lQ.inc rfl rfl (lN2s rfl rfl) ?_
          refine lQ.goto rfl ?_
          obtain rfl := Option.some.inj h5
          exact lQ.sub (lSb rfl (lSb rfl (lSb rfl (lSb rfl lSb0)))) (hI4 _ rfl)
        rcases iteC hy5 with ⟨hc, hy5⟩ | ⟨hc, hy5⟩
        · refine lQ.ifF rfl (decide_eq_false (fun z => z hc)) ?_
          refine lQ.loadN rfl rfl ?_
          refine lQ.get hR rfl (tf_4_15 hn) ?_
          refine lQ.loadI rfl rfl ?_
          refine lQ.loadI rfl rfl ?_
          obtain ⟨s7, hx, hy5⟩ := bindC hy5
          refine lQ.ast hR rfl (tw_138 hn hx) ?_
          rintro _ rfl
          refine lQ.inc rfl rfl (lN2n rfl) ?_
          obtain rfl := Option.some.inj hy5
          exact lQ.sub (lSb rfl (lSb rfl (lSb rfl (lSb rfl lSb0)))) hJ5
        · refine lQ.ifT rfl (decide_eq_true hc) ?_
          obtain rfl := Option.some.inj hy5
          exact lQ.sub (lSb rfl (lSb rfl (lSb rfl (lSb rfl lSb0)))) hJ5
      · refine lQ.cmpT rfl (decide_eq_true (Int32.not_lt.mp hc)) ?_
        obtain rfl := Option.some.inj hb4
        obtain rfl := hX4 _ rfl
        exact lQ.sub (lSb rfl lSb0) hJ3
    refine lQ.sub (lSb rfl (lSb rfl (lSb rfl lSb0))) (wh_run (P := fun p17 => lQ R E 2 cd_807 17 [(0, .ref (adr ad 4)), (1, .int p17.2.1), (2, .int p17.2.2)] [] (tp ad p17.1 A0) Z) hy2 ?_)
    intro p17 r6 hb6 hI6 hX6
    refine lQ.loadI rfl rfl ?_
    rcases iteC hb6 with ⟨hc, hb6⟩ | ⟨hc, hb6⟩
    · refine lQ.ifT rfl (decide_eq_true hc) ?_
      obtain rfl := Option.some.inj hb6
      obtain rfl := hX6 _ rfl
      exact lQ.sub (lSb rfl (lSb rfl lSb0)) hJ2
    · refine lQ.ifF rfl (decide_eq_false hc) ?_
      refine lQ.push rfl ?_
      refine lQ.stI rfl (lN2s rfl rfl) ?_
      refine lQ.loadN rfl rfl ?_
      refine lQ.get hR rfl (tf_4_0 hn) ?_
      refine lQ.push rfl ?_
      refine lQ.binI rfl ?_
      refine lQ.stI rfl (lN2s rfl rfl) ?_
      obtain ⟨v43, hy7, h7⟩ := bindC hb6
      have hJ7 : lQ R E 2 cd_807 43 [(0, .ref (adr ad 4)), (1, .int p17.2.1), (3, .int v43)] [] (tp ad p17.1 A0) Z := by
        refine lQ.loadI rfl rfl ?_
        obtain ⟨v48, hy8, h8⟩ := bindC h7
        have hJ8 : lQ R E 2 cd_807 48 [(0, .ref (adr ad 4)), (1, .int p17.2.1), (3, .int v43)] [.int v48] (tp ad p17.1 A0) Z := by
          refine lQ.stI rfl (lN2s rfl rfl) ?_
          refine lQ.loadI rfl rfl ?_
          obtain ⟨v62, hy9, h9⟩ := bindC h8
          have hJ9 : lQ R E 2 cd_807 62 [(0, .ref (adr ad 4)), (1, .int v62.2), (2, .int v48)] [] (tp ad v62.1 A0) Z := by
            refine lQ.goto rfl ?_
            obtain rfl := Option.some.inj h9
            exact lQ.sub (lSb rfl (lSb rfl (lSb rfl lSb0))) (hI6 _ rfl)
          rcases iteC hy9 with ⟨hc, hy9⟩ | ⟨hc, hy9⟩
          · refine lQ.ifT rfl (decide_eq_true hc) ?_
            obtain rfl := Option.some.inj hy9
            exact lQ.sub (lSb rfl (lSb rfl (lSb rfl lSb0))) hJ9
          · refine lQ.ifF rfl (decide_eq_false hc) ?_
            refine lQ.loadN rfl rfl ?_
            refine lQ.get hR rfl (tf_4_16 hn) ?_
            refine lQ.loadI rfl rfl ?_
            refine lQ.push rfl ?_
            obtain ⟨s4, hx, hy9⟩ := bindC hy9
            refine lQ.bst hR rfl (tw_139 hn hx) ?_
            rintro _ rfl
            refine lQ.loadN rfl rfl ?_
            refine lQ.get hR rfl (tf_4_15 hn) ?_
            refine lQ.loadI rfl rfl ?_
            refine lQ.loadI rfl rfl ?_
            obtain ⟨s5, hx, hy9⟩ := bindC hy9
            refine lQ.ast hR rfl (tw_138 hn hx) ?_
            rintro _ rfl
            refine lQ.inc rfl rfl (lN2s rfl rfl) ?_
            obtain rfl := Option.some.inj hy9
            exact lQ.sub (lSb rfl (lSb rfl (lSb rfl lSb0))) hJ9
        rcases iteC hy8 with ⟨hc, hy8⟩ | ⟨hc, hy8⟩
        · refine lQ.ifT rfl (decide_eq_true hc) ?_
          refine lQ.push rfl ?_
          obtain rfl := Option.some.inj hy8
          exact lQ.sub (lSb rfl (lSb rfl (lSb rfl lSb0))) hJ8
        · refine lQ.ifF rfl (decide_eq_false hc) ?_
          refine lQ.push rfl ?_
          refine lQ.goto rfl ?_
          obtain rfl := Option.some.inj hy8
          exact lQ.sub (lSb rfl (lSb rfl (lSb rfl lSb0))) hJ8
      refine lQ.sub (lSb rfl (lSb rfl (lSb rfl (lSb rfl lSb0)))) (wh_run (P := fun p26 => lQ R E 2 cd_807 26 [(0, .ref (adr ad 4)), (1, .int p17.2.1), (3, .int p26.1), (4, .int p26.2)] [] (tp ad p17.1 A0) Z) hy7 ?_)
      intro p26 r10 hb10 hI10 hX10
      refine lQ.loadI rfl rfl ?_
      rcases iteC hb10 with ⟨hc, hb10⟩ | ⟨hc, hb10⟩
      · refine lQ.ifT rfl (decide_eq_true hc) ?_
        obtain rfl := Option.some.inj hb10
        obtain rfl := hX10 _ rfl
        exact lQ.sub (lSb rfl (lSb rfl (lSb rfl lSb0))) hJ7
      · refine lQ.ifF rfl (decide_eq_false hc) ?_
        refine lQ.loadN rfl rfl ?_
        refine lQ.get hR rfl (tf_4_16 hn) ?_
        refine lQ.loadI rfl rfl ?_
        obtain ⟨x2, hx, hb10⟩ := bindC hb10
        refine lQ.ald hR rfl (ta_139 hn hx) ?_
        obtain ⟨v40, hy11, h11⟩ := bindC hb10
        have hJ11 : lQ R E 2 cd_807 40 [(0, .ref (adr ad 4)), (1, .int p17.2.1), (4, .int p26.2)] [.int v40] (tp ad p17.1 A0) Z := by
          refine lQ.stI rfl (lN2n rfl) ?_
          refine lQ.dec rfl rfl (Int32.sub_eq_add_neg p26.2 1).symm (lN2s rfl rfl) ?_
          refine lQ.goto rfl ?_
          obtain rfl := Option.some.inj h11
          exact lQ.sub (lSb rfl (lSb rfl (lSb rfl (lSb rfl lSb0)))) (hI10 _ rfl)
        obtain ⟨y12, hy12, h12⟩ := bindC hy11
        have hJ12 : ∀ v39, y12 = .inl v39 → lQ R E 2 cd_807 39 [(0, .ref (adr ad 4)), (1, .int p17.2.1), (3, .int p26.1), (4, .int p26.2)] [] (tp ad p17.1 A0) Z := by
          rintro v39 rfl
          have h12 := elimC h12
          refine lQ.loadI rfl rfl ?_
          obtain rfl := Option.some.inj h12
          exact lQ.sub (lSb rfl (lSb rfl (lSb rfl lSb0))) hJ11
        rcases iteC hy12 with ⟨hc, hy12⟩ | ⟨hc, hy12⟩
        · refine lQ.ifF rfl (decide_eq_false (fun z => z hc)) ?_
          refine lQ.loadN rfl rfl ?_
          refine lQ.loadI rfl rfl ?_
          obtain ⟨x3, hx, hy12⟩ := bindC hy12
          refine lQ.callVI (F := (fun y A => x3 = y ∧ A = tp ad p17.1 A0)) (G := fun _ _ => False) (args := [.ref (adr ad 4), .int p26.2]) (r := []) hR rfl rfl rfl (Nat.le_of_ble_eq_true rfl) (Nat.le_of_ble_eq_true rfl) rfl (tk_4 hn rfl) (ts_808 hR hn hx (cI_mk ⟨rfl, rfl⟩)) ?_ (fun _ _ _ z => z.elim)
          rintro _ _ ⟨rfl, rfl⟩
          rcases iteC hy12 with ⟨hc, hy12⟩ | ⟨hc, hy12⟩
          · refine lQ.ifT rfl (decide_eq_true hc) ?_
            obtain rfl := Option.some.inj hy12
            exact lQ.sub (lSb rfl (lSb rfl (lSb rfl (lSb rfl lSb0)))) (hJ12 _ rfl)
          · refine lQ.ifF rfl (decide_eq_false hc) ?_
            refine lQ.loadI rfl rfl ?_
            refine lQ.goto rfl ?_
            obtain rfl := Option.some.inj hy12
            obtain rfl := elimD h12
            exact lQ.sub (lSb rfl (lSb rfl (lSb rfl lSb0))) hJ11
        · refine lQ.ifT rfl (decide_eq_true hc) ?_
          obtain rfl := Option.some.inj hy12
          exact lQ.sub (lSb rfl (lSb rfl (lSb rfl (lSb rfl lSb0)))) (hJ12 _ rfl)
  refine lQ.sub (lSb rfl (lSb rfl lSb0)) (wh_run (P := fun p2 => lQ R E 2 cd_807 2 [(0, .ref (adr ad 4)), (1, .int p2.2)] [] (tp ad p2.1 A0) Z) hy1 ?_)
  intro p2 r13 hb13 hI13 hX13
  refine lQ.loadI rfl rfl ?_
  refine lQ.loadN rfl rfl ?_
  refine lQ.get hR rfl (tf_4_0 hn) ?_
  rcases iteC hb13 with ⟨hc, hb13⟩ | ⟨hc, hb13⟩
  · refine lQ.cmpF rfl (decide_eq_false (Int32.not_le.mpr hc)) ?_
    refine lQ.loadN rfl rfl ?_
    refine lQ.get hR rfl (tf_4_16 hn) ?_
    refine lQ.loadI rfl rfl ?_
    refine lQ.push rfl ?_
    obtain ⟨s1, hx, hb13⟩ := bindC hb13
    refine lQ.bst hR rfl (tw_139 hn hx) ?_
    rintro _ rfl
    refine lQ.inc rfl rfl (lN2s rfl rfl) ?_
    refine lQ.goto rfl ?_
    obtain rfl := Option.some.inj hb13
    exact lQ.sub (lSb rfl (lSb rfl lSb0)) (hI13 _ rfl)
  · refine lQ.cmpT rfl (decide_eq_true (Int32.not_lt.mp hc)) ?_
    obtain rfl := Option.some.inj hb13
    obtain rfl := hX13 _ rfl
    exact lQ.sub (lSb rfl lSb0) hJ1
theorem ts_641 {R : lAR} (hR : lRok R) {E : lE} {ad : List Nat} (hn : tOk ad) {s : TS} {A0 : lMem} {x : Int32 × TS} (h : t_641 s = some x) {Z : lZ} (hz : Z (.inl (some (.int x.1))) (tp ad x.2 A0)) : lSQ R E 4 641 [.ref (adr ad 0)] (tp ad s A0) Z := by
  refine lQ.sq pg_641 (Nat.le_of_ble_eq_true rfl) rfl ?_
  unfold t_641 at h
  refine lQ.loadN rfl rfl ?_
  refine lQ.loadN rfl rfl ?_
  refine lQ.get hR rfl (tf_0_1 hn) ?_
  obtain ⟨x1, hx, h⟩ := bindC h
  refine lQ.callVI (F := (fun y A => x1.1 = y ∧ A = tp ad x1.2 A0)) (G := fun _ _ => False) (args := [.ref (adr ad 0), .int (s.1 1)]) (r := []) hR rfl rfl rfl (Nat.le_of_ble_eq_true rfl) (Nat.le_of_ble_eq_true rfl) rfl (tk_0 hn rfl) (ts_563 hR hn hx (cI_mk ⟨rfl, rfl⟩)) ?_ (fun _ _ _ z => z.elim)
  rintro _ _ ⟨rfl, rfl⟩
  rcases iteC h with ⟨hc, h⟩ | ⟨hc, h⟩
  · refine lQ.ifT rfl (decide_eq_true hc) ?_
    refine lQ.push rfl ?_
    obtain rfl := Option.some.inj h
    exact lQ.retI rfl rfl hz
  · refine lQ.ifF rfl (decide_eq_false hc) ?_
    refine lQ.loadN rfl rfl ?_
    refine lQ.get hR rfl (tf_0_6 hn) ?_
    obtain ⟨x2, hx, h⟩ := bindC h
    refine lQ.callVI (F := (fun y A => x2.1 = y ∧ A = tp ad x2.2 A0)) (G := fun _ _ => False) (args := [.ref (adr ad 4)]) (r := []) hR rfl rfl rfl (Nat.le_of_ble_eq_true rfl) (Nat.le_of_ble_eq_true rfl) rfl (tk_4 hn rfl) (ts_807 hR hn hx (cI_mk ⟨rfl, rfl⟩)) ?_ (fun _ _ _ z => z.elim)
    rintro _ _ ⟨rfl, rfl⟩
    refine lQ.goto rfl ?_
    obtain rfl := Option.some.inj h
    exact lQ.retI rfl rfl hz
theorem ts_810 {R : lAR} (hR : lRok R) {E : lE} {ad : List Nat} (hn : tOk ad) {v1 : Int32} {s : TS} {A0 : lMem} {x : Int32 × TS} (h : t_810 v1 s = some x) {Z : lZ} (hz : Z (.inl (some (.int x.1))) (tp ad x.2 A0)) : lSQ R E 4 810 [.ref (adr ad 4), .int v1] (tp ad s A0) Z := by
  refine lQ.sq pg_810 (Nat.le_of_ble_eq_true rfl) rfl ?_
  unfold t_810 at h
  refine lQ.loadN rfl rfl ?_
  obtain ⟨x1, hx, h⟩ := bindC h
  refine lQ.callVI (F := (fun y A => x1.1 = y ∧ A = tp ad x1.2 A0)) (G := fun _ _ => False) (args := [.ref (adr ad 4)]) (r := []) hR rfl rfl rfl (Nat.le_of_ble_eq_true rfl) (Nat.le_of_ble_eq_true rfl) rfl (tk_4 hn rfl) (ts_807 hR hn hx (cI_mk ⟨rfl, rfl⟩)) ?_ (fun _ _ _ z => z.elim)
  rintro _ _ ⟨rfl, rfl⟩
  refine lQ.stI rfl (lN2s rfl rfl) ?_
  refine lQ.push rfl ?_
  refine lQ.stI rfl (lN2s rfl rfl) ?_
  obtain ⟨v13, hy1, h1⟩ := bindC h
  have hJ1 : lQ R E 3 cd_810 13 [(3, .int v13)] [] (tp ad x1.2 A0) Z := by
    refine lQ.loadI rfl rfl ?_
    obtain rfl := Option.some.inj h1
    exact lQ.retI rfl rfl hz
  refine lQ.sub (lSb rfl (lSb rfl (lSb rfl lSb0))) (wh_run (P := fun p5 => lQ R E 3 cd_810 5 [(0, .ref (adr ad 4)), (1, .int v1), (3, .int p5)] [] (tp ad x1.2 A0) Z) hy1 ?_)
  intro p5 r2 hb2 hI2 hX2
  refine lQ.loadN rfl rfl ?_
  refine lQ.get hR rfl (tf_4_15 hn) ?_
  refine lQ.loadI rfl rfl ?_
  obtain ⟨x2, hx, hb2⟩ := bindC hb2
  refine lQ.ald hR rfl (ta_138 hn hx) ?_
  refine lQ.loadI rfl rfl ?_
  rcases iteC hb2 with ⟨hc, hb2⟩ | ⟨hc, hb2⟩
  · refine lQ.cmpT rfl (decide_eq_true hc) ?_
    obtain rfl := Option.some.inj hb2
    obtain rfl := hX2 _ rfl
    exact lQ.sub (lSb rfl lSb0) hJ1
  · refine lQ.cmpF rfl (decide_eq_false hc) ?_
    refine lQ.inc rfl rfl (lN2n rfl) ?_
    refine lQ.goto rfl ?_
    obtain rfl := Option.some.inj hb2
    exact lQ.sub (lSb rfl (lSb rfl (lSb rfl lSb0))) (hI2 _ rfl)
