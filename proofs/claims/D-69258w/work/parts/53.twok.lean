set_option maxRecDepth 100000
theorem ts_618 {R : lAR} (hR : lRok R) {E : lE} {ad : List Nat} (hn : tOk ad) {v1 : Int32} {v2 : Int32} {s : TS} {A0 : lMem} {x : Int32 × TS} (h : t_618 v1 v2 s = some x) {Z : lZ} (hz : Z (.inl (some (.int x.1))) (tp ad x.2 A0)) : lSQ R E 2 618 [.ref (adr ad 0), .int v1, .int v2] (tp ad s A0) Z := by
  refine lQ.sq pg_618 (Nat.le_of_ble_eq_true rfl) rfl ?_
  unfold t_618 at h
  refine lQ.loadN rfl rfl ?_
  refine lQ.loadI rfl rfl ?_
  refine lQ.push rfl ?_
  obtain ⟨x1, hx, h⟩ := bindC h
  refine lQ.callI (F := (fun y A => x1 = y ∧ A = tp ad s A0)) (G := fun _ _ => False) (args := [.int v2, .int 5]) (r := [.ref (adr ad 0)]) hR rfl rfl rfl (Nat.le_of_ble_eq_true rfl) (Nat.le_of_ble_eq_true rfl) (ts_560 hR hn hx (cI_mk ⟨rfl, rfl⟩)) ?_ (fun _ _ _ z => z.elim)
  rintro _ _ ⟨rfl, rfl⟩
  obtain ⟨v19, hy1, h1⟩ := bindC h
  have hJ1 : lQ R E 1 cd_618 19 [(0, .ref (adr ad 0)), (1, .int v1), (2, .int v2)] [.int v19, .ref (adr ad 0)] (tp ad s A0) Z := by
    refine lQ.loadN rfl rfl ?_
    refine lQ.get hR rfl (tf_0_1 hn) ?_
    obtain ⟨x2, hx, h1⟩ := bindC h1
    refine lQ.callVI (F := (fun y A => x2.1 = y ∧ A = tp ad x2.2 A0)) (G := fun _ _ => False) (args := [.ref (adr ad 0), .int v19, .int (s.1 1)]) (r := []) hR rfl rfl rfl (Nat.le_of_ble_eq_true rfl) (Nat.le_of_ble_eq_true rfl) rfl (tk_0 hn rfl) (ts_558 hR hn hx (cI_mk ⟨rfl, rfl⟩)) ?_ (fun _ _ _ z => z.elim)
    rintro _ _ ⟨rfl, rfl⟩
    rcases iteC h1 with ⟨hc, h1⟩ | ⟨hc, h1⟩
    · refine lQ.ifF rfl (decide_eq_false (fun z => z hc)) ?_
      refine lQ.push rfl ?_
      obtain rfl := Option.some.inj h1
      exact lQ.retI rfl rfl hz
    · refine lQ.ifT rfl (decide_eq_true hc) ?_
      refine lQ.loadI rfl rfl ?_
      rcases iteC h1 with ⟨hc, h1⟩ | ⟨hc, h1⟩
      · refine lQ.ifF rfl (decide_eq_false (fun z => z hc)) ?_
        refine lQ.loadN rfl rfl ?_
        refine lQ.get hR rfl (tf_0_49 hn) ?_
        refine lQ.goto rfl ?_
        obtain rfl := Option.some.inj h1
        exact lQ.retI rfl rfl hz
      · refine lQ.ifT rfl (decide_eq_true hc) ?_
        refine lQ.loadI rfl rfl ?_
        refine lQ.push rfl ?_
        rcases iteC h1 with ⟨hc, h1⟩ | ⟨hc, h1⟩
        · refine lQ.cmpF rfl (decide_eq_false (fun z => z hc)) ?_
          refine lQ.loadN rfl rfl ?_
          refine lQ.get hR rfl (tf_0_50 hn) ?_
          refine lQ.loadI rfl rfl ?_
          obtain ⟨x6, hx, h1⟩ := bindC h1
          refine lQ.ald hR rfl (ta_40 hn hx) ?_
          refine lQ.goto rfl ?_
          obtain rfl := Option.some.inj h1
          exact lQ.retI rfl rfl hz
        · refine lQ.cmpT rfl (decide_eq_true hc) ?_
          refine lQ.loadI rfl rfl ?_
          refine lQ.push rfl ?_
          rcases iteC h1 with ⟨hc, h1⟩ | ⟨hc, h1⟩
          · refine lQ.cmpF rfl (decide_eq_false (fun z => z hc)) ?_
            refine lQ.loadN rfl rfl ?_
            refine lQ.get hR rfl (tf_0_51 hn) ?_
            refine lQ.loadI rfl rfl ?_
            obtain ⟨x5, hx, h1⟩ := bindC h1
            refine lQ.ald hR rfl (ta_41 hn hx) ?_
            refine lQ.goto rfl ?_
            obtain rfl := Option.some.inj h1
            exact lQ.retI rfl rfl hz
          · refine lQ.cmpT rfl (decide_eq_true hc) ?_
            refine lQ.loadI rfl rfl ?_
            refine lQ.push rfl ?_
            rcases iteC h1 with ⟨hc, h1⟩ | ⟨hc, h1⟩
            · refine lQ.cmpF rfl (decide_eq_false (fun z => z hc)) ?_
              refine lQ.loadN rfl rfl ?_
              refine lQ.get hR rfl (tf_0_52 hn) ?_
              refine lQ.loadI rfl rfl ?_
              obtain ⟨x4, hx, h1⟩ := bindC h1
              refine lQ.ald hR rfl (ta_42 hn hx) ?_
              refine lQ.goto rfl ?_
              obtain rfl := Option.some.inj h1
              exact lQ.retI rfl rfl hz
            · refine lQ.cmpT rfl (decide_eq_true hc) ?_
              refine lQ.loadN rfl rfl ?_
              refine lQ.get hR rfl (tf_0_53 hn) ?_
              refine lQ.loadI rfl rfl ?_
              obtain ⟨x3, hx, h1⟩ := bindC h1
              refine lQ.ald hR rfl (ta_43 hn hx) ?_
              obtain rfl := Option.some.inj h1
              exact lQ.retI rfl rfl hz
  rcases iteC hy1 with ⟨hc, hy1⟩ | ⟨hc, hy1⟩
  · refine lQ.ifT rfl (decide_eq_true hc) ?_
    refine lQ.push rfl ?_
    obtain rfl := Option.some.inj hy1
    exact lQ.sub (lSb rfl (lSb rfl (lSb rfl lSb0))) hJ1
  · refine lQ.ifF rfl (decide_eq_false hc) ?_
    refine lQ.loadI rfl rfl ?_
    rcases iteC hy1 with ⟨hc, hy1⟩ | ⟨hc, hy1⟩
    · refine lQ.ifT rfl (decide_eq_true hc) ?_
      refine lQ.push rfl ?_
      refine lQ.goto rfl ?_
      obtain rfl := Option.some.inj hy1
      exact lQ.sub (lSb rfl (lSb rfl (lSb rfl lSb0))) hJ1
    · refine lQ.ifF rfl (decide_eq_false hc) ?_
      refine lQ.loadI rfl rfl ?_
      rcases iteC hy1 with ⟨hc, hy1⟩ | ⟨hc, hy1⟩
      · refine lQ.ifT rfl (decide_eq_true hc) ?_
        refine lQ.push rfl ?_
        obtain rfl := Option.some.inj hy1
        exact lQ.sub (lSb rfl (lSb rfl (lSb rfl lSb0))) hJ1
      · refine lQ.ifF rfl (decide_eq_false hc) ?_
        refine lQ.loadI rfl rfl ?_
        refine lQ.loadN rfl rfl ?_
        refine lQ.get hR rfl (tf_0_49 hn) ?_
        rcases iteC hy1 with ⟨hc, hy1⟩ | ⟨hc, hy1⟩
        · refine lQ.cmpF rfl (decide_eq_false (Int32.not_le.mpr hc)) ?_
          refine lQ.loadI rfl rfl ?_
          refine lQ.push rfl ?_
          rcases iteC hy1 with ⟨hc, hy1⟩ | ⟨hc, hy1⟩
          · refine lQ.cmpF rfl (decide_eq_false (Int32.not_le.mpr hc)) ?_
            refine lQ.push rfl ?_
            refine lQ.goto rfl ?_
            obtain rfl := Option.some.inj hy1
            exact lQ.sub (lSb rfl (lSb rfl (lSb rfl lSb0))) hJ1
          · refine lQ.cmpT rfl (decide_eq_true (Int32.not_lt.mp hc)) ?_
            refine lQ.push rfl ?_
            obtain rfl := Option.some.inj hy1
            exact lQ.sub (lSb rfl (lSb rfl (lSb rfl lSb0))) hJ1
        · refine lQ.cmpT rfl (decide_eq_true (Int32.not_lt.mp hc)) ?_
          refine lQ.push rfl ?_
          obtain rfl := Option.some.inj hy1
          exact lQ.sub (lSb rfl (lSb rfl (lSb rfl lSb0))) hJ1
theorem ts_764 {R : lAR} (hR : lRok R) {E : lE} {ad : List Nat} (hn : tOk ad) {v1 : Int32} {s : TS} {A0 : lMem} {x : Int32 × TS} (h : t_764 v1 s = some x) {Z : lZ} (hz : Z (.inl (some (.int x.1))) (tp ad x.2 A0)) : lSQ R E 1 764 [.ref (adr ad 3), .int v1] (tp ad s A0) Z := by
  refine lQ.sq pg_764 (Nat.le_of_ble_eq_true rfl) rfl ?_
  unfold t_764 at h
  refine lQ.loadN rfl rfl ?_
  refine lQ.get hR rfl (tf_3_5 hn) ?_
  refine lQ.loadN rfl rfl ?_
  refine lQ.get hR rfl (tf_3_6 hn) ?_
  refine lQ.loadI rfl rfl ?_
  obtain ⟨s1, hx, h⟩ := bindC h
  refine lQ.ast hR rfl (tw_102 hn hx) ?_
  rintro _ rfl
  refine lQ.loadN rfl rfl ?_
  refine lQ.dupN rfl ?_
  refine lQ.get hR rfl (tf_3_6 hn) ?_
  refine lQ.push rfl ?_
  refine lQ.binI rfl ?_
  obtain ⟨s2, hx, h⟩ := bindC h
  refine lQ.put hR rfl rfl (tq_3_6 hn hx) ?_
  rintro _ rfl
  refine lQ.loadN rfl rfl ?_
  refine lQ.get hR rfl (tf_3_6 hn) ?_
  obtain rfl := Option.some.inj h
  exact lQ.retI rfl rfl hz
theorem ts_619 {R : lAR} (hR : lRok R) {E : lE} {ad : List Nat} (hn : tOk ad) {v1 : Int32} {s : TS} {A0 : lMem} {x : Int32 × TS} (h : t_619 v1 s = some x) {Z : lZ} (hz : Z (.inl (some (.int x.1))) (tp ad x.2 A0)) : lSQ R E 2 619 [.ref (adr ad 0), .int v1] (tp ad s A0) Z := by
  refine lQ.sq pg_619 (Nat.le_of_ble_eq_true rfl) rfl ?_
  unfold t_619 at h
  refine lQ.loadN rfl rfl ?_
  refine lQ.loadI rfl rfl ?_
  obtain ⟨v9, hy1, h1⟩ := bindC h
  have hJ1 : lQ R E 1 cd_619 9 [(0, .ref (adr ad 0)), (1, .int v1)] [.int v9, .ref (adr ad 0)] (tp ad s A0) Z := by
    refine lQ.loadN rfl rfl ?_
    refine lQ.get hR rfl (tf_0_1 hn) ?_
    obtain ⟨v20, hy2, h2⟩ := bindC h1
    have hJ2 : lQ R E 1 cd_619 20 [(0, .ref (adr ad 0)), (1, .int v1)] [.int v20, .int v9, .ref (adr ad 0)] (tp ad s A0) Z := by
      obtain ⟨x1, hx, h2⟩ := bindC h2
      refine lQ.callVI (F := (fun y A => x1.1 = y ∧ A = tp ad x1.2 A0)) (G := fun _ _ => False) (args := [.ref (adr ad 0), .int v9, .int v20]) (r := []) hR rfl rfl rfl (Nat.le_of_ble_eq_true rfl) (Nat.le_of_ble_eq_true rfl) rfl (tk_0 hn rfl) (ts_558 hR hn hx (cI_mk ⟨rfl, rfl⟩)) ?_ (fun _ _ _ z => z.elim)
      rintro _ _ ⟨rfl, rfl⟩
      rcases iteC h2 with ⟨hc, h2⟩ | ⟨hc, h2⟩
      · refine lQ.ifT rfl (decide_eq_true hc) ?_
        refine lQ.push rfl ?_
        obtain rfl := Option.some.inj h2
        exact lQ.retI rfl rfl hz
      · refine lQ.ifF rfl (decide_eq_false hc) ?_
        refine lQ.loadN rfl rfl ?_
        refine lQ.get hR rfl (tf_0_5 hn) ?_
        refine lQ.loadI rfl rfl ?_
        obtain ⟨x2, hx, h2⟩ := bindC h2
        refine lQ.callVI (F := (fun y A => x2.1 = y ∧ A = tp ad x2.2 A0)) (G := fun _ _ => False) (args := [.ref (adr ad 3), .int v1]) (r := []) hR rfl rfl rfl (Nat.le_of_ble_eq_true rfl) (Nat.le_of_ble_eq_true rfl) rfl (tk_3 hn rfl) (ts_764 hR hn hx (cI_mk ⟨rfl, rfl⟩)) ?_ (fun _ _ _ z => z.elim)
        rintro _ _ ⟨rfl, rfl⟩
        refine lQ.goto rfl ?_
        obtain rfl := Option.some.inj h2
        exact lQ.retI rfl rfl hz
    rcases iteC hy2 with ⟨hc, hy2⟩ | ⟨hc, hy2⟩
    · refine lQ.ifT rfl (decide_eq_true hc) ?_
      refine lQ.push rfl ?_
      obtain rfl := Option.some.inj hy2
      exact lQ.sub (lSb rfl (lSb rfl lSb0)) hJ2
    · refine lQ.ifF rfl (decide_eq_false hc) ?_
      refine lQ.loadN rfl rfl ?_
      refine lQ.get hR rfl (tf_0_5 hn) ?_
      refine lQ.get hR rfl (tf_3_6 hn) ?_
      refine lQ.push rfl ?_
      rcases iteC hy2 with ⟨hc, hy2⟩ | ⟨hc, hy2⟩
      · refine lQ.cmpF rfl (decide_eq_false (Int32.not_le.mpr hc)) ?_
        refine lQ.push rfl ?_
        refine lQ.goto rfl ?_
        obtain rfl := Option.some.inj hy2
        exact lQ.sub (lSb rfl (lSb rfl lSb0)) hJ2
      · refine lQ.cmpT rfl (decide_eq_true (Int32.not_lt.mp hc)) ?_
        refine lQ.push rfl ?_
        obtain rfl := Option.some.inj hy2
        exact lQ.sub (lSb rfl (lSb rfl lSb0)) hJ2
  rcases iteC hy1 with ⟨hc, hy1⟩ | ⟨hc, hy1⟩
  · refine lQ.ifT rfl (decide_eq_true hc) ?_
    refine lQ.push rfl ?_
    obtain rfl := Option.some.inj hy1
    exact lQ.sub (lSb rfl (lSb rfl lSb0)) hJ1
  · refine lQ.ifF rfl (decide_eq_false hc) ?_
    refine lQ.loadI rfl rfl ?_
    refine lQ.push rfl ?_
    rcases iteC hy1 with ⟨hc, hy1⟩ | ⟨hc, hy1⟩
    · refine lQ.cmpT rfl (decide_eq_true hc) ?_
      refine lQ.push rfl ?_
      obtain rfl := Option.some.inj hy1
      exact lQ.sub (lSb rfl (lSb rfl lSb0)) hJ1
    · refine lQ.cmpF rfl (decide_eq_false hc) ?_
      refine lQ.push rfl ?_
      refine lQ.goto rfl ?_
      obtain rfl := Option.some.inj hy1
      exact lQ.sub (lSb rfl (lSb rfl lSb0)) hJ1
theorem ts_765 {R : lAR} (hR : lRok R) {E : lE} {ad : List Nat} (hn : tOk ad) {v0 : Int32} {s : TS} {A0 : lMem} {x : Int32} (h : t_765 v0 s = some x) {Z : lZ} (hz : Z (.inl (some (.int x))) (tp ad s A0)) : lSQ R E 1 765 [.int v0] (tp ad s A0) Z := by
  refine lQ.sq pg_765 (Nat.le_of_ble_eq_true rfl) rfl ?_
  unfold t_765 at h
  refine lQ.loadI rfl rfl ?_
  rcases iteC h with ⟨hc, h⟩ | ⟨hc, h⟩
  · refine lQ.ifT rfl (decide_eq_true hc) ?_
    refine lQ.push rfl ?_
    obtain rfl := Option.some.inj h
    exact lQ.retI rfl rfl hz
  · refine lQ.ifF rfl (decide_eq_false hc) ?_
    refine lQ.loadI rfl rfl ?_
    refine lQ.push rfl ?_
    rcases iteC h with ⟨hc, h⟩ | ⟨hc, h⟩
    · refine lQ.cmpT rfl (decide_eq_true hc) ?_
      refine lQ.push rfl ?_
      obtain rfl := Option.some.inj h
      exact lQ.retI rfl rfl hz
    · refine lQ.cmpF rfl (decide_eq_false hc) ?_
      refine lQ.push rfl ?_
      refine lQ.goto rfl ?_
      obtain rfl := Option.some.inj h
      exact lQ.retI rfl rfl hz
theorem ts_769 {R : lAR} (hR : lRok R) {E : lE} {ad : List Nat} (hn : tOk ad) {v1 : Int32} {s : TS} {A0 : lMem} {x : TS} (h : t_769 v1 s = some x) {Z : lZ} (hz : Z (.inl none) (tp ad x A0)) : lSQ R E 1 769 [.ref (adr ad 3), .int v1] (tp ad s A0) Z := by
  refine lQ.sq pg_769 (Nat.le_of_ble_eq_true rfl) rfl ?_
  unfold t_769 at h
  refine lQ.loadN rfl rfl ?_
  refine lQ.get hR rfl (tf_3_34 hn) ?_
  refine lQ.loadN rfl rfl ?_
  refine lQ.get hR rfl (tf_3_35 hn) ?_
  refine lQ.loadI rfl rfl ?_
  obtain ⟨s1, hx, h⟩ := bindC h
  refine lQ.ast hR rfl (tw_124 hn hx) ?_
  rintro _ rfl
  refine lQ.loadN rfl rfl ?_
  refine lQ.dupN rfl ?_
  refine lQ.get hR rfl (tf_3_35 hn) ?_
  refine lQ.push rfl ?_
  refine lQ.binI rfl ?_
  obtain ⟨s2, hx, h⟩ := bindC h
  refine lQ.put hR rfl rfl (tq_3_35 hn hx) ?_
  rintro _ rfl
  obtain rfl := Option.some.inj h
  exact lQ.retV rfl hz
theorem ts_768 {R : lAR} (hR : lRok R) {E : lE} {ad : List Nat} (hn : tOk ad) {v1 : Int32} {s : TS} {A0 : lMem} {x : TS} (h : t_768 v1 s = some x) {Z : lZ} (hz : Z (.inl none) (tp ad x A0)) : lSQ R E 2 768 [.ref (adr ad 3), .int v1] (tp ad s A0) Z := by
  refine lQ.sq pg_768 (Nat.le_of_ble_eq_true rfl) rfl ?_
  unfold t_768 at h
  refine lQ.loadI rfl rfl ?_
  refine lQ.stI rfl (lN2s rfl rfl) ?_
  obtain ⟨v16, hy1, h1⟩ := bindC h
  have hJ1 : lQ R E 1 cd_768 16 [(0, .ref (adr ad 3))] [] (tp ad v16 A0) Z := by
    refine lQ.loadN rfl rfl ?_
    refine lQ.push rfl ?_
    obtain ⟨x2, hx, h1⟩ := bindC h1
    refine lQ.callVV (F := (fun A => A = tp ad x2 A0)) (G := fun _ _ => False) (args := [.ref (adr ad 3), .int 32]) (r := []) hR rfl rfl rfl (Nat.le_of_ble_eq_true rfl) (Nat.le_of_ble_eq_true rfl) rfl (tk_3 hn rfl) (ts_769 hR hn hx (cV_mk rfl)) ?_ (fun _ _ _ z => z.elim)
    rintro _ rfl
    obtain rfl := Option.some.inj h1
    exact lQ.retV rfl hz
  refine lQ.sub (lSb rfl (lSb rfl lSb0)) (wh_run (P := fun p2 => lQ R E 1 cd_768 2 [(0, .ref (adr ad 3)), (2, .int p2.2)] [] (tp ad p2.1 A0) Z) hy1 ?_)
  intro p2 r2 hb2 hI2 hX2
  refine lQ.loadI rfl rfl ?_
  rcases iteC hb2 with ⟨hc, hb2⟩ | ⟨hc, hb2⟩
  · refine lQ.ifF rfl (decide_eq_false (Int32.not_le.mpr hc)) ?_
    refine lQ.loadN rfl rfl ?_
    refine lQ.push rfl ?_
    refine lQ.loadI rfl rfl ?_
    refine lQ.push rfl ?_
    refine lQ.divI rfl (by decide) ?_
    refine lQ.binI rfl ?_
    obtain ⟨x1, hx, hb2⟩ := bindC hb2
    refine lQ.callVV (F := (fun A => A = tp ad x1 A0)) (G := fun _ _ => False) (args := [.ref (adr ad 3), .int (96 + (p2.2 - p2.2 / (32 : Int32) * (32 : Int32)))]) (r := []) hR rfl rfl rfl (Nat.le_of_ble_eq_true rfl) (Nat.le_of_ble_eq_true rfl) rfl (tk_3 hn rfl) (ts_769 hR hn hx (cV_mk rfl)) ?_ (fun _ _ _ z => z.elim)
    rintro _ rfl
    refine lQ.loadI rfl rfl ?_
    refine lQ.push rfl ?_
    refine lQ.divI rfl (by decide) ?_
    refine lQ.stI rfl (lN2n rfl) ?_
    refine lQ.goto rfl ?_
    obtain rfl := Option.some.inj hb2
    exact lQ.sub (lSb rfl (lSb rfl lSb0)) (hI2 _ rfl)
  · refine lQ.ifT rfl (decide_eq_true (Int32.not_lt.mp hc)) ?_
    obtain rfl := Option.some.inj hb2
    obtain rfl := hX2 _ rfl
    exact lQ.sub (lSb rfl lSb0) hJ1
theorem ts_770 {R : lAR} (hR : lRok R) {E : lE} {ad : List Nat} (hn : tOk ad) {v1 : Int32} {s : TS} {A0 : lMem} {x : TS} (h : t_770 v1 s = some x) {Z : lZ} (hz : Z (.inl none) (tp ad x A0)) : lSQ R E 2 770 [.ref (adr ad 3), .int v1] (tp ad s A0) Z := by
  refine lQ.sq pg_770 (Nat.le_of_ble_eq_true rfl) rfl ?_
  unfold t_770 at h
  refine lQ.loadI rfl rfl ?_
  refine lQ.push rfl ?_
  obtain ⟨v10, hy1, h1⟩ := bindC h
  have hJ1 : lQ R E 1 cd_770 10 [(0, .ref (adr ad 3)), (1, .int v1)] [] (tp ad v10 A0) Z := by
    refine lQ.loadI rfl rfl ?_
    refine lQ.push rfl ?_
    obtain ⟨v22, hy2, h2⟩ := bindC h1
    have hJ2 : lQ R E 1 cd_770 22 [(0, .ref (adr ad 3)), (1, .int v1)] [] (tp ad v22 A0) Z := by
      refine lQ.loadI rfl rfl ?_
      refine lQ.push rfl ?_
      obtain ⟨v34, hy3, h3⟩ := bindC h2
      have hJ3 : lQ R E 1 cd_770 34 [(0, .ref (adr ad 3)), (1, .int v1)] [] (tp ad v34 A0) Z := by
        refine lQ.loadI rfl rfl ?_
        refine lQ.push rfl ?_
        obtain ⟨v46, hy4, h4⟩ := bindC h3
        have hJ4 : lQ R E 1 cd_770 46 [(0, .ref (adr ad 3)), (1, .int v1)] [] (tp ad v46 A0) Z := by
          refine lQ.loadN rfl rfl ?_
          refine lQ.push rfl ?_
          refine lQ.loadI rfl rfl ?_
          refine lQ.push rfl ?_
          refine lQ.divI rfl (by decide) ?_
          refine lQ.binI rfl ?_
          obtain ⟨x5, hx, h4⟩ := bindC h4
          refine lQ.callVV (F := (fun A => A = tp ad x5 A0)) (G := fun _ _ => False) (args := [.ref (adr ad 3), .int (48 + (v1 - v1 / (10 : Int32) * (10 : Int32)))]) (r := []) hR rfl rfl rfl (Nat.le_of_ble_eq_true rfl) (Nat.le_of_ble_eq_true rfl) rfl (tk_3 hn rfl) (ts_769 hR hn hx (cV_mk rfl)) ?_ (fun _ _ _ z => z.elim)
          rintro _ rfl
          refine lQ.loadN rfl rfl ?_
          refine lQ.push rfl ?_
          obtain ⟨x6, hx, h4⟩ := bindC h4
          refine lQ.callVV (F := (fun A => A = tp ad x6 A0)) (G := fun _ _ => False) (args := [.ref (adr ad 3), .int 32]) (r := []) hR rfl rfl rfl (Nat.le_of_ble_eq_true rfl) (Nat.le_of_ble_eq_true rfl) rfl (tk_3 hn rfl) (ts_769 hR hn hx (cV_mk rfl)) ?_ (fun _ _ _ z => z.elim)
          rintro _ rfl
          obtain rfl := Option.some.inj h4
          exact lQ.retV rfl hz
        rcases iteC hy4 with ⟨hc, hy4⟩ | ⟨hc, hy4⟩
        · refine lQ.cmpF rfl (decide_eq_false (Int32.not_le.mpr hc)) ?_
          refine lQ.loadN rfl rfl ?_
          refine lQ.push rfl ?_
          refine lQ.loadI rfl rfl ?_
          refine lQ.push rfl ?_
          refine lQ.divI rfl (by decide) ?_
          refine lQ.push rfl ?_
          refine lQ.divI rfl (by decide) ?_
          refine lQ.binI rfl ?_
          obtain ⟨x4, hx, hy4⟩ := bindC hy4
          refine lQ.callVV (F := (fun A => A = tp ad x4 A0)) (G := fun _ _ => False) (args := [.ref (adr ad 3), .int (48 + ((v1 / 10) - (v1 / 10) / (10 : Int32) * (10 : Int32)))]) (r := []) hR rfl rfl rfl (Nat.le_of_ble_eq_true rfl) (Nat.le_of_ble_eq_true rfl) rfl (tk_3 hn rfl) (ts_769 hR hn hx (cV_mk rfl)) ?_ (fun _ _ _ z => z.elim)
          rintro _ rfl
          obtain rfl := Option.some.inj hy4
          exact lQ.sub (lSb rfl (lSb rfl lSb0)) hJ4
        · refine lQ.cmpT rfl (decide_eq_true (Int32.not_lt.mp hc)) ?_
          obtain rfl := Option.some.inj hy4
          exact lQ.sub (lSb rfl (lSb rfl lSb0)) hJ4
      rcases iteC hy3 with ⟨hc, hy3⟩ | ⟨hc, hy3⟩
      · refine lQ.cmpF rfl (decide_eq_false (Int32.not_le.mpr hc)) ?_
        refine lQ.loadN rfl rfl ?_
        refine lQ.push rfl ?_
        refine lQ.loadI rfl rfl ?_
        refine lQ.push rfl ?_
        refine lQ.divI rfl (by decide) ?_
        refine lQ.push rfl ?_
        refine lQ.divI rfl (by decide) ?_
        refine lQ.binI rfl ?_
        obtain ⟨x3, hx, hy3⟩ := bindC hy3
        refine lQ.callVV (F := (fun A => A = tp ad x3 A0)) (G := fun _ _ => False) (args := [.ref (adr ad 3), .int (48 + ((v1 / 100) - (v1 / 100) / (10 : Int32) * (10 : Int32)))]) (r := []) hR rfl rfl rfl (Nat.le_of_ble_eq_true rfl) (Nat.le_of_ble_eq_true rfl) rfl (tk_3 hn rfl) (ts_769 hR hn hx (cV_mk rfl)) ?_ (fun _ _ _ z => z.elim)
        rintro _ rfl
        obtain rfl := Option.some.inj hy3
        exact lQ.sub (lSb rfl (lSb rfl lSb0)) hJ3
      · refine lQ.cmpT rfl (decide_eq_true (Int32.not_lt.mp hc)) ?_
        obtain rfl := Option.some.inj hy3
        exact lQ.sub (lSb rfl (lSb rfl lSb0)) hJ3
    rcases iteC hy2 with ⟨hc, hy2⟩ | ⟨hc, hy2⟩
    · refine lQ.cmpF rfl (decide_eq_false (Int32.not_le.mpr hc)) ?_
      refine lQ.loadN rfl rfl ?_
      refine lQ.push rfl ?_
      refine lQ.loadI rfl rfl ?_
      refine lQ.push rfl ?_
      refine lQ.divI rfl (by decide) ?_
      refine lQ.push rfl ?_
      refine lQ.divI rfl (by decide) ?_
      refine lQ.binI rfl ?_
      obtain ⟨x2, hx, hy2⟩ := bindC hy2
      refine lQ.callVV (F := (fun A => A = tp ad x2 A0)) (G := fun _ _ => False) (args := [.ref (adr ad 3), .int (48 + ((v1 / 1000) - (v1 / 1000) / (10 : Int32) * (10 : Int32)))]) (r := []) hR rfl rfl rfl (Nat.le_of_ble_eq_true rfl) (Nat.le_of_ble_eq_true rfl) rfl (tk_3 hn rfl) (ts_769 hR hn hx (cV_mk rfl)) ?_ (fun _ _ _ z => z.elim)
      rintro _ rfl
      obtain rfl := Option.some.inj hy2
      exact lQ.sub (lSb rfl (lSb rfl lSb0)) hJ2
    · refine lQ.cmpT rfl (decide_eq_true (Int32.not_lt.mp hc)) ?_
      obtain rfl := Option.some.inj hy2
      exact lQ.sub (lSb rfl (lSb rfl lSb0)) hJ2
  rcases iteC hy1 with ⟨hc, hy1⟩ | ⟨hc, hy1⟩
  · refine lQ.cmpF rfl (decide_eq_false (Int32.not_le.mpr hc)) ?_
    refine lQ.loadN rfl rfl ?_
    refine lQ.push rfl ?_
    refine lQ.loadI rfl rfl ?_
    refine lQ.push rfl ?_
    refine lQ.divI rfl (by decide) ?_
    refine lQ.binI rfl ?_
    obtain ⟨x1, hx, hy1⟩ := bindC hy1
    refine lQ.callVV (F := (fun A => A = tp ad x1 A0)) (G := fun _ _ => False) (args := [.ref (adr ad 3), .int (48 + (v1 / 10000))]) (r := []) hR rfl rfl rfl (Nat.le_of_ble_eq_true rfl) (Nat.le_of_ble_eq_true rfl) rfl (tk_3 hn rfl) (ts_769 hR hn hx (cV_mk rfl)) ?_ (fun _ _ _ z => z.elim)
    rintro _ rfl
    obtain rfl := Option.some.inj hy1
    exact lQ.sub (lSb rfl (lSb rfl lSb0)) hJ1
  · refine lQ.cmpT rfl (decide_eq_true (Int32.not_lt.mp hc)) ?_
    obtain rfl := Option.some.inj hy1
    exact lQ.sub (lSb rfl (lSb rfl lSb0)) hJ1
theorem ts_771 {R : lAR} (hR : lRok R) {E : lE} {ad : List Nat} (hn : tOk ad) {s : TS} {A0 : lMem} {x : TS} (h : t_771 s = some x) {Z : lZ} (hz : Z (.inl none) (tp ad x A0)) : lSQ R E 2 771 [.ref (adr ad 3)] (tp ad s A0) Z := by
  refine lQ.sq pg_771 (Nat.le_of_ble_eq_true rfl) rfl ?_
  unfold t_771 at h
  refine lQ.loadN rfl rfl ?_
  refine lQ.push rfl ?_
  obtain ⟨x1, hx, h⟩ := bindC h
  refine lQ.callVV (F := (fun A => A = tp ad x1 A0)) (G := fun _ _ => False) (args := [.ref (adr ad 3), .int 59]) (r := []) hR rfl rfl rfl (Nat.le_of_ble_eq_true rfl) (Nat.le_of_ble_eq_true rfl) rfl (tk_3 hn rfl) (ts_769 hR hn hx (cV_mk rfl)) ?_ (fun _ _ _ z => z.elim)
  rintro _ rfl
  refine lQ.loadN rfl rfl ?_
  refine lQ.push rfl ?_
  obtain ⟨x2, hx, h⟩ := bindC h
  refine lQ.callVV (F := (fun A => A = tp ad x2 A0)) (G := fun _ _ => False) (args := [.ref (adr ad 3), .int 32]) (r := []) hR rfl rfl rfl (Nat.le_of_ble_eq_true rfl) (Nat.le_of_ble_eq_true rfl) rfl (tk_3 hn rfl) (ts_769 hR hn hx (cV_mk rfl)) ?_ (fun _ _ _ z => z.elim)
  rintro _ rfl
  obtain rfl := Option.some.inj h
  exact lQ.retV rfl hz
theorem ts_767 {R : lAR} (hR : lRok R) {E : lE} {ad : List Nat} (hn : tOk ad) {v1 : Int32} {v2 : Int32} {v3 : Int32} {v4 : Int32} {v5 : Int32} {s : TS} {A0 : lMem} {x : TS} (h : t_767 v1 v2 v3 v4 v5 s = some x) {Z : lZ} (hz : Z (.inl none) (tp ad x A0)) : lSQ R E 3 767 [.ref (adr ad 3), .int v1, .int v2, .int v3, .int v4, .int v5] (tp ad s A0) Z := by
  refine lQ.sq pg_767 (Nat.le_of_ble_eq_true rfl) rfl ?_
  unfold t_767 at h
  refine lQ.loadN rfl rfl ?_
  refine lQ.loadI rfl rfl ?_
  obtain ⟨v16, hy1, h1⟩ := bindC h
  have hJ1 : lQ R E 2 cd_767 16 [(0, .ref (adr ad 3)), (1, .int v1), (2, .int v2), (3, .int v3), (4, .int v4), (5, .int v5)] [.int v16, .ref (adr ad 3)] (tp ad s A0) Z := by
    obtain ⟨x1, hx, h1⟩ := bindC h1
    refine lQ.callVV (F := (fun A => A = tp ad x1 A0)) (G := fun _ _ => False) (args := [.ref (adr ad 3), .int v16]) (r := []) hR rfl rfl rfl (Nat.le_of_ble_eq_true rfl) (Nat.le_of_ble_eq_true rfl) rfl (tk_3 hn rfl) (ts_768 hR hn hx (cV_mk rfl)) ?_ (fun _ _ _ z => z.elim)
    rintro _ rfl
    refine lQ.loadN rfl rfl ?_
    refine lQ.loadI rfl rfl ?_
    obtain ⟨x2, hx, h1⟩ := bindC h1
    refine lQ.callVV (F := (fun A => A = tp ad x2 A0)) (G := fun _ _ => False) (args := [.ref (adr ad 3), .int v2]) (r := []) hR rfl rfl rfl (Nat.le_of_ble_eq_true rfl) (Nat.le_of_ble_eq_true rfl) rfl (tk_3 hn rfl) (ts_770 hR hn hx (cV_mk rfl)) ?_ (fun _ _ _ z => z.elim)
    rintro _ rfl
    refine lQ.loadI rfl rfl ?_
    obtain ⟨v95, hy2, h2⟩ := bindC h1
    have hJ2 : lQ R E 2 cd_767 95 [(0, .ref (adr ad 3))] [] (tp ad v95 A0) Z := by
      refine lQ.loadN rfl rfl ?_
      obtain ⟨x18, hx, h2⟩ := bindC h2
      refine lQ.callVV (F := (fun A => A = tp ad x18 A0)) (G := fun _ _ => False) (args := [.ref (adr ad 3)]) (r := []) hR rfl rfl rfl (Nat.le_of_ble_eq_true rfl) (Nat.le_of_ble_eq_true rfl) rfl (tk_3 hn rfl) (ts_771 hR hn hx (cV_mk rfl)) ?_ (fun _ _ _ z => z.elim)
      rintro _ rfl
      obtain rfl := Option.some.inj h2
      exact lQ.retV rfl hz
    rcases iteC hy2 with ⟨hc, hy2⟩ | ⟨hc, hy2⟩
    · refine lQ.ifF rfl (decide_eq_false (fun z => z hc)) ?_
      refine lQ.loadN rfl rfl ?_
      refine lQ.push rfl ?_
      obtain ⟨x14, hx, hy2⟩ := bindC hy2
      refine lQ.callVV (F := (fun A => A = tp ad x14 A0)) (G := fun _ _ => False) (args := [.ref (adr ad 3), .int 20059310]) (r := []) hR rfl rfl rfl (Nat.le_of_ble_eq_true rfl) (Nat.le_of_ble_eq_true rfl) rfl (tk_3 hn rfl) (ts_768 hR hn hx (cV_mk rfl)) ?_ (fun _ _ _ z => z.elim)
      rintro _ rfl
      refine lQ.loadN rfl rfl ?_
      refine lQ.loadI rfl rfl ?_
      obtain ⟨x15, hx, hy2⟩ := bindC hy2
      refine lQ.callVV (F := (fun A => A = tp ad x15 A0)) (G := fun _ _ => False) (args := [.ref (adr ad 3), .int v3]) (r := []) hR rfl rfl rfl (Nat.le_of_ble_eq_true rfl) (Nat.le_of_ble_eq_true rfl) rfl (tk_3 hn rfl) (ts_770 hR hn hx (cV_mk rfl)) ?_ (fun _ _ _ z => z.elim)
      rintro _ rfl
      refine lQ.loadN rfl rfl ?_
      refine lQ.push rfl ?_
      obtain ⟨x16, hx, hy2⟩ := bindC hy2
      refine lQ.callVV (F := (fun A => A = tp ad x16 A0)) (G := fun _ _ => False) (args := [.ref (adr ad 3), .int 207]) (r := []) hR rfl rfl rfl (Nat.le_of_ble_eq_true rfl) (Nat.le_of_ble_eq_true rfl) rfl (tk_3 hn rfl) (ts_768 hR hn hx (cV_mk rfl)) ?_ (fun _ _ _ z => z.elim)
      rintro _ rfl
      refine lQ.push rfl ?_
      refine lQ.stI rfl (lN2s rfl rfl) ?_
      obtain ⟨v43, hy3, h3⟩ := bindC hy2
      have hJ3 : lQ R E 2 cd_767 43 [(0, .ref (adr ad 3))] [] (tp ad v43 A0) Z := by
        refine lQ.goto rfl ?_
        obtain rfl := Option.some.inj h3
        exact lQ.sub (lSb rfl lSb0) hJ2
      refine lQ.sub (lSb rfl (lSb rfl (lSb rfl (lSb rfl lSb0)))) (wh_run (P := fun p33 => lQ R E 2 cd_767 33 [(0, .ref (adr ad 3)), (4, .int v4), (5, .int v5), (6, .int p33.2)] [] (tp ad p33.1 A0) Z) hy3 ?_)
      intro p33 r4 hb4 hI4 hX4
      refine lQ.loadI rfl rfl ?_
      refine lQ.loadI rfl rfl ?_
      rcases iteC hb4 with ⟨hc, hb4⟩ | ⟨hc, hb4⟩
      · refine lQ.cmpF rfl (decide_eq_false (Int32.not_le.mpr hc)) ?_
        refine lQ.loadN rfl rfl ?_
        refine lQ.loadI rfl rfl ?_
        refine lQ.loadI rfl rfl ?_
        refine lQ.binI rfl ?_
        obtain ⟨x17, hx, hb4⟩ := bindC hb4
        refine lQ.callVV (F := (fun A => A = tp ad x17 A0)) (G := fun _ _ => False) (args := [.ref (adr ad 3), .int (v4 + p33.2)]) (r := []) hR rfl rfl rfl (Nat.le_of_ble_eq_true rfl) (Nat.le_of_ble_eq_true rfl) rfl (tk_3 hn rfl) (ts_770 hR hn hx (cV_mk rfl)) ?_ (fun _ _ _ z => z.elim)
        rintro _ rfl
        refine lQ.inc rfl rfl (lN2s rfl rfl) ?_
        refine lQ.goto rfl ?_
        obtain rfl := Option.some.inj hb4
        exact lQ.sub (lSb rfl (lSb rfl (lSb rfl (lSb rfl lSb0)))) (hI4 _ rfl)
      · refine lQ.cmpT rfl (decide_eq_true (Int32.not_lt.mp hc)) ?_
        obtain rfl := Option.some.inj hb4
        obtain rfl := hX4 _ rfl
        exact lQ.sub (lSb rfl lSb0) hJ3
    · refine lQ.ifT rfl (decide_eq_true hc) ?_
      refine lQ.loadI rfl rfl ?_
      refine lQ.push rfl ?_
      rcases iteC hy2 with ⟨hc, hy2⟩ | ⟨hc, hy2⟩
      · refine lQ.cmpF rfl (decide_eq_false (fun z => z hc)) ?_
        refine lQ.loadN rfl rfl ?_
        refine lQ.push rfl ?_
        obtain ⟨x8, hx, hy2⟩ := bindC hy2
        refine lQ.callVV (F := (fun A => A = tp ad x8 A0)) (G := fun _ _ => False) (args := [.ref (adr ad 3), .int 145707]) (r := []) hR rfl rfl rfl (Nat.le_of_ble_eq_true rfl) (Nat.le_of_ble_eq_true rfl) rfl (tk_3 hn rfl) (ts_768 hR hn hx (cV_mk rfl)) ?_ (fun _ _ _ z => z.elim)
        rintro _ rfl
        refine lQ.loadN rfl rfl ?_
        refine lQ.loadI rfl rfl ?_
        obtain ⟨x9, hx, hy2⟩ := bindC hy2
        refine lQ.callVV (F := (fun A => A = tp ad x9 A0)) (G := fun _ _ => False) (args := [.ref (adr ad 3), .int v3]) (r := []) hR rfl rfl rfl (Nat.le_of_ble_eq_true rfl) (Nat.le_of_ble_eq_true rfl) rfl (tk_3 hn rfl) (ts_770 hR hn hx (cV_mk rfl)) ?_ (fun _ _ _ z => z.elim)
        rintro _ rfl
        refine lQ.loadN rfl rfl ?_
        refine lQ.push rfl ?_
        obtain ⟨x10, hx, hy2⟩ := bindC hy2
        refine lQ.callVV (F := (fun A => A = tp ad x10 A0)) (G := fun _ _ => False) (args := [.ref (adr ad 3), .int 374834]) (r := []) hR rfl rfl rfl (Nat.le_of_ble_eq_true rfl) (Nat.le_of_ble_eq_true rfl) rfl (tk_3 hn rfl) (ts_768 hR hn hx (cV_mk rfl)) ?_ (fun _ _ _ z => z.elim)
        rintro _ rfl
        refine lQ.loadN rfl rfl ?_
        refine lQ.loadI rfl rfl ?_
        obtain ⟨x11, hx, hy2⟩ := bindC hy2
        refine lQ.callVV (F := (fun A => A = tp ad x11 A0)) (G := fun _ _ => False) (args := [.ref (adr ad 3), .int v4]) (r := []) hR rfl rfl rfl (Nat.le_of_ble_eq_true rfl) (Nat.le_of_ble_eq_true rfl) rfl (tk_3 hn rfl) (ts_770 hR hn hx (cV_mk rfl)) ?_ (fun _ _ _ z => z.elim)
        rintro _ rfl
        refine lQ.loadN rfl rfl ?_
        refine lQ.push rfl ?_
        obtain ⟨x12, hx, hy2⟩ := bindC hy2
        refine lQ.callVV (F := (fun A => A = tp ad x12 A0)) (G := fun _ _ => False) (args := [.ref (adr ad 3), .int 26259620]) (r := []) hR rfl rfl rfl (Nat.le_of_ble_eq_true rfl) (Nat.le_of_ble_eq_true rfl) rfl (tk_3 hn rfl) (ts_768 hR hn hx (cV_mk rfl)) ?_ (fun _ _ _ z => z.elim)
        rintro _ rfl
        refine lQ.loadN rfl rfl ?_
        refine lQ.loadI rfl rfl ?_
        obtain ⟨x13, hx, hy2⟩ := bindC hy2
        refine lQ.callVV (F := (fun A => A = tp ad x13 A0)) (G := fun _ _ => False) (args := [.ref (adr ad 3), .int v5]) (r := []) hR rfl rfl rfl (Nat.le_of_ble_eq_true rfl) (Nat.le_of_ble_eq_true rfl) rfl (tk_3 hn rfl) (ts_770 hR hn hx (cV_mk rfl)) ?_ (fun _ _ _ z => z.elim)
        rintro _ rfl
        refine lQ.goto rfl ?_
        obtain rfl := Option.some.inj hy2
        exact lQ.sub (lSb rfl lSb0) hJ2
      · refine lQ.cmpT rfl (decide_eq_true hc) ?_
        refine lQ.loadI rfl rfl ?_
        refine lQ.push rfl ?_
        obtain ⟨y5, hy5, h5⟩ := bindC hy2
        have hJ5 : ∀ v72, y5 = .inl v72 → lQ R E 2 cd_767 72 [(0, .ref (adr ad 3)), (1, .int v1), (3, .int v3), (4, .int v4)] [] (tp ad x2 A0) Z := by
          rintro v72 rfl
          have h5 := elimC h5
          refine lQ.loadI rfl rfl ?_
          refine lQ.push rfl ?_
          obtain ⟨v84, hy6, h6⟩ := bindC h5
          have hJ6 : lQ R E 2 cd_767 84 [(0, .ref (adr ad 3)), (1, .int v1), (3, .int v3), (4, .int v4)] [] (tp ad v84 A0) Z := by
            refine lQ.loadN rfl rfl ?_
            refine lQ.push rfl ?_
            obtain ⟨x6, hx, h6⟩ := bindC h6
            refine lQ.callVV (F := (fun A => A = tp ad x6 A0)) (G := fun _ _ => False) (args := [.ref (adr ad 3), .int 628196]) (r := []) hR rfl rfl rfl (Nat.le_of_ble_eq_true rfl) (Nat.le_of_ble_eq_true rfl) rfl (tk_3 hn rfl) (ts_768 hR hn hx (cV_mk rfl)) ?_ (fun _ _ _ z => z.elim)
            rintro _ rfl
            refine lQ.loadN rfl rfl ?_
            refine lQ.loadI rfl rfl ?_
            refine lQ.push rfl ?_
            obtain ⟨v94, hy7, h7⟩ := bindC h6
            have hJ7 : lQ R E 2 cd_767 94 [(0, .ref (adr ad 3))] [.int v94, .ref (adr ad 3)] (tp ad x6 A0) Z := by
              obtain ⟨x7, hx, h7⟩ := bindC h7
              refine lQ.callVV (F := (fun A => A = tp ad x7 A0)) (G := fun _ _ => False) (args := [.ref (adr ad 3), .int v94]) (r := []) hR rfl rfl rfl (Nat.le_of_ble_eq_true rfl) (Nat.le_of_ble_eq_true rfl) rfl (tk_3 hn rfl) (ts_770 hR hn hx (cV_mk rfl)) ?_ (fun _ _ _ z => z.elim)
              rintro _ rfl
              obtain rfl := Option.some.inj h7
              exact lQ.sub (lSb rfl lSb0) hJ2
            rcases iteC hy7 with ⟨hc, hy7⟩ | ⟨hc, hy7⟩
            · refine lQ.cmpF rfl (decide_eq_false (fun z => z hc)) ?_
              refine lQ.loadI rfl rfl ?_
              refine lQ.goto rfl ?_
              obtain rfl := Option.some.inj hy7
              exact lQ.sub (lSb rfl lSb0) hJ7
            · refine lQ.cmpT rfl (decide_eq_true hc) ?_
              refine lQ.loadI rfl rfl ?_
              obtain rfl := Option.some.inj hy7
              exact lQ.sub (lSb rfl lSb0) hJ7
          rcases iteC hy6 with ⟨hc, hy6⟩ | ⟨hc, hy6⟩
          · refine lQ.cmpF rfl (decide_eq_false (fun z => z hc)) ?_
            refine lQ.loadN rfl rfl ?_
            refine lQ.push rfl ?_
            obtain ⟨x3, hx, hy6⟩ := bindC hy6
            refine lQ.callVV (F := (fun A => A = tp ad x3 A0)) (G := fun _ _ => False) (args := [.ref (adr ad 3), .int 38]) (r := []) hR rfl rfl rfl (Nat.le_of_ble_eq_true rfl) (Nat.le_of_ble_eq_true rfl) rfl (tk_3 hn rfl) (ts_769 hR hn hx (cV_mk rfl)) ?_ (fun _ _ _ z => z.elim)
            rintro _ rfl
            refine lQ.loadN rfl rfl ?_
            refine lQ.push rfl ?_
            obtain ⟨x4, hx, hy6⟩ := bindC hy6
            refine lQ.callVV (F := (fun A => A = tp ad x4 A0)) (G := fun _ _ => False) (args := [.ref (adr ad 3), .int 32]) (r := []) hR rfl rfl rfl (Nat.le_of_ble_eq_true rfl) (Nat.le_of_ble_eq_true rfl) rfl (tk_3 hn rfl) (ts_769 hR hn hx (cV_mk rfl)) ?_ (fun _ _ _ z => z.elim)
            rintro _ rfl
            refine lQ.loadN rfl rfl ?_
            refine lQ.loadI rfl rfl ?_
            obtain ⟨x5, hx, hy6⟩ := bindC hy6
            refine lQ.callVV (F := (fun A => A = tp ad x5 A0)) (G := fun _ _ => False) (args := [.ref (adr ad 3), .int v3]) (r := []) hR rfl rfl rfl (Nat.le_of_ble_eq_true rfl) (Nat.le_of_ble_eq_true rfl) rfl (tk_3 hn rfl) (ts_770 hR hn hx (cV_mk rfl)) ?_ (fun _ _ _ z => z.elim)
            rintro _ rfl
            obtain rfl := Option.some.inj hy6
            exact lQ.sub (lSb rfl (lSb rfl (lSb rfl (lSb rfl lSb0)))) hJ6
          · refine lQ.cmpT rfl (decide_eq_true hc) ?_
            obtain rfl := Option.some.inj hy6
            exact lQ.sub (lSb rfl (lSb rfl (lSb rfl (lSb rfl lSb0)))) hJ6
        rcases iteC hy5 with ⟨hc, hy5⟩ | ⟨hc, hy5⟩
        · refine lQ.cmpT rfl (decide_eq_true hc) ?_
          obtain rfl := Option.some.inj hy5
          exact lQ.sub (lSb rfl (lSb rfl (lSb rfl (lSb rfl lSb0)))) (hJ5 _ rfl)
        · refine lQ.cmpF rfl (decide_eq_false hc) ?_
          refine lQ.loadI rfl rfl ?_
          refine lQ.push rfl ?_
          rcases iteC hy5 with ⟨hc, hy5⟩ | ⟨hc, hy5⟩
          · refine lQ.cmpF rfl (decide_eq_false (fun z => z hc)) ?_
            obtain rfl := Option.some.inj hy5
            exact lQ.sub (lSb rfl (lSb rfl (lSb rfl (lSb rfl lSb0)))) (hJ5 _ rfl)
          · refine lQ.cmpT rfl (decide_eq_true hc) ?_
            obtain rfl := Option.some.inj hy5
            obtain rfl := elimD h5
            exact lQ.sub (lSb rfl lSb0) hJ2
  rcases iteC hy1 with ⟨hc, hy1⟩ | ⟨hc, hy1⟩
  · refine lQ.ifF rfl (decide_eq_false (fun z => z hc)) ?_
    refine lQ.push rfl ?_
    refine lQ.goto rfl ?_
    obtain rfl := Option.some.inj hy1
    exact lQ.sub (lSb rfl (lSb rfl (lSb rfl (lSb rfl (lSb rfl (lSb rfl lSb0)))))) hJ1
  · refine lQ.ifT rfl (decide_eq_true hc) ?_
    refine lQ.loadI rfl rfl ?_
    refine lQ.push rfl ?_
    rcases iteC hy1 with ⟨hc, hy1⟩ | ⟨hc, hy1⟩
    · refine lQ.cmpF rfl (decide_eq_false (fun z => z hc)) ?_
      refine lQ.push rfl ?_
      refine lQ.goto rfl ?_
      obtain rfl := Option.some.inj hy1
      exact lQ.sub (lSb rfl (lSb rfl (lSb rfl (lSb rfl (lSb rfl (lSb rfl lSb0)))))) hJ1
    · refine lQ.cmpT rfl (decide_eq_true hc) ?_
      refine lQ.loadI rfl rfl ?_
      refine lQ.push rfl ?_
      rcases iteC hy1 with ⟨hc, hy1⟩ | ⟨hc, hy1⟩
      · refine lQ.cmpF rfl (decide_eq_false (fun z => z hc)) ?_
        refine lQ.push rfl ?_
        refine lQ.goto rfl ?_
        obtain rfl := Option.some.inj hy1
        exact lQ.sub (lSb rfl (lSb rfl (lSb rfl (lSb rfl (lSb rfl (lSb rfl lSb0)))))) hJ1
      · refine lQ.cmpT rfl (decide_eq_true hc) ?_
        refine lQ.push rfl ?_
        obtain rfl := Option.some.inj hy1
        exact lQ.sub (lSb rfl (lSb rfl (lSb rfl (lSb rfl (lSb rfl (lSb rfl lSb0)))))) hJ1
theorem ts_766 {R : lAR} (hR : lRok R) {E : lE} {ad : List Nat} (hn : tOk ad) {v1 : Int32} {v2 : Int32} {v3 : Int32} {v4 : Int32} {v5 : Int32} {s : TS} {A0 : lMem} {x : TS} (h : t_766 v1 v2 v3 v4 v5 s = some x) {Z : lZ} (hz : Z (.inl none) (tp ad x A0)) : lSQ R E 4 766 [.ref (adr ad 3), .int v1, .int v2, .int v3, .int v4, .int v5] (tp ad s A0) Z := by
  refine lQ.sq pg_766 (Nat.le_of_ble_eq_true rfl) rfl ?_
  unfold t_766 at h
  refine lQ.loadN rfl rfl ?_
  refine lQ.push rfl ?_
  obtain ⟨s1, hx, h⟩ := bindC h
  refine lQ.put hR rfl rfl (tq_3_35 hn hx) ?_
  rintro _ rfl
  refine lQ.loadN rfl rfl ?_
  refine lQ.loadI rfl rfl ?_
  refine lQ.loadI rfl rfl ?_
  refine lQ.loadI rfl rfl ?_
  refine lQ.loadI rfl rfl ?_
  refine lQ.loadI rfl rfl ?_
  obtain ⟨x2, hx, h⟩ := bindC h
  refine lQ.callVV (F := (fun A => A = tp ad x2 A0)) (G := fun _ _ => False) (args := [.ref (adr ad 3), .int v1, .int v2, .int v3, .int v4, .int v5]) (r := []) hR rfl rfl rfl (Nat.le_of_ble_eq_true rfl) (Nat.le_of_ble_eq_true rfl) rfl (tk_3 hn rfl) (ts_767 hR hn hx (cV_mk rfl)) ?_ (fun _ _ _ z => z.elim)
  rintro _ rfl
  obtain rfl := Option.some.inj h
  exact lQ.retV rfl hz
theorem ts_772 {R : lAR} (hR : lRok R) {E : lE} {ad : List Nat} (hn : tOk ad) {s : TS} {A0 : lMem} {x : Int32 × TS} (h : t_772 s = some x) {Z : lZ} (hz : Z (.inl (some (.int x.1))) (tp ad x.2 A0)) : lSQ R E 2 772 [.ref (adr ad 3)] (tp ad s A0) Z := by
  refine lQ.sq pg_772 (Nat.le_of_ble_eq_true rfl) rfl ?_
  unfold t_772 at h
  refine lQ.push rfl ?_
  refine lQ.stI rfl (lN2s rfl rfl) ?_
  obtain ⟨v15, hy1, h1⟩ := bindC h
  have hJ1 : lQ R E 1 cd_772 15 [(0, .ref (adr ad 3))] [] (tp ad v15 A0) Z := by
    refine lQ.loadN rfl rfl ?_
    refine lQ.get hR rfl (tf_3_6 hn) ?_
    obtain rfl := Option.some.inj h1
    exact lQ.retI rfl rfl hz
  refine lQ.sub (lSb rfl (lSb rfl lSb0)) (wh_run (P := fun p2 => lQ R E 1 cd_772 2 [(0, .ref (adr ad 3)), (1, .int p2.2)] [] (tp ad p2.1 A0) Z) hy1 ?_)
  intro p2 r2 hb2 hI2 hX2
  refine lQ.loadI rfl rfl ?_
  refine lQ.loadN rfl rfl ?_
  refine lQ.get hR rfl (tf_3_35 hn) ?_
  rcases iteC hb2 with ⟨hc, hb2⟩ | ⟨hc, hb2⟩
  · refine lQ.cmpF rfl (decide_eq_false (Int32.not_le.mpr hc)) ?_
    refine lQ.loadN rfl rfl ?_
    refine lQ.loadN rfl rfl ?_
    refine lQ.get hR rfl (tf_3_34 hn) ?_
    refine lQ.loadI rfl rfl ?_
    obtain ⟨x1, hx, hb2⟩ := bindC hb2
    refine lQ.ald hR rfl (ta_124 hn hx) ?_
    obtain ⟨x2, hx, hb2⟩ := bindC hb2
    refine lQ.callVI (F := (fun y A => x2.1 = y ∧ A = tp ad x2.2 A0)) (G := fun _ _ => False) (args := [.ref (adr ad 3), .int x1]) (r := []) hR rfl rfl rfl (Nat.le_of_ble_eq_true rfl) (Nat.le_of_ble_eq_true rfl) rfl (tk_3 hn rfl) (ts_764 hR hn hx (cI_mk ⟨rfl, rfl⟩)) ?_ (fun _ _ _ z => z.elim)
    rintro _ _ ⟨rfl, rfl⟩
    refine lQ.stI rfl (lN2s rfl rfl) ?_
    refine lQ.inc rfl rfl (lN2s rfl rfl) ?_
    refine lQ.goto rfl ?_
    obtain rfl := Option.some.inj hb2
    exact lQ.sub (lSb rfl (lSb rfl lSb0)) (hI2 _ rfl)
  · refine lQ.cmpT rfl (decide_eq_true (Int32.not_lt.mp hc)) ?_
    obtain rfl := Option.some.inj hb2
    obtain rfl := hX2 _ rfl
    exact lQ.sub (lSb rfl lSb0) hJ1
theorem ts_620 {R : lAR} (hR : lRok R) {E : lE} {ad : List Nat} (hn : tOk ad) {v1 : Int32} {v2 : Int32} {v3 : Int32} {v4 : Int32} {v5 : Int32} {s : TS} {A0 : lMem} {x : Int32 × TS} (h : t_620 v1 v2 v3 v4 v5 s = some x) {Z : lZ} (hz : Z (.inl (some (.int x.1))) (tp ad x.2 A0)) : lSQ R E 5 620 [.ref (adr ad 0), .int v1, .int v2, .int v3, .int v4, .int v5] (tp ad s A0) Z := by
  refine lQ.sq pg_620 (Nat.le_of_ble_eq_true rfl) rfl ?_
  unfold t_620 at h
  refine lQ.loadN rfl rfl ?_
  refine lQ.push rfl ?_
  obtain ⟨s1, hx, h⟩ := bindC h
  refine lQ.put hR rfl rfl (tq_0_0 hn hx) ?_
  rintro _ rfl
  refine lQ.loadI rfl rfl ?_
  refine lQ.push rfl ?_
  obtain ⟨x2, hx, h⟩ := bindC h
  refine lQ.callI (F := (fun y A => x2 = y ∧ A = tp ad s1 A0)) (G := fun _ _ => False) (args := [.int v1, .int 5]) (r := []) hR rfl rfl rfl (Nat.le_of_ble_eq_true rfl) (Nat.le_of_ble_eq_true rfl) (ts_560 hR hn hx (cI_mk ⟨rfl, rfl⟩)) ?_ (fun _ _ _ z => z.elim)
  rintro _ _ ⟨rfl, rfl⟩
  obtain ⟨v13, hy1, h1⟩ := bindC h
  have hJ1 : lQ R E 4 cd_620 13 [(0, .ref (adr ad 0)), (1, .int v1), (2, .int v2), (3, .int v3), (4, .int v4), (5, .int v5)] [.int v13] (tp ad s1 A0) Z := by
    refine lQ.stI rfl (lN2s rfl rfl) ?_
    refine lQ.loadI rfl rfl ?_
    obtain ⟨v34, hy2, h2⟩ := bindC h1
    have hJ2 : lQ R E 4 cd_620 34 [(0, .ref (adr ad 0)), (1, .int v1), (2, .int v2), (3, .int v3), (4, .int v4), (5, .int v5)] [.int v34] (tp ad s1 A0) Z := by
      refine lQ.stI rfl (lN2s rfl rfl) ?_
      refine lQ.loadI rfl rfl ?_
      obtain ⟨v56, hy3, h3⟩ := bindC h2
      have hJ3 : lQ R E 4 cd_620 56 [(0, .ref (adr ad 0)), (1, .int v1), (2, .int v2), (3, .int v3), (4, .int v4), (5, .int v5)] [.int v56] (tp ad s1 A0) Z := by
        refine lQ.stI rfl (lN2s rfl rfl) ?_
        refine lQ.loadI rfl rfl ?_
        obtain ⟨v67, hy4, h4⟩ := bindC h3
        have hJ4 : lQ R E 4 cd_620 67 [(0, .ref (adr ad 0)), (6, .int v56)] [] (tp ad v67 A0) Z := by
          refine lQ.loadN rfl rfl ?_
          refine lQ.loadI rfl rfl ?_
          refine lQ.loadN rfl rfl ?_
          refine lQ.get hR rfl (tf_0_1 hn) ?_
          obtain ⟨v84, hy5, h5⟩ := bindC h4
          have hJ5 : lQ R E 4 cd_620 84 [(0, .ref (adr ad 0))] [.int v84, .int v56, .ref (adr ad 0)] (tp ad v67 A0) Z := by
            obtain ⟨x8, hx, h5⟩ := bindC h5
            refine lQ.callVI (F := (fun y A => x8.1 = y ∧ A = tp ad x8.2 A0)) (G := fun _ _ => False) (args := [.ref (adr ad 0), .int v56, .int v84]) (r := []) hR rfl rfl rfl (Nat.le_of_ble_eq_true rfl) (Nat.le_of_ble_eq_true rfl) rfl (tk_0 hn rfl) (ts_558 hR hn hx (cI_mk ⟨rfl, rfl⟩)) ?_ (fun _ _ _ z => z.elim)
            rintro _ _ ⟨rfl, rfl⟩
            rcases iteC h5 with ⟨hc, h5⟩ | ⟨hc, h5⟩
            · refine lQ.ifT rfl (decide_eq_true hc) ?_
              refine lQ.push rfl ?_
              obtain rfl := Option.some.inj h5
              exact lQ.retI rfl rfl hz
            · refine lQ.ifF rfl (decide_eq_false hc) ?_
              refine lQ.loadN rfl rfl ?_
              refine lQ.get hR rfl (tf_0_5 hn) ?_
              obtain ⟨x9, hx, h5⟩ := bindC h5
              refine lQ.callVI (F := (fun y A => x9.1 = y ∧ A = tp ad x9.2 A0)) (G := fun _ _ => False) (args := [.ref (adr ad 3)]) (r := []) hR rfl rfl rfl (Nat.le_of_ble_eq_true rfl) (Nat.le_of_ble_eq_true rfl) rfl (tk_3 hn rfl) (ts_772 hR hn hx (cI_mk ⟨rfl, rfl⟩)) ?_ (fun _ _ _ z => z.elim)
              rintro _ _ ⟨rfl, rfl⟩
              refine lQ.goto rfl ?_
              obtain rfl := Option.some.inj h5
              exact lQ.retI rfl rfl hz
          rcases iteC hy5 with ⟨hc, hy5⟩ | ⟨hc, hy5⟩
          · refine lQ.ifT rfl (decide_eq_true hc) ?_
            refine lQ.push rfl ?_
            obtain rfl := Option.some.inj hy5
            exact lQ.sub (lSb rfl lSb0) hJ5
          · refine lQ.ifF rfl (decide_eq_false hc) ?_
            refine lQ.loadN rfl rfl ?_
            refine lQ.get hR rfl (tf_0_5 hn) ?_
            refine lQ.get hR rfl (tf_3_6 hn) ?_
            refine lQ.loadN rfl rfl ?_
            refine lQ.get hR rfl (tf_0_5 hn) ?_
            refine lQ.get hR rfl (tf_3_35 hn) ?_
            refine lQ.binI rfl ?_
            refine lQ.push rfl ?_
            rcases iteC hy5 with ⟨hc, hy5⟩ | ⟨hc, hy5⟩
            · refine lQ.cmpT rfl (decide_eq_true hc) ?_
              refine lQ.push rfl ?_
              obtain rfl := Option.some.inj hy5
              exact lQ.sub (lSb rfl lSb0) hJ5
            · refine lQ.cmpF rfl (decide_eq_false hc) ?_
              refine lQ.push rfl ?_
              refine lQ.goto rfl ?_
              obtain rfl := Option.some.inj hy5
              exact lQ.sub (lSb rfl lSb0) hJ5
        rcases iteC hy4 with ⟨hc, hy4⟩ | ⟨hc, hy4⟩
        · refine lQ.ifT rfl (decide_eq_true hc) ?_
          obtain rfl := Option.some.inj hy4
          exact lQ.sub (lSb rfl (lSb rfl lSb0)) hJ4
        · refine lQ.ifF rfl (decide_eq_false hc) ?_
          refine lQ.loadN rfl rfl ?_
          refine lQ.get hR rfl (tf_0_5 hn) ?_
          refine lQ.loadI rfl rfl ?_
          refine lQ.loadI rfl rfl ?_
          refine lQ.loadI rfl rfl ?_
          refine lQ.loadI rfl rfl ?_
          refine lQ.loadI rfl rfl ?_
          obtain ⟨x7, hx, hy4⟩ := bindC hy4
          refine lQ.callVV (F := (fun A => A = tp ad x7 A0)) (G := fun _ _ => False) (args := [.ref (adr ad 3), .int v1, .int v2, .int v3, .int v4, .int v5]) (r := []) hR rfl rfl rfl (Nat.le_of_ble_eq_true rfl) (Nat.le_of_ble_eq_true rfl) rfl (tk_3 hn rfl) (ts_766 hR hn hx (cV_mk rfl)) ?_ (fun _ _ _ z => z.elim)
          rintro _ rfl
          obtain rfl := Option.some.inj hy4
          exact lQ.sub (lSb rfl (lSb rfl lSb0)) hJ4
      rcases iteC hy3 with ⟨hc, hy3⟩ | ⟨hc, hy3⟩
      · refine lQ.ifT rfl (decide_eq_true hc) ?_
        refine lQ.push rfl ?_
        obtain rfl := Option.some.inj hy3
        exact lQ.sub (lSb rfl (lSb rfl (lSb rfl (lSb rfl (lSb rfl (lSb rfl lSb0)))))) hJ3
      · refine lQ.ifF rfl (decide_eq_false hc) ?_
        refine lQ.loadI rfl rfl ?_
        refine lQ.push rfl ?_
        rcases iteC hy3 with ⟨hc, hy3⟩ | ⟨hc, hy3⟩
        · refine lQ.cmpT rfl (decide_eq_true hc) ?_
          refine lQ.push rfl ?_
          refine lQ.goto rfl ?_
          obtain rfl := Option.some.inj hy3
          exact lQ.sub (lSb rfl (lSb rfl (lSb rfl (lSb rfl (lSb rfl (lSb rfl lSb0)))))) hJ3
        · refine lQ.cmpF rfl (decide_eq_false hc) ?_
          refine lQ.loadI rfl rfl ?_
          refine lQ.push rfl ?_
          rcases iteC hy3 with ⟨hc, hy3⟩ | ⟨hc, hy3⟩
          · refine lQ.cmpF rfl (decide_eq_false (fun z => z hc)) ?_
            refine lQ.loadI rfl rfl ?_
            obtain ⟨x6, hx, hy3⟩ := bindC hy3
            refine lQ.callI (F := (fun y A => x6 = y ∧ A = tp ad s1 A0)) (G := fun _ _ => False) (args := [.int v5]) (r := []) hR rfl rfl rfl (Nat.le_of_ble_eq_true rfl) (Nat.le_of_ble_eq_true rfl) (ts_765 hR hn hx (cI_mk ⟨rfl, rfl⟩)) ?_ (fun _ _ _ z => z.elim)
            rintro _ _ ⟨rfl, rfl⟩
            rcases iteC hy3 with ⟨hc, hy3⟩ | ⟨hc, hy3⟩
            · refine lQ.ifT rfl (decide_eq_true hc) ?_
              refine lQ.push rfl ?_
              obtain rfl := Option.some.inj hy3
              exact lQ.sub (lSb rfl (lSb rfl (lSb rfl (lSb rfl (lSb rfl (lSb rfl lSb0)))))) hJ3
            · refine lQ.ifF rfl (decide_eq_false hc) ?_
              refine lQ.goto rfl ?_
              refine lQ.push rfl ?_
              refine lQ.goto rfl ?_
              obtain rfl := Option.some.inj hy3
              exact lQ.sub (lSb rfl (lSb rfl (lSb rfl (lSb rfl (lSb rfl (lSb rfl lSb0)))))) hJ3
          · refine lQ.cmpT rfl (decide_eq_true hc) ?_
            refine lQ.loadI rfl rfl ?_
            refine lQ.push rfl ?_
            rcases iteC hy3 with ⟨hc, hy3⟩ | ⟨hc, hy3⟩
            · refine lQ.cmpT rfl (decide_eq_true hc) ?_
              refine lQ.push rfl ?_
              obtain rfl := Option.some.inj hy3
              exact lQ.sub (lSb rfl (lSb rfl (lSb rfl (lSb rfl (lSb rfl (lSb rfl lSb0)))))) hJ3
            · refine lQ.cmpF rfl (decide_eq_false hc) ?_
              refine lQ.loadI rfl rfl ?_
              refine lQ.push rfl ?_
              rcases iteC hy3 with ⟨hc, hy3⟩ | ⟨hc, hy3⟩
              · refine lQ.cmpT rfl (decide_eq_true hc) ?_
                refine lQ.push rfl ?_
                obtain rfl := Option.some.inj hy3
                exact lQ.sub (lSb rfl (lSb rfl (lSb rfl (lSb rfl (lSb rfl (lSb rfl lSb0)))))) hJ3
              · refine lQ.cmpF rfl (decide_eq_false hc) ?_
                refine lQ.push rfl ?_
                refine lQ.goto rfl ?_
                obtain rfl := Option.some.inj hy3
                exact lQ.sub (lSb rfl (lSb rfl (lSb rfl (lSb rfl (lSb rfl (lSb rfl lSb0)))))) hJ3
    rcases iteC hy2 with ⟨hc, hy2⟩ | ⟨hc, hy2⟩
    · refine lQ.ifT rfl (decide_eq_true hc) ?_
      refine lQ.push rfl ?_
      obtain rfl := Option.some.inj hy2
      exact lQ.sub (lSb rfl (lSb rfl (lSb rfl (lSb rfl (lSb rfl (lSb rfl lSb0)))))) hJ2
    · refine lQ.ifF rfl (decide_eq_false hc) ?_
      refine lQ.loadI rfl rfl ?_
      refine lQ.push rfl ?_
      obtain ⟨y6, hy6, h6⟩ := bindC hy2
      have hJ6 : ∀ v22, y6 = .inl v22 → lQ R E 4 cd_620 22 [(0, .ref (adr ad 0)), (1, .int v1), (2, .int v2), (3, .int v3), (4, .int v4), (5, .int v5)] [] (tp ad s1 A0) Z := by
        rintro v22 rfl
        have h6 := elimC h6
        refine lQ.loadI rfl rfl ?_
        refine lQ.push rfl ?_
        rcases iteC h6 with ⟨hc, h6⟩ | ⟨hc, h6⟩
        · refine lQ.cmpT rfl (decide_eq_true hc) ?_
          refine lQ.push rfl ?_
          refine lQ.goto rfl ?_
          obtain rfl := Option.some.inj h6
          exact lQ.sub (lSb rfl (lSb rfl (lSb rfl (lSb rfl (lSb rfl (lSb rfl lSb0)))))) hJ2
        · refine lQ.cmpF rfl (decide_eq_false hc) ?_
          refine lQ.loadI rfl rfl ?_
          refine lQ.push rfl ?_
          rcases iteC h6 with ⟨hc, h6⟩ | ⟨hc, h6⟩
          · refine lQ.cmpT rfl (decide_eq_true hc) ?_
            refine lQ.push rfl ?_
            refine lQ.goto rfl ?_
            obtain rfl := Option.some.inj h6
            exact lQ.sub (lSb rfl (lSb rfl (lSb rfl (lSb rfl (lSb rfl (lSb rfl lSb0)))))) hJ2
          · refine lQ.cmpF rfl (decide_eq_false hc) ?_
            refine lQ.loadI rfl rfl ?_
            obtain ⟨x5, hx, h6⟩ := bindC h6
            refine lQ.callI (F := (fun y A => x5 = y ∧ A = tp ad s1 A0)) (G := fun _ _ => False) (args := [.int v4]) (r := []) hR rfl rfl rfl (Nat.le_of_ble_eq_true rfl) (Nat.le_of_ble_eq_true rfl) (ts_765 hR hn hx (cI_mk ⟨rfl, rfl⟩)) ?_ (fun _ _ _ z => z.elim)
            rintro _ _ ⟨rfl, rfl⟩
            rcases iteC h6 with ⟨hc, h6⟩ | ⟨hc, h6⟩
            · refine lQ.ifT rfl (decide_eq_true hc) ?_
              refine lQ.push rfl ?_
              obtain rfl := Option.some.inj h6
              exact lQ.sub (lSb rfl (lSb rfl (lSb rfl (lSb rfl (lSb rfl (lSb rfl lSb0)))))) hJ2
            · refine lQ.ifF rfl (decide_eq_false hc) ?_
              refine lQ.push rfl ?_
              refine lQ.goto rfl ?_
              obtain rfl := Option.some.inj h6
              exact lQ.sub (lSb rfl (lSb rfl (lSb rfl (lSb rfl (lSb rfl (lSb rfl lSb0)))))) hJ2
      rcases iteC hy6 with ⟨hc, hy6⟩ | ⟨hc, hy6⟩
      · refine lQ.cmpT rfl (decide_eq_true hc) ?_
        obtain rfl := Option.some.inj hy6
        exact lQ.sub (lSb rfl (lSb rfl (lSb rfl (lSb rfl (lSb rfl (lSb rfl lSb0)))))) (hJ6 _ rfl)
      · refine lQ.cmpF rfl (decide_eq_false hc) ?_
        refine lQ.loadI rfl rfl ?_
        obtain ⟨x4, hx, hy6⟩ := bindC hy6
        refine lQ.callI (F := (fun y A => x4 = y ∧ A = tp ad s1 A0)) (G := fun _ _ => False) (args := [.int v3]) (r := []) hR rfl rfl rfl (Nat.le_of_ble_eq_true rfl) (Nat.le_of_ble_eq_true rfl) (ts_765 hR hn hx (cI_mk ⟨rfl, rfl⟩)) ?_ (fun _ _ _ z => z.elim)
        rintro _ _ ⟨rfl, rfl⟩
        rcases iteC hy6 with ⟨hc, hy6⟩ | ⟨hc, hy6⟩
        · refine lQ.ifT rfl (decide_eq_true hc) ?_
          refine lQ.push rfl ?_
          obtain rfl := Option.some.inj hy6
          obtain rfl := elimD h6
          exact lQ.sub (lSb rfl (lSb rfl (lSb rfl (lSb rfl (lSb rfl (lSb rfl lSb0)))))) hJ2
        · refine lQ.ifF rfl (decide_eq_false hc) ?_
          obtain rfl := Option.some.inj hy6
          exact lQ.sub (lSb rfl (lSb rfl (lSb rfl (lSb rfl (lSb rfl (lSb rfl lSb0)))))) (hJ6 _ rfl)
  rcases iteC hy1 with ⟨hc, hy1⟩ | ⟨hc, hy1⟩
  · refine lQ.ifT rfl (decide_eq_true hc) ?_
    refine lQ.push rfl ?_
    obtain rfl := Option.some.inj hy1
    exact lQ.sub (lSb rfl (lSb rfl (lSb rfl (lSb rfl (lSb rfl (lSb rfl lSb0)))))) hJ1
  · refine lQ.ifF rfl (decide_eq_false hc) ?_
    refine lQ.loadI rfl rfl ?_
    obtain ⟨x3, hx, hy1⟩ := bindC hy1
    refine lQ.callI (F := (fun y A => x3 = y ∧ A = tp ad s1 A0)) (G := fun _ _ => False) (args := [.int v2]) (r := []) hR rfl rfl rfl (Nat.le_of_ble_eq_true rfl) (Nat.le_of_ble_eq_true rfl) (ts_765 hR hn hx (cI_mk ⟨rfl, rfl⟩)) ?_ (fun _ _ _ z => z.elim)
    rintro _ _ ⟨rfl, rfl⟩
    rcases iteC hy1 with ⟨hc, hy1⟩ | ⟨hc, hy1⟩
    · refine lQ.ifT rfl (decide_eq_true hc) ?_
      refine lQ.push rfl ?_
      obtain rfl := Option.some.inj hy1
      exact lQ.sub (lSb rfl (lSb rfl (lSb rfl (lSb rfl (lSb rfl (lSb rfl lSb0)))))) hJ1
    · refine lQ.ifF rfl (decide_eq_false hc) ?_
      refine lQ.push rfl ?_
      refine lQ.goto rfl ?_
      obtain rfl := Option.some.inj hy1
      exact lQ.sub (lSb rfl (lSb rfl (lSb rfl (lSb rfl (lSb rfl (lSb rfl lSb0)))))) hJ1
theorem ts_621 {R : lAR} (hR : lRok R) {E : lE} {ad : List Nat} (hn : tOk ad) {v1 : Int32} {s : TS} {A0 : lMem} {x : Int32 × TS} (h : t_621 v1 s = some x) {Z : lZ} (hz : Z (.inl (some (.int x.1))) (tp ad x.2 A0)) : lSQ R E 2 621 [.ref (adr ad 0), .int v1] (tp ad s A0) Z := by
  refine lQ.sq pg_621 (Nat.le_of_ble_eq_true rfl) rfl ?_
  unfold t_621 at h
  refine lQ.loadN rfl rfl ?_
  refine lQ.loadI rfl rfl ?_
  obtain ⟨v11, hy1, h1⟩ := bindC h
  have hJ1 : lQ R E 1 cd_621 11 [(0, .ref (adr ad 0)), (1, .int v1)] [.int v11, .ref (adr ad 0)] (tp ad s A0) Z := by
    refine lQ.loadN rfl rfl ?_
    refine lQ.get hR rfl (tf_0_1 hn) ?_
    obtain ⟨x1, hx, h1⟩ := bindC h1
    refine lQ.callVI (F := (fun y A => x1.1 = y ∧ A = tp ad x1.2 A0)) (G := fun _ _ => False) (args := [.ref (adr ad 0), .int v11, .int (s.1 1)]) (r := []) hR rfl rfl rfl (Nat.le_of_ble_eq_true rfl) (Nat.le_of_ble_eq_true rfl) rfl (tk_0 hn rfl) (ts_558 hR hn hx (cI_mk ⟨rfl, rfl⟩)) ?_ (fun _ _ _ z => z.elim)
    rintro _ _ ⟨rfl, rfl⟩
    rcases iteC h1 with ⟨hc, h1⟩ | ⟨hc, h1⟩
    · refine lQ.ifF rfl (decide_eq_false (fun z => z hc)) ?_
      refine lQ.push rfl ?_
      obtain rfl := Option.some.inj h1
      exact lQ.retI rfl rfl hz
    · refine lQ.ifT rfl (decide_eq_true hc) ?_
      refine lQ.loadN rfl rfl ?_
      refine lQ.get hR rfl (tf_0_5 hn) ?_
      refine lQ.dupN rfl ?_
      refine lQ.get hR rfl (tf_3_6 hn) ?_
      refine lQ.loadI rfl rfl ?_
      refine lQ.binI rfl ?_
      obtain ⟨s2, hx, h1⟩ := bindC h1
      refine lQ.put hR rfl rfl (tq_3_6 hn hx) ?_
      rintro _ rfl
      refine lQ.loadN rfl rfl ?_
      refine lQ.get hR rfl (tf_0_5 hn) ?_
      refine lQ.get hR rfl (tf_3_6 hn) ?_
      obtain rfl := Option.some.inj h1
      exact lQ.retI rfl rfl hz
  rcases iteC hy1 with ⟨hc, hy1⟩ | ⟨hc, hy1⟩
  · refine lQ.ifT rfl (decide_eq_true hc) ?_
    refine lQ.push rfl ?_
    obtain rfl := Option.some.inj hy1
    exact lQ.sub (lSb rfl (lSb rfl lSb0)) hJ1
  · refine lQ.ifF rfl (decide_eq_false hc) ?_
    refine lQ.loadI rfl rfl ?_
    refine lQ.loadN rfl rfl ?_
    refine lQ.get hR rfl (tf_0_5 hn) ?_
    refine lQ.get hR rfl (tf_3_6 hn) ?_
    rcases iteC hy1 with ⟨hc, hy1⟩ | ⟨hc, hy1⟩
    · refine lQ.cmpT rfl (decide_eq_true hc) ?_
      refine lQ.push rfl ?_
      obtain rfl := Option.some.inj hy1
      exact lQ.sub (lSb rfl (lSb rfl lSb0)) hJ1
    · refine lQ.cmpF rfl (decide_eq_false hc) ?_
      refine lQ.push rfl ?_
      refine lQ.goto rfl ?_
      obtain rfl := Option.some.inj hy1
      exact lQ.sub (lSb rfl (lSb rfl lSb0)) hJ1
theorem ts_775 {R : lAR} (hR : lRok R) {E : lE} {ad : List Nat} (hn : tOk ad) {v0 : Int32} {s : TS} {A0 : lMem} {x : Int32} (h : t_775 v0 s = some x) {Z : lZ} (hz : Z (.inl (some (.int x))) (tp ad s A0)) : lSQ R E 1 775 [.int v0] (tp ad s A0) Z := by
  refine lQ.sq pg_775 (Nat.le_of_ble_eq_true rfl) rfl ?_
  unfold t_775 at h
  refine lQ.loadI rfl rfl ?_
  refine lQ.push rfl ?_
  rcases iteC h with ⟨hc, h⟩ | ⟨hc, h⟩
  · refine lQ.cmpT rfl (decide_eq_true hc) ?_
    refine lQ.push rfl ?_
    refine lQ.goto rfl ?_
    obtain rfl := Option.some.inj h
    exact lQ.retI rfl rfl hz
  · refine lQ.cmpF rfl (decide_eq_false hc) ?_
    refine lQ.loadI rfl rfl ?_
    refine lQ.push rfl ?_
    rcases iteC h with ⟨hc, h⟩ | ⟨hc, h⟩
    · refine lQ.cmpF rfl (decide_eq_false (fun z => z hc)) ?_
      refine lQ.push rfl ?_
      refine lQ.goto rfl ?_
      obtain rfl := Option.some.inj h
      exact lQ.retI rfl rfl hz
    · refine lQ.cmpT rfl (decide_eq_true hc) ?_
      refine lQ.loadI rfl rfl ?_
      refine lQ.push rfl ?_
      obtain ⟨y1, hy1, h1⟩ := bindC h
      have hJ1 : ∀ v16, y1 = .inl v16 → lQ R E 0 cd_775 16 [(0, .int v0)] [] (tp ad s A0) Z := by
        rintro v16 rfl
        have h1 := elimC h1
        refine lQ.loadI rfl rfl ?_
        refine lQ.push rfl ?_
        rcases iteC h1 with ⟨hc, h1⟩ | ⟨hc, h1⟩
        · refine lQ.cmpF rfl (decide_eq_false (Int32.not_le.mpr hc)) ?_
          refine lQ.loadI rfl rfl ?_
          refine lQ.push rfl ?_
          rcases iteC h1 with ⟨hc, h1⟩ | ⟨hc, h1⟩
          · refine lQ.cmpF rfl (decide_eq_false (Int32.not_le.mpr hc)) ?_
            refine lQ.push rfl ?_
            refine lQ.goto rfl ?_
            obtain rfl := Option.some.inj h1
            exact lQ.retI rfl rfl hz
          · refine lQ.cmpT rfl (decide_eq_true (Int32.not_lt.mp hc)) ?_
            refine lQ.push rfl ?_
            obtain rfl := Option.some.inj h1
            exact lQ.retI rfl rfl hz
        · refine lQ.cmpT rfl (decide_eq_true (Int32.not_lt.mp hc)) ?_
          refine lQ.push rfl ?_
          obtain rfl := Option.some.inj h1
          exact lQ.retI rfl rfl hz
      rcases iteC hy1 with ⟨hc, hy1⟩ | ⟨hc, hy1⟩
      · refine lQ.cmpF rfl (decide_eq_false (Int32.not_le.mpr hc)) ?_
        refine lQ.loadI rfl rfl ?_
        refine lQ.push rfl ?_
        rcases iteC hy1 with ⟨hc, hy1⟩ | ⟨hc, hy1⟩
        · refine lQ.cmpF rfl (decide_eq_false (Int32.not_le.mpr hc)) ?_
          refine lQ.push rfl ?_
          refine lQ.goto rfl ?_
          obtain rfl := Option.some.inj hy1
          obtain rfl := elimD h1
          exact lQ.retI rfl rfl hz
        · refine lQ.cmpT rfl (decide_eq_true (Int32.not_lt.mp hc)) ?_
          obtain rfl := Option.some.inj hy1
          exact lQ.sub (lSb rfl lSb0) (hJ1 _ rfl)
      · refine lQ.cmpT rfl (decide_eq_true (Int32.not_lt.mp hc)) ?_
        obtain rfl := Option.some.inj hy1
        exact lQ.sub (lSb rfl lSb0) (hJ1 _ rfl)
theorem ts_774 {R : lAR} (hR : lRok R) {E : lE} {ad : List Nat} (hn : tOk ad) {s : TS} {A0 : lMem} {x : TS} (h : t_774 s = some x) {Z : lZ} (hz : Z (.inl none) (tp ad x A0)) : lSQ R E 2 774 [.ref (adr ad 3)] (tp ad s A0) Z := by
  refine lQ.sq pg_774 (Nat.le_of_ble_eq_true rfl) rfl ?_
  unfold t_774 at h
  refine lQ.loadN rfl rfl ?_
  refine lQ.push rfl ?_
  obtain ⟨s1, hx, h⟩ := bindC h
  refine lQ.put hR rfl rfl (tq_3_7 hn hx) ?_
  rintro _ rfl
  refine lQ.push rfl ?_
  refine lQ.stI rfl (lN2s rfl rfl) ?_
  refine lQ.push rfl ?_
  refine lQ.stI rfl (lN2s rfl rfl) ?_
  obtain ⟨v53, hy1, h1⟩ := bindC h
  have hJ1 : lQ R E 1 cd_774 53 [] [] (tp ad v53 A0) Z := by
    obtain rfl := Option.some.inj h1
    exact lQ.retV rfl hz
  refine lQ.sub (lSb rfl (lSb rfl (lSb rfl lSb0))) (wh_run (P := fun p7 => lQ R E 1 cd_774 7 [(0, .ref (adr ad 3)), (1, .int p7.2.1), (2, .int p7.2.2)] [] (tp ad p7.1 A0) Z) hy1 ?_)
  intro p7 r2 hb2 hI2 hX2
  refine lQ.loadI rfl rfl ?_
  refine lQ.loadN rfl rfl ?_
  refine lQ.get hR rfl (tf_3_6 hn) ?_
  rcases iteC hb2 with ⟨hc, hb2⟩ | ⟨hc, hb2⟩
  · refine lQ.cmpF rfl (decide_eq_false (Int32.not_le.mpr hc)) ?_
    refine lQ.loadN rfl rfl ?_
    refine lQ.get hR rfl (tf_3_5 hn) ?_
    refine lQ.loadI rfl rfl ?_
    obtain ⟨x2, hx, hb2⟩ := bindC hb2
    refine lQ.ald hR rfl (ta_102 hn hx) ?_
    obtain ⟨x3, hx, hb2⟩ := bindC hb2
    refine lQ.callI (F := (fun y A => x3 = y ∧ A = tp ad p7.1 A0)) (G := fun _ _ => False) (args := [.int x2]) (r := []) hR rfl rfl rfl (Nat.le_of_ble_eq_true rfl) (Nat.le_of_ble_eq_true rfl) (ts_775 hR hn hx (cI_mk ⟨rfl, rfl⟩)) ?_ (fun _ _ _ z => z.elim)
    rintro _ _ ⟨rfl, rfl⟩
    refine lQ.stI rfl (lN2s rfl rfl) ?_
    refine lQ.loadI rfl rfl ?_
    obtain ⟨v37, hy3, h3⟩ := bindC hb2
    have hJ3 : lQ R E 1 cd_774 37 [(0, .ref (adr ad 3)), (2, .int p7.2.2), (3, .int x3)] [] (tp ad v37 A0) Z := by
      refine lQ.loadI rfl rfl ?_
      obtain ⟨v49, hy4, h4⟩ := bindC h3
      have hJ4 : lQ R E 1 cd_774 49 [(0, .ref (adr ad 3)), (2, .int p7.2.2), (3, .int x3)] [] (tp ad v49 A0) Z := by
        refine lQ.loadI rfl rfl ?_
        refine lQ.stI rfl (lN2s rfl rfl) ?_
        refine lQ.inc rfl rfl (lN2s rfl rfl) ?_
        refine lQ.goto rfl ?_
        obtain rfl := Option.some.inj h4
        exact lQ.sub (lSb rfl (lSb rfl (lSb rfl lSb0))) (hI2 _ rfl)
      rcases iteC hy4 with ⟨hc, hy4⟩ | ⟨hc, hy4⟩
      · refine lQ.ifF rfl (decide_eq_false (Int32.not_le.mpr hc)) ?_
        refine lQ.loadN rfl rfl ?_
        refine lQ.get hR rfl (tf_3_9 hn) ?_
        refine lQ.loadN rfl rfl ?_
        refine lQ.get hR rfl (tf_3_7 hn) ?_
        refine lQ.push rfl ?_
        refine lQ.binI rfl ?_
        refine lQ.loadI rfl rfl ?_
        refine lQ.push rfl ?_
        refine lQ.binI rfl ?_
        obtain ⟨s6, hx, hy4⟩ := bindC hy4
        refine lQ.ast hR rfl (tw_104 hn hx) ?_
        rintro _ rfl
        obtain rfl := Option.some.inj hy4
        exact lQ.sub (lSb rfl (lSb rfl (lSb rfl lSb0))) hJ4
      · refine lQ.ifT rfl (decide_eq_true (Int32.not_lt.mp hc)) ?_
        obtain rfl := Option.some.inj hy4
        exact lQ.sub (lSb rfl (lSb rfl (lSb rfl lSb0))) hJ4
    rcases iteC hy3 with ⟨hc, hy3⟩ | ⟨hc, hy3⟩
    · refine lQ.ifF rfl (decide_eq_false (Int32.not_le.mpr hc)) ?_
      refine lQ.loadI rfl rfl ?_
      refine lQ.push rfl ?_
      obtain ⟨y5, hy5, h5⟩ := bindC hy3
      have hJ5 : ∀ v25, y5 = .inl v25 → lQ R E 1 cd_774 25 [(0, .ref (adr ad 3)), (2, .int p7.2.2), (3, .int x3)] [] (tp ad p7.1 A0) Z := by
        rintro v25 rfl
        have h5 := elimC h5
        refine lQ.loadN rfl rfl ?_
        refine lQ.get hR rfl (tf_3_8 hn) ?_
        refine lQ.loadN rfl rfl ?_
        refine lQ.get hR rfl (tf_3_7 hn) ?_
        refine lQ.loadI rfl rfl ?_
        obtain ⟨s4, hx, h5⟩ := bindC h5
        refine lQ.ast hR rfl (tw_103 hn hx) ?_
        rintro _ rfl
        refine lQ.loadN rfl rfl ?_
        refine lQ.dupN rfl ?_
        refine lQ.get hR rfl (tf_3_7 hn) ?_
        refine lQ.push rfl ?_
        refine lQ.binI rfl ?_
        obtain ⟨s5, hx, h5⟩ := bindC h5
        refine lQ.put hR rfl rfl (tq_3_7 hn hx) ?_
        rintro _ rfl
        obtain rfl := Option.some.inj h5
        exact lQ.sub (lSb rfl (lSb rfl (lSb rfl lSb0))) hJ3
      rcases iteC hy5 with ⟨hc, hy5⟩ | ⟨hc, hy5⟩
      · refine lQ.cmpT rfl (decide_eq_true hc) ?_
        obtain rfl := Option.some.inj hy5
        exact lQ.sub (lSb rfl (lSb rfl (lSb rfl lSb0))) (hJ5 _ rfl)
      · refine lQ.cmpF rfl (decide_eq_false hc) ?_
        refine lQ.loadI rfl rfl ?_
        refine lQ.loadI rfl rfl ?_
        rcases iteC hy5 with ⟨hc, hy5⟩ | ⟨hc, hy5⟩
        · refine lQ.cmpT rfl (decide_eq_true hc) ?_
          obtain rfl := Option.some.inj hy5
          obtain rfl := elimD h5
          exact lQ.sub (lSb rfl (lSb rfl (lSb rfl lSb0))) hJ3
        · refine lQ.cmpF rfl (decide_eq_false hc) ?_
          obtain rfl := Option.some.inj hy5
          exact lQ.sub (lSb rfl (lSb rfl (lSb rfl lSb0))) (hJ5 _ rfl)
    · refine lQ.ifT rfl (decide_eq_true (Int32.not_lt.mp hc)) ?_
      obtain rfl := Option.some.inj hy3
      exact lQ.sub (lSb rfl (lSb rfl (lSb rfl lSb0))) hJ3
  · refine lQ.cmpT rfl (decide_eq_true (Int32.not_lt.mp hc)) ?_
    obtain rfl := Option.some.inj hb2
    obtain rfl := hX2 _ rfl
    exact lQ.sub lSb0 hJ1
theorem ts_777 {R : lAR} (hR : lRok R) {E : lE} {ad : List Nat} (hn : tOk ad) {s : TS} {A0 : lMem} {x : Int32} (h : t_777 s = some x) {Z : lZ} (hz : Z (.inl (some (.int x))) (tp ad s A0)) : lSQ R E 2 777 [.ref (adr ad 3)] (tp ad s A0) Z := by
  refine lQ.sq pg_777 (Nat.le_of_ble_eq_true rfl) rfl ?_
  unfold t_777 at h
  refine lQ.loadN rfl rfl ?_
  refine lQ.get hR rfl (tf_3_10 hn) ?_
  refine lQ.loadN rfl rfl ?_
  refine lQ.get hR rfl (tf_3_7 hn) ?_
  rcases iteC h with ⟨hc, h⟩ | ⟨hc, h⟩
  · refine lQ.cmpF rfl (decide_eq_false (Int32.not_le.mpr hc)) ?_
    refine lQ.loadN rfl rfl ?_
    refine lQ.get hR rfl (tf_3_5 hn) ?_
    refine lQ.loadN rfl rfl ?_
    refine lQ.get hR rfl (tf_3_8 hn) ?_
    refine lQ.loadN rfl rfl ?_
    refine lQ.get hR rfl (tf_3_10 hn) ?_
    obtain ⟨x1, hx, h⟩ := bindC h
    refine lQ.ald hR rfl (ta_103 hn hx) ?_
    obtain ⟨x2, hx, h⟩ := bindC h
    refine lQ.ald hR rfl (ta_102 hn hx) ?_
    obtain ⟨x3, hx, h⟩ := bindC h
    refine lQ.callI (F := (fun y A => x3 = y ∧ A = tp ad s A0)) (G := fun _ _ => False) (args := [.int x2]) (r := []) hR rfl rfl rfl (Nat.le_of_ble_eq_true rfl) (Nat.le_of_ble_eq_true rfl) (ts_775 hR hn hx (cI_mk ⟨rfl, rfl⟩)) ?_ (fun _ _ _ z => z.elim)
    rintro _ _ ⟨rfl, rfl⟩
    refine lQ.push rfl ?_
    rcases iteC h with ⟨hc, h⟩ | ⟨hc, h⟩
    · refine lQ.cmpF rfl (decide_eq_false (fun z => z hc)) ?_
      refine lQ.loadN rfl rfl ?_
      refine lQ.get hR rfl (tf_3_9 hn) ?_
      refine lQ.loadN rfl rfl ?_
      refine lQ.get hR rfl (tf_3_10 hn) ?_
      obtain ⟨x4, hx, h⟩ := bindC h
      refine lQ.ald hR rfl (ta_104 hn hx) ?_
      refine lQ.loadN rfl rfl ?_
      refine lQ.get hR rfl (tf_3_8 hn) ?_
      refine lQ.loadN rfl rfl ?_
      refine lQ.get hR rfl (tf_3_10 hn) ?_
      obtain ⟨x5, hx, h⟩ := bindC h
      refine lQ.ald hR rfl (ta_103 hn hx) ?_
      refine lQ.binI rfl ?_
      refine lQ.push rfl ?_
      rcases iteC h with ⟨hc, h⟩ | ⟨hc, h⟩
      · refine lQ.cmpF rfl (decide_eq_false (Int32.not_le.mpr hc)) ?_
        refine lQ.push rfl ?_
        obtain rfl := Option.some.inj h
        exact lQ.retI rfl rfl hz
      · refine lQ.cmpT rfl (decide_eq_true (Int32.not_lt.mp hc)) ?_
        refine lQ.push rfl ?_
        refine lQ.stI rfl (lN2s rfl rfl) ?_
        refine lQ.loadN rfl rfl ?_
        refine lQ.get hR rfl (tf_3_9 hn) ?_
        refine lQ.loadN rfl rfl ?_
        refine lQ.get hR rfl (tf_3_10 hn) ?_
        obtain ⟨x6, hx, h⟩ := bindC h
        refine lQ.ald hR rfl (ta_104 hn hx) ?_
        refine lQ.push rfl ?_
        refine lQ.binI rfl ?_
        refine lQ.stI rfl (lN2s rfl rfl) ?_
        obtain ⟨v61, hy1, h1⟩ := bindC h
        have hJ1 : lQ R E 1 cd_777 61 [(1, .int v61)] [] (tp ad s A0) Z := by
          refine lQ.loadI rfl rfl ?_
          obtain rfl := Option.some.inj h1
          exact lQ.retI rfl rfl hz
        refine lQ.sub (lSb rfl (lSb rfl (lSb rfl lSb0))) (wh_run (P := fun p41 => lQ R E 1 cd_777 41 [(0, .ref (adr ad 3)), (1, .int p41.1), (2, .int p41.2)] [] (tp ad s A0) Z) hy1 ?_)
        intro p41 r2 hb2 hI2 hX2
        refine lQ.loadI rfl rfl ?_
        refine lQ.loadN rfl rfl ?_
        refine lQ.get hR rfl (tf_3_8 hn) ?_
        refine lQ.loadN rfl rfl ?_
        refine lQ.get hR rfl (tf_3_10 hn) ?_
        obtain ⟨x7, hx, hb2⟩ := bindC hb2
        refine lQ.ald hR rfl (ta_103 hn hx) ?_
        rcases iteC hb2 with ⟨hc, hb2⟩ | ⟨hc, hb2⟩
        · refine lQ.cmpT rfl (decide_eq_true hc) ?_
          obtain rfl := Option.some.inj hb2
          obtain rfl := hX2 _ rfl
          exact lQ.sub (lSb rfl lSb0) hJ1
        · refine lQ.cmpF rfl (decide_eq_false hc) ?_
          refine lQ.push rfl ?_
          refine lQ.loadI rfl rfl ?_
          refine lQ.binI rfl ?_
          refine lQ.loadN rfl rfl ?_
          refine lQ.get hR rfl (tf_3_5 hn) ?_
          refine lQ.loadI rfl rfl ?_
          obtain ⟨x8, hx, hb2⟩ := bindC hb2
          refine lQ.ald hR rfl (ta_102 hn hx) ?_
          refine lQ.binI rfl ?_
          refine lQ.push rfl ?_
          refine lQ.binI rfl ?_
          refine lQ.stI rfl (lN2s rfl rfl) ?_
          refine lQ.dec rfl rfl (Int32.sub_eq_add_neg p41.2 1).symm (lN2s rfl rfl) ?_
          refine lQ.goto rfl ?_
          obtain rfl := Option.some.inj hb2
          exact lQ.sub (lSb rfl (lSb rfl (lSb rfl lSb0))) (hI2 _ rfl)
    · refine lQ.cmpT rfl (decide_eq_true hc) ?_
      refine lQ.push rfl ?_
      obtain rfl := Option.some.inj h
      exact lQ.retI rfl rfl hz
  · refine lQ.cmpT rfl (decide_eq_true (Int32.not_lt.mp hc)) ?_
    refine lQ.push rfl ?_
    obtain rfl := Option.some.inj h
    exact lQ.retI rfl rfl hz
theorem ts_780 {R : lAR} (hR : lRok R) {E : lE} {ad : List Nat} (hn : tOk ad) {v1 : Int32} {s : TS} {A0 : lMem} {x : Int32 × TS} (h : t_780 v1 s = some x) {Z : lZ} (hz : Z (.inl (some (.int x.1))) (tp ad x.2 A0)) : lSQ R E 1 780 [.ref (adr ad 3), .int v1] (tp ad s A0) Z := by
  refine lQ.sq pg_780 (Nat.le_of_ble_eq_true rfl) rfl ?_
  unfold t_780 at h
  refine lQ.loadI rfl rfl ?_
  obtain ⟨v9, hy1, h1⟩ := bindC h
  have hJ1 : lQ R E 0 cd_780 9 [(0, .ref (adr ad 3))] [] (tp ad v9 A0) Z := by
    refine lQ.loadN rfl rfl ?_
    refine lQ.get hR rfl (tf_3_11 hn) ?_
    rcases iteC h1 with ⟨hc, h1⟩ | ⟨hc, h1⟩
    · refine lQ.ifF rfl (decide_eq_false (Int32.not_le.mpr hc)) ?_
      refine lQ.push rfl ?_
      refine lQ.goto rfl ?_
      obtain rfl := Option.some.inj h1
      exact lQ.retI rfl rfl hz
    · refine lQ.ifT rfl (decide_eq_true (Int32.not_lt.mp hc)) ?_
      refine lQ.push rfl ?_
      obtain rfl := Option.some.inj h1
      exact lQ.retI rfl rfl hz
  rcases iteC hy1 with ⟨hc, hy1⟩ | ⟨hc, hy1⟩
  · refine lQ.ifF rfl (decide_eq_false (fun z => z hc)) ?_
    refine lQ.loadN rfl rfl ?_
    refine lQ.get hR rfl (tf_3_11 hn) ?_
    rcases iteC hy1 with ⟨hc, hy1⟩ | ⟨hc, hy1⟩
    · refine lQ.ifF rfl (decide_eq_false (Int32.not_le.mpr hc)) ?_
      refine lQ.loadN rfl rfl ?_
      refine lQ.loadN rfl rfl ?_
      refine lQ.get hR rfl (tf_3_10 hn) ?_
      obtain ⟨s1, hx, hy1⟩ := bindC hy1
      refine lQ.put hR rfl rfl (tq_3_11 hn hx) ?_
      rintro _ rfl
      obtain rfl := Option.some.inj hy1
      exact lQ.sub (lSb rfl lSb0) hJ1
    · refine lQ.ifT rfl (decide_eq_true (Int32.not_lt.mp hc)) ?_
      obtain rfl := Option.some.inj hy1
      exact lQ.sub (lSb rfl lSb0) hJ1
  · refine lQ.ifT rfl (decide_eq_true hc) ?_
    obtain rfl := Option.some.inj hy1
    exact lQ.sub (lSb rfl lSb0) hJ1
theorem ts_779 {R : lAR} (hR : lRok R) {E : lE} {ad : List Nat} (hn : tOk ad) {v1 : Int32} {v2 : Int32} {s : TS} {A0 : lMem} {x : Int32 × TS} (h : t_779 v1 v2 s = some x) {Z : lZ} (hz : Z (.inl (some (.int x.1))) (tp ad x.2 A0)) : lSQ R E 2 779 [.ref (adr ad 3), .int v1, .int v2] (tp ad s A0) Z := by
  refine lQ.sq pg_779 (Nat.le_of_ble_eq_true rfl) rfl ?_
  unfold t_779 at h
  refine lQ.loadN rfl rfl ?_
  refine lQ.get hR rfl (tf_3_10 hn) ?_
  refine lQ.loadN rfl rfl ?_
  refine lQ.get hR rfl (tf_3_7 hn) ?_
  obtain ⟨v32, hy1, h1⟩ := bindC h
  have hJ1 : lQ R E 1 cd_779 32 [(0, .ref (adr ad 3)), (1, .int v1), (2, .int v2)] [.int v32] (tp ad s A0) Z := by
    refine lQ.stI rfl (lN2s rfl rfl) ?_
    refine lQ.push rfl ?_
    refine lQ.stI rfl (lN2s rfl rfl) ?_
    refine lQ.loadI rfl rfl ?_
    obtain ⟨v44, hy2, h2⟩ := bindC h1
    have hJ2 : lQ R E 1 cd_779 44 [(0, .ref (adr ad 3)), (1, .int v1), (2, .int v2), (3, .int v32), (4, .int 0)] [.int v44] (tp ad s A0) Z := by
      refine lQ.stI rfl (lN2s rfl rfl) ?_
      obtain ⟨v67, hy3, h3⟩ := bindC h2
      have hJ3 : lQ R E 1 cd_779 67 [(0, .ref (adr ad 3)), (1, .int v1), (2, .int v2), (3, .int v32), (4, .int v67)] [] (tp ad s A0) Z := by
        refine lQ.loadN rfl rfl ?_
        refine lQ.loadI rfl rfl ?_
        obtain ⟨v79, hy4, h4⟩ := bindC h3
        have hJ4 : lQ R E 1 cd_779 79 [(4, .int v67)] [.int v79, .ref (adr ad 3)] (tp ad s A0) Z := by
          obtain ⟨x9, hx, h4⟩ := bindC h4
          refine lQ.callVI (F := (fun y A => x9.1 = y ∧ A = tp ad x9.2 A0)) (G := fun _ _ => False) (args := [.ref (adr ad 3), .int v79]) (r := []) hR rfl rfl rfl (Nat.le_of_ble_eq_true rfl) (Nat.le_of_ble_eq_true rfl) rfl (tk_3 hn rfl) (ts_780 hR hn hx (cI_mk ⟨rfl, rfl⟩)) ?_ (fun _ _ _ z => z.elim)
          rintro _ _ ⟨rfl, rfl⟩
          rcases iteC h4 with ⟨hc, h4⟩ | ⟨hc, h4⟩
          · refine lQ.ifT rfl (decide_eq_true hc) ?_
            refine lQ.push rfl ?_
            obtain rfl := Option.some.inj h4
            exact lQ.retI rfl rfl hz
          · refine lQ.ifF rfl (decide_eq_false hc) ?_
            refine lQ.loadI rfl rfl ?_
            refine lQ.goto rfl ?_
            obtain rfl := Option.some.inj h4
            exact lQ.retI rfl rfl hz
        rcases iteC hy4 with ⟨hc, hy4⟩ | ⟨hc, hy4⟩
        · refine lQ.ifT rfl (decide_eq_true hc) ?_
          refine lQ.push rfl ?_
          obtain rfl := Option.some.inj hy4
          exact lQ.sub (lSb rfl lSb0) hJ4
        · refine lQ.ifF rfl (decide_eq_false hc) ?_
          refine lQ.loadI rfl rfl ?_
          refine lQ.loadI rfl rfl ?_
          rcases iteC hy4 with ⟨hc, hy4⟩ | ⟨hc, hy4⟩
          · refine lQ.cmpT rfl (decide_eq_true hc) ?_
            refine lQ.push rfl ?_
            obtain rfl := Option.some.inj hy4
            exact lQ.sub (lSb rfl lSb0) hJ4
          · refine lQ.cmpF rfl (decide_eq_false hc) ?_
            refine lQ.loadI rfl rfl ?_
            refine lQ.loadI rfl rfl ?_
            rcases iteC hy4 with ⟨hc, hy4⟩ | ⟨hc, hy4⟩
            · refine lQ.cmpT rfl (decide_eq_true hc) ?_
              refine lQ.push rfl ?_
              obtain rfl := Option.some.inj hy4
              exact lQ.sub (lSb rfl lSb0) hJ4
            · refine lQ.cmpF rfl (decide_eq_false hc) ?_
              refine lQ.push rfl ?_
              refine lQ.goto rfl ?_
              obtain rfl := Option.some.inj hy4
              exact lQ.sub (lSb rfl lSb0) hJ4
      refine lQ.sub (lSb rfl (lSb rfl (lSb rfl (lSb rfl (lSb rfl (lSb rfl lSb0)))))) (wh_run (P := fun p45 => lQ R E 1 cd_779 45 [(0, .ref (adr ad 3)), (1, .int v1), (2, .int v2), (3, .int v32), (4, .int p45.1), (5, .int p45.2)] [] (tp ad s A0) Z) hy3 ?_)
      intro p45 r5 hb5 hI5 hX5
      refine lQ.loadI rfl rfl ?_
      rcases iteC hb5 with ⟨hc, hb5⟩ | ⟨hc, hb5⟩
      · refine lQ.ifT rfl (decide_eq_true hc) ?_
        obtain rfl := Option.some.inj hb5
        obtain rfl := hX5 _ rfl
        exact lQ.sub (lSb rfl (lSb rfl (lSb rfl (lSb rfl (lSb rfl lSb0))))) hJ3
      · refine lQ.ifF rfl (decide_eq_false hc) ?_
        refine lQ.loadI rfl rfl ?_
        refine lQ.loadN rfl rfl ?_
        refine lQ.get hR rfl (tf_3_9 hn) ?_
        refine lQ.loadN rfl rfl ?_
        refine lQ.get hR rfl (tf_3_10 hn) ?_
        obtain ⟨x7, hx, hb5⟩ := bindC hb5
        refine lQ.ald hR rfl (ta_104 hn hx) ?_
        rcases iteC hb5 with ⟨hc, hb5⟩ | ⟨hc, hb5⟩
        · refine lQ.cmpF rfl (decide_eq_false (Int32.not_le.mpr hc)) ?_
          refine lQ.push rfl ?_
          refine lQ.loadI rfl rfl ?_
          refine lQ.binI rfl ?_
          refine lQ.loadN rfl rfl ?_
          refine lQ.get hR rfl (tf_3_5 hn) ?_
          refine lQ.loadI rfl rfl ?_
          obtain ⟨x8, hx, hb5⟩ := bindC hb5
          refine lQ.ald hR rfl (ta_102 hn hx) ?_
          refine lQ.binI rfl ?_
          refine lQ.push rfl ?_
          refine lQ.binI rfl ?_
          refine lQ.stI rfl (lN2s rfl rfl) ?_
          refine lQ.inc rfl rfl (lN2s rfl rfl) ?_
          refine lQ.goto rfl ?_
          obtain rfl := Option.some.inj hb5
          exact lQ.sub (lSb rfl (lSb rfl (lSb rfl (lSb rfl (lSb rfl (lSb rfl lSb0)))))) (hI5 _ rfl)
        · refine lQ.cmpT rfl (decide_eq_true (Int32.not_lt.mp hc)) ?_
          obtain rfl := Option.some.inj hb5
          obtain rfl := hX5 _ rfl
          exact lQ.sub (lSb rfl (lSb rfl (lSb rfl (lSb rfl (lSb rfl lSb0))))) hJ3
    rcases iteC hy2 with ⟨hc, hy2⟩ | ⟨hc, hy2⟩
    · refine lQ.ifT rfl (decide_eq_true hc) ?_
      refine lQ.push rfl ?_
      obtain rfl := Option.some.inj hy2
      exact lQ.sub (lSb rfl (lSb rfl (lSb rfl (lSb rfl (lSb rfl lSb0))))) hJ2
    · refine lQ.ifF rfl (decide_eq_false hc) ?_
      refine lQ.loadN rfl rfl ?_
      refine lQ.get hR rfl (tf_3_8 hn) ?_
      refine lQ.loadN rfl rfl ?_
      refine lQ.get hR rfl (tf_3_10 hn) ?_
      obtain ⟨x6, hx, hy2⟩ := bindC hy2
      refine lQ.ald hR rfl (ta_103 hn hx) ?_
      refine lQ.goto rfl ?_
      obtain rfl := Option.some.inj hy2
      exact lQ.sub (lSb rfl (lSb rfl (lSb rfl (lSb rfl (lSb rfl lSb0))))) hJ2
  rcases iteC hy1 with ⟨hc, hy1⟩ | ⟨hc, hy1⟩
  · refine lQ.cmpF rfl (decide_eq_false (Int32.not_le.mpr hc)) ?_
    refine lQ.loadN rfl rfl ?_
    refine lQ.get hR rfl (tf_3_5 hn) ?_
    refine lQ.loadN rfl rfl ?_
    refine lQ.get hR rfl (tf_3_8 hn) ?_
    refine lQ.loadN rfl rfl ?_
    refine lQ.get hR rfl (tf_3_10 hn) ?_
    obtain ⟨x1, hx, hy1⟩ := bindC hy1
    refine lQ.ald hR rfl (ta_103 hn hx) ?_
    obtain ⟨x2, hx, hy1⟩ := bindC hy1
    refine lQ.ald hR rfl (ta_102 hn hx) ?_
    obtain ⟨x3, hx, hy1⟩ := bindC hy1
    refine lQ.callI (F := (fun y A => x3 = y ∧ A = tp ad s A0)) (G := fun _ _ => False) (args := [.int x2]) (r := []) hR rfl rfl rfl (Nat.le_of_ble_eq_true rfl) (Nat.le_of_ble_eq_true rfl) (ts_775 hR hn hx (cI_mk ⟨rfl, rfl⟩)) ?_ (fun _ _ _ z => z.elim)
    rintro _ _ ⟨rfl, rfl⟩
    refine lQ.push rfl ?_
    rcases iteC hy1 with ⟨hc, hy1⟩ | ⟨hc, hy1⟩
    · refine lQ.cmpF rfl (decide_eq_false (fun z => z hc)) ?_
      refine lQ.loadN rfl rfl ?_
      refine lQ.get hR rfl (tf_3_9 hn) ?_
      refine lQ.loadN rfl rfl ?_
      refine lQ.get hR rfl (tf_3_10 hn) ?_
      obtain ⟨x4, hx, hy1⟩ := bindC hy1
      refine lQ.ald hR rfl (ta_104 hn hx) ?_
      refine lQ.loadN rfl rfl ?_
      refine lQ.get hR rfl (tf_3_8 hn) ?_
      refine lQ.loadN rfl rfl ?_
      refine lQ.get hR rfl (tf_3_10 hn) ?_
      obtain ⟨x5, hx, hy1⟩ := bindC hy1
      refine lQ.ald hR rfl (ta_103 hn hx) ?_
      refine lQ.binI rfl ?_
      refine lQ.push rfl ?_
      rcases iteC hy1 with ⟨hc, hy1⟩ | ⟨hc, hy1⟩
      · refine lQ.cmpT rfl (decide_eq_true hc) ?_
        refine lQ.push rfl ?_
        obtain rfl := Option.some.inj hy1
        exact lQ.sub (lSb rfl (lSb rfl (lSb rfl lSb0))) hJ1
      · refine lQ.cmpF rfl (decide_eq_false hc) ?_
        refine lQ.push rfl ?_
        refine lQ.goto rfl ?_
        obtain rfl := Option.some.inj hy1
        exact lQ.sub (lSb rfl (lSb rfl (lSb rfl lSb0))) hJ1
    · refine lQ.cmpT rfl (decide_eq_true hc) ?_
      refine lQ.push rfl ?_
      obtain rfl := Option.some.inj hy1
      exact lQ.sub (lSb rfl (lSb rfl (lSb rfl lSb0))) hJ1
  · refine lQ.cmpT rfl (decide_eq_true (Int32.not_lt.mp hc)) ?_
    refine lQ.push rfl ?_
    obtain rfl := Option.some.inj hy1
    exact lQ.sub (lSb rfl (lSb rfl (lSb rfl lSb0))) hJ1
theorem ts_781 {R : lAR} (hR : lRok R) {E : lE} {ad : List Nat} (hn : tOk ad) {v1 : Int32} {s : TS} {A0 : lMem} {x : TS} (h : t_781 v1 s = some x) {Z : lZ} (hz : Z (.inl none) (tp ad x A0)) : lSQ R E 3 781 [.ref (adr ad 3), .int v1] (tp ad s A0) Z := by
  refine lQ.sq pg_781 (Nat.le_of_ble_eq_true rfl) rfl ?_
  unfold t_781 at h
  refine lQ.loadN rfl rfl ?_
  refine lQ.loadN rfl rfl ?_
  obtain ⟨x1, hx, h⟩ := bindC h
  refine lQ.callVI (F := (fun y A => x1 = y ∧ A = tp ad s A0)) (G := fun _ _ => False) (args := [.ref (adr ad 3)]) (r := [.ref (adr ad 3)]) hR rfl rfl rfl (Nat.le_of_ble_eq_true rfl) (Nat.le_of_ble_eq_true rfl) rfl (tk_3 hn rfl) (ts_777 hR hn hx (cI_mk ⟨rfl, rfl⟩)) ?_ (fun _ _ _ z => z.elim)
  rintro _ _ ⟨rfl, rfl⟩
  refine lQ.loadI rfl rfl ?_
  obtain ⟨v8, hy1, h1⟩ := bindC h
  have hJ1 : lQ R E 2 cd_781 8 [(0, .ref (adr ad 3))] [.int v8, .ref (adr ad 3)] (tp ad s A0) Z := by
    obtain ⟨x2, hx, h1⟩ := bindC h1
    refine lQ.callVI (F := (fun y A => x2.1 = y ∧ A = tp ad x2.2 A0)) (G := fun _ _ => False) (args := [.ref (adr ad 3), .int v8]) (r := []) hR rfl rfl rfl (Nat.le_of_ble_eq_true rfl) (Nat.le_of_ble_eq_true rfl) rfl (tk_3 hn rfl) (ts_780 hR hn hx (cI_mk ⟨rfl, rfl⟩)) ?_ (fun _ _ _ z => z.elim)
    rintro _ _ ⟨rfl, rfl⟩
    rcases iteC h1 with ⟨hc, h1⟩ | ⟨hc, h1⟩
    · refine lQ.ifT rfl (decide_eq_true hc) ?_
      obtain rfl := Option.some.inj h1
      exact lQ.retV rfl hz
    · refine lQ.ifF rfl (decide_eq_false hc) ?_
      refine lQ.loadN rfl rfl ?_
      refine lQ.dupN rfl ?_
      refine lQ.get hR rfl (tf_3_10 hn) ?_
      refine lQ.push rfl ?_
      refine lQ.binI rfl ?_
      obtain ⟨s3, hx, h1⟩ := bindC h1
      refine lQ.put hR rfl rfl (tq_3_10 hn hx) ?_
      rintro _ rfl
      obtain rfl := Option.some.inj h1
      exact lQ.retV rfl hz
  rcases iteC hy1 with ⟨hc, hy1⟩ | ⟨hc, hy1⟩
  · refine lQ.cmpF rfl (decide_eq_false (fun z => z hc)) ?_
    refine lQ.push rfl ?_
    refine lQ.goto rfl ?_
    obtain rfl := Option.some.inj hy1
    exact lQ.sub (lSb rfl lSb0) hJ1
  · refine lQ.cmpT rfl (decide_eq_true hc) ?_
    refine lQ.push rfl ?_
    obtain rfl := Option.some.inj hy1
    exact lQ.sub (lSb rfl lSb0) hJ1
theorem ts_782 {R : lAR} (hR : lRok R) {E : lE} {ad : List Nat} (hn : tOk ad) {v1 : Int32} {v2 : Int32} {s : TS} {A0 : lMem} {x : Int32 × TS} (h : t_782 v1 v2 s = some x) {Z : lZ} (hz : Z (.inl (some (.int x.1))) (tp ad x.2 A0)) : lSQ R E 3 782 [.ref (adr ad 3), .int v1, .int v2] (tp ad s A0) Z := by
  refine lQ.sq pg_782 (Nat.le_of_ble_eq_true rfl) rfl ?_
  unfold t_782 at h
  refine lQ.loadN rfl rfl ?_
  refine lQ.loadI rfl rfl ?_
  refine lQ.loadI rfl rfl ?_
  obtain ⟨x1, hx, h⟩ := bindC h
  refine lQ.callVI (F := (fun y A => x1.1 = y ∧ A = tp ad x1.2 A0)) (G := fun _ _ => False) (args := [.ref (adr ad 3), .int v1, .int v2]) (r := []) hR rfl rfl rfl (Nat.le_of_ble_eq_true rfl) (Nat.le_of_ble_eq_true rfl) rfl (tk_3 hn rfl) (ts_779 hR hn hx (cI_mk ⟨rfl, rfl⟩)) ?_ (fun _ _ _ z => z.elim)
  rintro _ _ ⟨rfl, rfl⟩
  refine lQ.stI rfl (lN2s rfl rfl) ?_
  refine lQ.loadN rfl rfl ?_
  refine lQ.dupN rfl ?_
  refine lQ.get hR rfl (tf_3_10 hn) ?_
  refine lQ.loadN rfl rfl ?_
  refine lQ.get hR rfl (tf_3_11 hn) ?_
  obtain ⟨v14, hy1, h1⟩ := bindC h
  have hJ1 : lQ R E 2 cd_782 14 [(3, .int x1.1)] [.int v14, .int (x1.2.1 310), .ref (adr ad 3)] (tp ad x1.2 A0) Z := by
    refine lQ.binI rfl ?_
    obtain ⟨s2, hx, h1⟩ := bindC h1
    refine lQ.put hR rfl rfl (tq_3_10 hn hx) ?_
    rintro _ rfl
    refine lQ.loadI rfl rfl ?_
    obtain rfl := Option.some.inj h1
    exact lQ.retI rfl rfl hz
  rcases iteC hy1 with ⟨hc, hy1⟩ | ⟨hc, hy1⟩
  · refine lQ.ifF rfl (decide_eq_false (Int32.not_le.mpr hc)) ?_
    refine lQ.push rfl ?_
    refine lQ.goto rfl ?_
    obtain rfl := Option.some.inj hy1
    exact lQ.sub (lSb rfl lSb0) hJ1
  · refine lQ.ifT rfl (decide_eq_true (Int32.not_lt.mp hc)) ?_
    refine lQ.push rfl ?_
    obtain rfl := Option.some.inj hy1
    exact lQ.sub (lSb rfl lSb0) hJ1
theorem ts_783 {R : lAR} (hR : lRok R) {E : lE} {ad : List Nat} (hn : tOk ad) {v1 : Int32} {v2 : Int32} {s : TS} {A0 : lMem} {x : Int32} (h : t_783 v1 v2 s = some x) {Z : lZ} (hz : Z (.inl (some (.int x))) (tp ad s A0)) : lSQ R E 1 783 [.ref (adr ad 3), .int v1, .int v2] (tp ad s A0) Z := by
  refine lQ.sq pg_783 (Nat.le_of_ble_eq_true rfl) rfl ?_
  unfold t_783 at h
  refine lQ.push rfl ?_
  refine lQ.stI rfl (lN2s rfl rfl) ?_
  refine lQ.push rfl ?_
  refine lQ.stI rfl (lN2s rfl rfl) ?_
  obtain ⟨v28, hy1, h1⟩ := bindC h
  have hJ1 : lQ R E 0 cd_783 28 [(3, .int v28)] [] (tp ad s A0) Z := by
    refine lQ.loadI rfl rfl ?_
    rcases iteC h1 with ⟨hg, h1⟩ | ⟨_, h1⟩
    case inr => cases h1
    have hb := hg
    obtain rfl := Option.some.inj h1
    exact lQ.retI rfl (fitB hb) hz
  refine lQ.sub (lSb rfl (lSb rfl (lSb rfl (lSb rfl (lSb rfl lSb0))))) (wh_run (P := fun p4 => lQ R E 0 cd_783 4 [(0, .ref (adr ad 3)), (1, .int v1), (2, .int v2), (3, .int p4.1), (4, .int p4.2)] [] (tp ad s A0) Z) hy1 ?_)
  intro p4 r2 hb2 hI2 hX2
  refine lQ.loadI rfl rfl ?_
  refine lQ.loadN rfl rfl ?_
  refine lQ.get hR rfl (tf_3_14 hn) ?_
  refine lQ.loadI rfl rfl ?_
  obtain ⟨x1, hx, hb2⟩ := bindC hb2
  refine lQ.ald hR rfl (ta_107 hn hx) ?_
  rcases iteC hb2 with ⟨hc, hb2⟩ | ⟨hc, hb2⟩
  · refine lQ.cmpF rfl (decide_eq_false (Int32.not_le.mpr hc)) ?_
    refine lQ.loadI rfl rfl ?_
    obtain ⟨v25, hy3, h3⟩ := bindC hb2
    have hJ3 : lQ R E 0 cd_783 25 [(0, .ref (adr ad 3)), (1, .int v1), (2, .int v2), (4, .int p4.2)] [.int v25] (tp ad s A0) Z := by
      refine lQ.stI rfl (lN2s rfl rfl) ?_
      refine lQ.inc rfl rfl (lN2s rfl rfl) ?_
      refine lQ.goto rfl ?_
      obtain rfl := Option.some.inj h3
      exact lQ.sub (lSb rfl (lSb rfl (lSb rfl (lSb rfl (lSb rfl lSb0))))) (hI2 _ rfl)
    rcases iteC hy3 with ⟨hc, hy3⟩ | ⟨hc, hy3⟩
    · refine lQ.ifF rfl (decide_eq_false (fun z => z hc)) ?_
      refine lQ.loadN rfl rfl ?_
      refine lQ.get hR rfl (tf_3_15 hn) ?_
      refine lQ.push rfl ?_
      refine lQ.loadI rfl rfl ?_
      refine lQ.binI rfl ?_
      refine lQ.loadI rfl rfl ?_
      refine lQ.binI rfl ?_
      obtain ⟨x2, hx, hy3⟩ := bindC hy3
      refine lQ.ald hR rfl (ta_108 hn hx) ?_
      refine lQ.loadI rfl rfl ?_
      rcases iteC hy3 with ⟨hc, hy3⟩ | ⟨hc, hy3⟩
      · refine lQ.cmpF rfl (decide_eq_false (fun z => z hc)) ?_
        refine lQ.push rfl ?_
        refine lQ.goto rfl ?_
        obtain rfl := Option.some.inj hy3
        exact lQ.sub (lSb rfl (lSb rfl (lSb rfl (lSb rfl lSb0)))) hJ3
      · refine lQ.cmpT rfl (decide_eq_true hc) ?_
        refine lQ.push rfl ?_
        obtain rfl := Option.some.inj hy3
        exact lQ.sub (lSb rfl (lSb rfl (lSb rfl (lSb rfl lSb0)))) hJ3
    · refine lQ.ifT rfl (decide_eq_true hc) ?_
      refine lQ.push rfl ?_
      refine lQ.goto rfl ?_
      obtain rfl := Option.some.inj hy3
      exact lQ.sub (lSb rfl (lSb rfl (lSb rfl (lSb rfl lSb0)))) hJ3
  · refine lQ.cmpT rfl (decide_eq_true (Int32.not_lt.mp hc)) ?_
    obtain rfl := Option.some.inj hb2
    obtain rfl := hX2 _ rfl
    exact lQ.sub (lSb rfl lSb0) hJ1
theorem ts_784 {R : lAR} (hR : lRok R) {E : lE} {ad : List Nat} (hn : tOk ad) {v1 : Int32} {s : TS} {A0 : lMem} {x : Int32} (h : t_784 v1 s = some x) {Z : lZ} (hz : Z (.inl (some (.int x))) (tp ad s A0)) : lSQ R E 1 784 [.ref (adr ad 3), .int v1] (tp ad s A0) Z := by
  refine lQ.sq pg_784 (Nat.le_of_ble_eq_true rfl) rfl ?_
  unfold t_784 at h
  refine lQ.loadN rfl rfl ?_
  refine lQ.get hR rfl (tf_3_10 hn) ?_
  refine lQ.loadN rfl rfl ?_
  refine lQ.get hR rfl (tf_3_7 hn) ?_
  rcases iteC h with ⟨hc, h⟩ | ⟨hc, h⟩
  · refine lQ.cmpF rfl (decide_eq_false (Int32.not_le.mpr hc)) ?_
    refine lQ.loadN rfl rfl ?_
    refine lQ.get hR rfl (tf_3_9 hn) ?_
    refine lQ.loadN rfl rfl ?_
    refine lQ.get hR rfl (tf_3_10 hn) ?_
    obtain ⟨x1, hx, h⟩ := bindC h
    refine lQ.ald hR rfl (ta_104 hn hx) ?_
    refine lQ.loadN rfl rfl ?_
    refine lQ.get hR rfl (tf_3_8 hn) ?_
    refine lQ.loadN rfl rfl ?_
    refine lQ.get hR rfl (tf_3_10 hn) ?_
    obtain ⟨x2, hx, h⟩ := bindC h
    refine lQ.ald hR rfl (ta_103 hn hx) ?_
    refine lQ.binI rfl ?_
    refine lQ.push rfl ?_
    rcases iteC h with ⟨hc, h⟩ | ⟨hc, h⟩
    · refine lQ.cmpF rfl (decide_eq_false (fun z => z hc)) ?_
      refine lQ.loadN rfl rfl ?_
      refine lQ.get hR rfl (tf_3_5 hn) ?_
      refine lQ.loadN rfl rfl ?_
      refine lQ.get hR rfl (tf_3_8 hn) ?_
      refine lQ.loadN rfl rfl ?_
      refine lQ.get hR rfl (tf_3_10 hn) ?_
      obtain ⟨x3, hx, h⟩ := bindC h
      refine lQ.ald hR rfl (ta_103 hn hx) ?_
      obtain ⟨x4, hx, h⟩ := bindC h
      refine lQ.ald hR rfl (ta_102 hn hx) ?_
      refine lQ.loadI rfl rfl ?_
      rcases iteC h with ⟨hc, h⟩ | ⟨hc, h⟩
      · refine lQ.cmpF rfl (decide_eq_false (fun z => z hc)) ?_
        refine lQ.push rfl ?_
        refine lQ.goto rfl ?_
        obtain rfl := Option.some.inj h
        exact lQ.retI rfl rfl hz
      · refine lQ.cmpT rfl (decide_eq_true hc) ?_
        refine lQ.push rfl ?_
        obtain rfl := Option.some.inj h
        exact lQ.retI rfl rfl hz
    · refine lQ.cmpT rfl (decide_eq_true hc) ?_
      refine lQ.push rfl ?_
      obtain rfl := Option.some.inj h
      exact lQ.retI rfl rfl hz
  · refine lQ.cmpT rfl (decide_eq_true (Int32.not_lt.mp hc)) ?_
    refine lQ.push rfl ?_
    obtain rfl := Option.some.inj h
    exact lQ.retI rfl rfl hz
theorem ts_778 {R : lAR} (hR : lRok R) {E : lE} {ad : List Nat} (hn : tOk ad) {s : TS} {A0 : lMem} {x : TS} (h : t_778 s = some x) {Z : lZ} (hz : Z (.inl none) (tp ad x A0)) : lSQ R E 4 778 [.ref (adr ad 3)] (tp ad s A0) Z := by
  refine lQ.sq pg_778 (Nat.le_of_ble_eq_true rfl) rfl ?_
  unfold t_778 at h
  refine lQ.loadN rfl rfl ?_
  refine lQ.push rfl ?_
  refine lQ.push rfl ?_
  obtain ⟨x1, hx, h⟩ := bindC h
  refine lQ.callVI (F := (fun y A => x1.1 = y ∧ A = tp ad x1.2 A0)) (G := fun _ _ => False) (args := [.ref (adr ad 3), .int 0, .int 19]) (r := []) hR rfl rfl rfl (Nat.le_of_ble_eq_true rfl) (Nat.le_of_ble_eq_true rfl) rfl (tk_3 hn rfl) (ts_779 hR hn hx (cI_mk ⟨rfl, rfl⟩)) ?_ (fun _ _ _ z => z.elim)
  rintro _ _ ⟨rfl, rfl⟩
  refine lQ.push rfl ?_
  refine lQ.binI rfl ?_
  refine lQ.stI rfl (lN2s rfl rfl) ?_
  refine lQ.loadN rfl rfl ?_
  refine lQ.get hR rfl (tf_3_11 hn) ?_
  rcases iteC h with ⟨hc, h⟩ | ⟨hc, h⟩
  · refine lQ.ifF rfl (decide_eq_false (Int32.not_le.mpr hc)) ?_
    refine lQ.loadN rfl rfl ?_
    refine lQ.loadN rfl rfl ?_
    refine lQ.get hR rfl (tf_3_12 hn) ?_
    refine lQ.loadI rfl rfl ?_
    obtain ⟨x2, hx, h⟩ := bindC h
    refine lQ.ald hR rfl (ta_105 hn hx) ?_
    obtain ⟨v19, hy1, h1⟩ := bindC h
    have hJ1 : lQ R E 3 cd_778 19 [(0, .ref (adr ad 3)), (1, .int (x1.1 + 20))] [.int v19, .ref (adr ad 3)] (tp ad x1.2 A0) Z := by
      obtain ⟨x3, hx, h1⟩ := bindC h1
      refine lQ.callVI (F := (fun y A => x3.1 = y ∧ A = tp ad x3.2 A0)) (G := fun _ _ => False) (args := [.ref (adr ad 3), .int v19]) (r := []) hR rfl rfl rfl (Nat.le_of_ble_eq_true rfl) (Nat.le_of_ble_eq_true rfl) rfl (tk_3 hn rfl) (ts_780 hR hn hx (cI_mk ⟨rfl, rfl⟩)) ?_ (fun _ _ _ z => z.elim)
      rintro _ _ ⟨rfl, rfl⟩
      rcases iteC h1 with ⟨hc, h1⟩ | ⟨hc, h1⟩
      · refine lQ.ifF rfl (decide_eq_false (fun z => z hc)) ?_
        obtain rfl := Option.some.inj h1
        exact lQ.retV rfl hz
      · refine lQ.ifT rfl (decide_eq_true hc) ?_
        refine lQ.loadN rfl rfl ?_
        refine lQ.dupN rfl ?_
        refine lQ.get hR rfl (tf_3_10 hn) ?_
        refine lQ.push rfl ?_
        refine lQ.binI rfl ?_
        obtain ⟨s4, hx, h1⟩ := bindC h1
        refine lQ.put hR rfl rfl (tq_3_10 hn hx) ?_
        rintro _ rfl
        refine lQ.loadN rfl rfl ?_
        refine lQ.push rfl ?_
        obtain ⟨x5, hx, h1⟩ := bindC h1
        refine lQ.callVV (F := (fun A => A = tp ad x5 A0)) (G := fun _ _ => False) (args := [.ref (adr ad 3), .int 20059310]) (r := []) hR rfl rfl rfl (Nat.le_of_ble_eq_true rfl) (Nat.le_of_ble_eq_true rfl) rfl (tk_3 hn rfl) (ts_781 hR hn hx (cV_mk rfl)) ?_ (fun _ _ _ z => z.elim)
        rintro _ rfl
        refine lQ.loadN rfl rfl ?_
        refine lQ.get hR rfl (tf_3_10 hn) ?_
        refine lQ.stI rfl (lN2s rfl rfl) ?_
        refine lQ.loadN rfl rfl ?_
        refine lQ.push rfl ?_
        refine lQ.push rfl ?_
        obtain ⟨x6, hx, h1⟩ := bindC h1
        refine lQ.callVI (F := (fun y A => x6.1 = y ∧ A = tp ad x6.2 A0)) (G := fun _ _ => False) (args := [.ref (adr ad 3), .int 1, .int 12]) (r := []) hR rfl rfl rfl (Nat.le_of_ble_eq_true rfl) (Nat.le_of_ble_eq_true rfl) rfl (tk_3 hn rfl) (ts_782 hR hn hx (cI_mk ⟨rfl, rfl⟩)) ?_ (fun _ _ _ z => z.elim)
        rintro _ _ ⟨rfl, rfl⟩
        refine lQ.stI rfl (lN2s rfl rfl) ?_
        refine lQ.loadN rfl rfl ?_
        refine lQ.push rfl ?_
        obtain ⟨x7, hx, h1⟩ := bindC h1
        refine lQ.callVV (F := (fun A => A = tp ad x7 A0)) (G := fun _ _ => False) (args := [.ref (adr ad 3), .int 207]) (r := []) hR rfl rfl rfl (Nat.le_of_ble_eq_true rfl) (Nat.le_of_ble_eq_true rfl) rfl (tk_3 hn rfl) (ts_781 hR hn hx (cV_mk rfl)) ?_ (fun _ _ _ z => z.elim)
        rintro _ rfl
        refine lQ.loadN rfl rfl ?_
        refine lQ.get hR rfl (tf_3_14 hn) ?_
        refine lQ.loadI rfl rfl ?_
        refine lQ.push rfl ?_
        obtain ⟨s8, hx, h1⟩ := bindC h1
        refine lQ.ast hR rfl (tw_107 hn hx) ?_
        rintro _ rfl
        refine lQ.push rfl ?_
        refine lQ.stI rfl (lN2s rfl rfl) ?_
        obtain ⟨v117, hy2, h2⟩ := bindC h1
        have hJ2 : lQ R E 3 cd_778 117 [(0, .ref (adr ad 3)), (1, .int (x1.1 + 20)), (2, .int (x5.1 310)), (3, .int x6.1)] [] (tp ad v117 A0) Z := by
          refine lQ.loadN rfl rfl ?_
          refine lQ.get hR rfl (tf_3_11 hn) ?_
          rcases iteC h2 with ⟨hc, h2⟩ | ⟨hc, h2⟩
          · refine lQ.ifF rfl (decide_eq_false (Int32.not_le.mpr hc)) ?_
            refine lQ.loadN rfl rfl ?_
            refine lQ.dupN rfl ?_
            refine lQ.get hR rfl (tf_3_10 hn) ?_
            refine lQ.push rfl ?_
            refine lQ.binI rfl ?_
            obtain ⟨s19, hx, h2⟩ := bindC h2
            refine lQ.put hR rfl rfl (tq_3_10 hn hx) ?_
            rintro _ rfl
            refine lQ.loadN rfl rfl ?_
            refine lQ.loadI rfl rfl ?_
            refine lQ.loadN rfl rfl ?_
            refine lQ.get hR rfl (tf_3_14 hn) ?_
            refine lQ.loadI rfl rfl ?_
            obtain ⟨x20, hx, h2⟩ := bindC h2
            refine lQ.ald hR rfl (ta_107 hn hx) ?_
            obtain ⟨v136, hy3, h3⟩ := bindC h2
            have hJ3 : lQ R E 3 cd_778 136 [(0, .ref (adr ad 3)), (1, .int (x1.1 + 20)), (3, .int x6.1)] [.int v136, .ref (adr ad 3)] (tp ad s19 A0) Z := by
              obtain ⟨s21, hx, h3⟩ := bindC h3
              refine lQ.put hR rfl rfl (tq_3_11 hn hx) ?_
              rintro _ rfl
              refine lQ.loadN rfl rfl ?_
              refine lQ.get hR rfl (tf_3_13 hn) ?_
              refine lQ.loadI rfl rfl ?_
              refine lQ.loadI rfl rfl ?_
              obtain ⟨s22, hx, h3⟩ := bindC h3
              refine lQ.ast hR rfl (tw_106 hn hx) ?_
              rintro _ rfl
              refine lQ.loadN rfl rfl ?_
              refine lQ.get hR rfl (tf_3_12 hn) ?_
              refine lQ.loadI rfl rfl ?_
              refine lQ.push rfl ?_
              obtain ⟨s23, hx, h3⟩ := bindC h3
              refine lQ.bst hR rfl (tw_105 hn hx) ?_
              rintro _ rfl
              obtain rfl := Option.some.inj h3
              exact lQ.retV rfl hz
            rcases iteC hy3 with ⟨hc, hy3⟩ | ⟨hc, hy3⟩
            · refine lQ.cmpF rfl (decide_eq_false (Int32.not_le.mpr hc)) ?_
              refine lQ.loadI rfl rfl ?_
              refine lQ.goto rfl ?_
              obtain rfl := Option.some.inj hy3
              exact lQ.sub (lSb rfl (lSb rfl (lSb rfl lSb0))) hJ3
            · refine lQ.cmpT rfl (decide_eq_true (Int32.not_lt.mp hc)) ?_
              refine lQ.push rfl ?_
              obtain rfl := Option.some.inj hy3
              exact lQ.sub (lSb rfl (lSb rfl (lSb rfl lSb0))) hJ3
          · refine lQ.ifT rfl (decide_eq_true (Int32.not_lt.mp hc)) ?_
            obtain rfl := Option.some.inj h2
            exact lQ.retV rfl hz
        refine lQ.sub (lSb rfl (lSb rfl (lSb rfl (lSb rfl (lSb rfl lSb0))))) (wh_run (P := fun p49 => lQ R E 3 cd_778 49 [(0, .ref (adr ad 3)), (1, .int (x1.1 + 20)), (2, .int (x5.1 310)), (3, .int x6.1), (4, .int p49.2)] [] (tp ad p49.1 A0) Z) hy2 ?_)
        intro p49 r4 hb4 hI4 hX4
        refine lQ.loadI rfl rfl ?_
        rcases iteC hb4 with ⟨hc, hb4⟩ | ⟨hc, hb4⟩
        · refine lQ.ifT rfl (decide_eq_true hc) ?_
          obtain rfl := Option.some.inj hb4
          obtain rfl := hX4 _ rfl
          exact lQ.sub (lSb rfl (lSb rfl (lSb rfl (lSb rfl lSb0)))) hJ2
        · refine lQ.ifF rfl (decide_eq_false hc) ?_
          refine lQ.loadN rfl rfl ?_
          refine lQ.get hR rfl (tf_3_11 hn) ?_
          rcases iteC hb4 with ⟨hc, hb4⟩ | ⟨hc, hb4⟩
          · refine lQ.ifF rfl (decide_eq_false (Int32.not_le.mpr hc)) ?_
            refine lQ.loadN rfl rfl ?_
            refine lQ.push rfl ?_
            refine lQ.loadN rfl rfl ?_
            refine lQ.get hR rfl (tf_3_0 hn) ?_
            refine lQ.push rfl ?_
            refine lQ.binI rfl ?_
            obtain ⟨x9, hx, hb4⟩ := bindC hb4
            refine lQ.callVI (F := (fun y A => x9.1 = y ∧ A = tp ad x9.2 A0)) (G := fun _ _ => False) (args := [.ref (adr ad 3), .int 0, .int ((p49.1.1 300) - 1)]) (r := []) hR rfl rfl rfl (Nat.le_of_ble_eq_true rfl) (Nat.le_of_ble_eq_true rfl) rfl (tk_3 hn rfl) (ts_779 hR hn hx (cI_mk ⟨rfl, rfl⟩)) ?_ (fun _ _ _ z => z.elim)
            rintro _ _ ⟨rfl, rfl⟩
            refine lQ.stI rfl (lN2s rfl rfl) ?_
            refine lQ.loadN rfl rfl ?_
            refine lQ.get hR rfl (tf_3_11 hn) ?_
            obtain ⟨v108, hy5, h5⟩ := bindC hb4
            have hJ5 : lQ R E 3 cd_778 108 [(0, .ref (adr ad 3)), (1, .int (x1.1 + 20)), (2, .int (x5.1 310)), (3, .int x6.1)] [] (tp ad v108 A0) Z := by
              refine lQ.loadN rfl rfl ?_
              refine lQ.push rfl ?_
              obtain ⟨x18, hx, h5⟩ := bindC h5
              refine lQ.callVI (F := (fun y A => x18 = y ∧ A = tp ad v108 A0)) (G := fun _ _ => False) (args := [.ref (adr ad 3), .int 59]) (r := []) hR rfl rfl rfl (Nat.le_of_ble_eq_true rfl) (Nat.le_of_ble_eq_true rfl) rfl (tk_3 hn rfl) (ts_784 hR hn hx (cI_mk ⟨rfl, rfl⟩)) ?_ (fun _ _ _ z => z.elim)
              rintro _ _ ⟨rfl, rfl⟩
              obtain ⟨v115, hy6, h6⟩ := bindC h5
              have hJ6 : lQ R E 3 cd_778 115 [(0, .ref (adr ad 3)), (1, .int (x1.1 + 20)), (2, .int (x5.1 310)), (3, .int x6.1)] [.int v115] (tp ad v108 A0) Z := by
                refine lQ.stI rfl (lN2s rfl rfl) ?_
                refine lQ.goto rfl ?_
                obtain rfl := Option.some.inj h6
                exact lQ.sub (lSb rfl (lSb rfl (lSb rfl (lSb rfl (lSb rfl lSb0))))) (hI4 _ rfl)
              rcases iteC hy6 with ⟨hc, hy6⟩ | ⟨hc, hy6⟩
              · refine lQ.ifF rfl (decide_eq_false (fun z => z hc)) ?_
                refine lQ.push rfl ?_
                refine lQ.goto rfl ?_
                obtain rfl := Option.some.inj hy6
                exact lQ.sub (lSb rfl (lSb rfl (lSb rfl (lSb rfl lSb0)))) hJ6
              · refine lQ.ifT rfl (decide_eq_true hc) ?_
                refine lQ.push rfl ?_
                obtain rfl := Option.some.inj hy6
                exact lQ.sub (lSb rfl (lSb rfl (lSb rfl (lSb rfl lSb0)))) hJ6
            rcases iteC hy5 with ⟨hc, hy5⟩ | ⟨hc, hy5⟩
            · refine lQ.ifF rfl (decide_eq_false (Int32.not_le.mpr hc)) ?_
              refine lQ.loadN rfl rfl ?_
              refine lQ.loadN rfl rfl ?_
              refine lQ.get hR rfl (tf_3_14 hn) ?_
              refine lQ.loadI rfl rfl ?_
              obtain ⟨x10, hx, hy5⟩ := bindC hy5
              refine lQ.ald hR rfl (ta_107 hn hx) ?_
              refine lQ.push rfl ?_
              obtain ⟨v80, hy7, h7⟩ := bindC hy5
              have hJ7 : lQ R E 3 cd_778 80 [(0, .ref (adr ad 3)), (1, .int (x1.1 + 20)), (2, .int (x5.1 310)), (3, .int x6.1), (5, .int x9.1)] [.int v80, .ref (adr ad 3)] (tp ad x9.2 A0) Z := by
                obtain ⟨x12, hx, h7⟩ := bindC h7
                refine lQ.callVI (F := (fun y A => x12.1 = y ∧ A = tp ad x12.2 A0)) (G := fun _ _ => False) (args := [.ref (adr ad 3), .int v80]) (r := []) hR rfl rfl rfl (Nat.le_of_ble_eq_true rfl) (Nat.le_of_ble_eq_true rfl) rfl (tk_3 hn rfl) (ts_780 hR hn hx (cI_mk ⟨rfl, rfl⟩)) ?_ (fun _ _ _ z => z.elim)
                rintro _ _ ⟨rfl, rfl⟩
                rcases iteC h7 with ⟨hc, h7⟩ | ⟨hc, h7⟩
                · refine lQ.ifT rfl (decide_eq_true hc) ?_
                  obtain rfl := Option.some.inj h7
                  exact lQ.sub (lSb rfl (lSb rfl (lSb rfl (lSb rfl lSb0)))) hJ5
                · refine lQ.ifF rfl (decide_eq_false hc) ?_
                  refine lQ.loadN rfl rfl ?_
                  refine lQ.get hR rfl (tf_3_15 hn) ?_
                  refine lQ.push rfl ?_
                  refine lQ.loadI rfl rfl ?_
                  refine lQ.binI rfl ?_
                  refine lQ.loadN rfl rfl ?_
                  refine lQ.get hR rfl (tf_3_14 hn) ?_
                  refine lQ.loadI rfl rfl ?_
                  obtain ⟨x13, hx, h7⟩ := bindC h7
                  refine lQ.ald hR rfl (ta_107 hn hx) ?_
                  refine lQ.binI rfl ?_
                  refine lQ.loadI rfl rfl ?_
                  obtain ⟨s14, hx, h7⟩ := bindC h7
                  refine lQ.ast hR rfl (tw_108 hn hx) ?_
                  rintro _ rfl
                  refine lQ.loadN rfl rfl ?_
                  refine lQ.get hR rfl (tf_3_14 hn) ?_
                  refine lQ.loadI rfl rfl ?_
                  refine lQ.dup2 rfl rfl rfl ?_
                  obtain ⟨x15, hx, h7⟩ := bindC h7
                  refine lQ.ald hR rfl (ta_107 hn hx) ?_
                  refine lQ.push rfl ?_
                  refine lQ.binI rfl ?_
                  obtain ⟨s16, hx, h7⟩ := bindC h7
                  refine lQ.ast hR rfl (tw_107 hn hx) ?_
                  rintro _ rfl
                  refine lQ.loadN rfl rfl ?_
                  refine lQ.dupN rfl ?_
                  refine lQ.get hR rfl (tf_3_10 hn) ?_
                  refine lQ.push rfl ?_
                  refine lQ.binI rfl ?_
                  obtain ⟨s17, hx, h7⟩ := bindC h7
                  refine lQ.put hR rfl rfl (tq_3_10 hn hx) ?_
                  rintro _ rfl
                  obtain rfl := Option.some.inj h7
                  exact lQ.sub (lSb rfl (lSb rfl (lSb rfl (lSb rfl lSb0)))) hJ5
              rcases iteC hy7 with ⟨hc, hy7⟩ | ⟨hc, hy7⟩
              · refine lQ.cmpF rfl (decide_eq_false (Int32.not_le.mpr hc)) ?_
                refine lQ.loadN rfl rfl ?_
                refine lQ.loadI rfl rfl ?_
                refine lQ.loadI rfl rfl ?_
                obtain ⟨x11, hx, hy7⟩ := bindC hy7
                refine lQ.callVI (F := (fun y A => x11 = y ∧ A = tp ad x9.2 A0)) (G := fun _ _ => False) (args := [.ref (adr ad 3), .int (x1.1 + 20), .int x9.1]) (r := [.ref (adr ad 3)]) hR rfl rfl rfl (Nat.le_of_ble_eq_true rfl) (Nat.le_of_ble_eq_true rfl) rfl (tk_3 hn rfl) (ts_783 hR hn hx (cI_mk ⟨rfl, rfl⟩)) ?_ (fun _ _ _ z => z.elim)
                rintro _ _ ⟨rfl, rfl⟩
                rcases iteC hy7 with ⟨hc, hy7⟩ | ⟨hc, hy7⟩
                · refine lQ.ifF rfl (decide_eq_false (fun z => z hc)) ?_
                  refine lQ.push rfl ?_
                  refine lQ.goto rfl ?_
                  obtain rfl := Option.some.inj hy7
                  exact lQ.sub (lSb rfl (lSb rfl (lSb rfl (lSb rfl (lSb rfl lSb0))))) hJ7
                · refine lQ.ifT rfl (decide_eq_true hc) ?_
                  refine lQ.push rfl ?_
                  obtain rfl := Option.some.inj hy7
                  exact lQ.sub (lSb rfl (lSb rfl (lSb rfl (lSb rfl (lSb rfl lSb0))))) hJ7
              · refine lQ.cmpT rfl (decide_eq_true (Int32.not_lt.mp hc)) ?_
                refine lQ.push rfl ?_
                obtain rfl := Option.some.inj hy7
                exact lQ.sub (lSb rfl (lSb rfl (lSb rfl (lSb rfl (lSb rfl lSb0))))) hJ7
            · refine lQ.ifT rfl (decide_eq_true (Int32.not_lt.mp hc)) ?_
              obtain rfl := Option.some.inj hy5
              exact lQ.sub (lSb rfl (lSb rfl (lSb rfl (lSb rfl lSb0)))) hJ5
          · refine lQ.ifT rfl (decide_eq_true (Int32.not_lt.mp hc)) ?_
            obtain rfl := Option.some.inj hb4
            obtain rfl := hX4 _ rfl
            exact lQ.sub (lSb rfl (lSb rfl (lSb rfl (lSb rfl lSb0)))) hJ2
    rcases iteC hy1 with ⟨hc, hy1⟩ | ⟨hc, hy1⟩
    · refine lQ.ifF rfl (decide_eq_false (fun z => z hc)) ?_
      refine lQ.push rfl ?_
      refine lQ.goto rfl ?_
      obtain rfl := Option.some.inj hy1
      exact lQ.sub (lSb rfl (lSb rfl lSb0)) hJ1
    · refine lQ.ifT rfl (decide_eq_true hc) ?_
      refine lQ.push rfl ?_
      obtain rfl := Option.some.inj hy1
      exact lQ.sub (lSb rfl (lSb rfl lSb0)) hJ1
  · refine lQ.ifT rfl (decide_eq_true (Int32.not_lt.mp hc)) ?_
    obtain rfl := Option.some.inj h
    exact lQ.retV rfl hz
theorem ts_786 {R : lAR} (hR : lRok R) {E : lE} {ad : List Nat} (hn : tOk ad) {s : TS} {A0 : lMem} {x : TS} (h : t_786 s = some x) {Z : lZ} (hz : Z (.inl none) (tp ad x A0)) : lSQ R E 2 786 [.ref (adr ad 3)] (tp ad s A0) Z := by
  refine lQ.sq pg_786 (Nat.le_of_ble_eq_true rfl) rfl ?_
  unfold t_786 at h
  refine lQ.loadN rfl rfl ?_
  refine lQ.loadN rfl rfl ?_
  refine lQ.push rfl ?_
  obtain ⟨x1, hx, h⟩ := bindC h
  refine lQ.callVI (F := (fun y A => x1 = y ∧ A = tp ad s A0)) (G := fun _ _ => False) (args := [.ref (adr ad 3), .int 59]) (r := [.ref (adr ad 3)]) hR rfl rfl rfl (Nat.le_of_ble_eq_true rfl) (Nat.le_of_ble_eq_true rfl) rfl (tk_3 hn rfl) (ts_784 hR hn hx (cI_mk ⟨rfl, rfl⟩)) ?_ (fun _ _ _ z => z.elim)
  rintro _ _ ⟨rfl, rfl⟩
  obtain ⟨x2, hx, h⟩ := bindC h
  refine lQ.callVI (F := (fun y A => x2.1 = y ∧ A = tp ad x2.2 A0)) (G := fun _ _ => False) (args := [.ref (adr ad 3), .int x1]) (r := []) hR rfl rfl rfl (Nat.le_of_ble_eq_true rfl) (Nat.le_of_ble_eq_true rfl) rfl (tk_3 hn rfl) (ts_780 hR hn hx (cI_mk ⟨rfl, rfl⟩)) ?_ (fun _ _ _ z => z.elim)
  rintro _ _ ⟨rfl, rfl⟩
  rcases iteC h with ⟨hc, h⟩ | ⟨hc, h⟩
  · refine lQ.ifT rfl (decide_eq_true hc) ?_
    obtain rfl := Option.some.inj h
    exact lQ.retV rfl hz
  · refine lQ.ifF rfl (decide_eq_false hc) ?_
    refine lQ.loadN rfl rfl ?_
    refine lQ.dupN rfl ?_
    refine lQ.get hR rfl (tf_3_10 hn) ?_
    refine lQ.push rfl ?_
    refine lQ.binI rfl ?_
    obtain ⟨s3, hx, h⟩ := bindC h
    refine lQ.put hR rfl rfl (tq_3_10 hn hx) ?_
    rintro _ rfl
    obtain rfl := Option.some.inj h
    exact lQ.retV rfl hz
theorem ts_785 {R : lAR} (hR : lRok R) {E : lE} {ad : List Nat} (hn : tOk ad) {s : TS} {A0 : lMem} {x : TS} (h : t_785 s = some x) {Z : lZ} (hz : Z (.inl none) (tp ad x A0)) : lSQ R E 4 785 [.ref (adr ad 3)] (tp ad s A0) Z := by
  refine lQ.sq pg_785 (Nat.le_of_ble_eq_true rfl) rfl ?_
  unfold t_785 at h
  refine lQ.loadN rfl rfl ?_
  refine lQ.push rfl ?_
  refine lQ.push rfl ?_
  obtain ⟨x1, hx, h⟩ := bindC h
  refine lQ.callVI (F := (fun y A => x1.1 = y ∧ A = tp ad x1.2 A0)) (G := fun _ _ => False) (args := [.ref (adr ad 3), .int 0, .int 19]) (r := []) hR rfl rfl rfl (Nat.le_of_ble_eq_true rfl) (Nat.le_of_ble_eq_true rfl) rfl (tk_3 hn rfl) (ts_779 hR hn hx (cI_mk ⟨rfl, rfl⟩)) ?_ (fun _ _ _ z => z.elim)
  rintro _ _ ⟨rfl, rfl⟩
  refine lQ.push rfl ?_
  refine lQ.binI rfl ?_
  refine lQ.stI rfl (lN2s rfl rfl) ?_
  refine lQ.loadN rfl rfl ?_
  refine lQ.get hR rfl (tf_3_11 hn) ?_
  rcases iteC h with ⟨hc, h⟩ | ⟨hc, h⟩
  · refine lQ.ifF rfl (decide_eq_false (Int32.not_le.mpr hc)) ?_
    refine lQ.loadN rfl rfl ?_
    refine lQ.loadN rfl rfl ?_
    refine lQ.get hR rfl (tf_3_16 hn) ?_
    refine lQ.loadI rfl rfl ?_
    obtain ⟨x2, hx, h⟩ := bindC h
    refine lQ.ald hR rfl (ta_109 hn hx) ?_
    obtain ⟨v19, hy1, h1⟩ := bindC h
    have hJ1 : lQ R E 3 cd_785 19 [(0, .ref (adr ad 3)), (1, .int (x1.1 + 20))] [.int v19, .ref (adr ad 3)] (tp ad x1.2 A0) Z := by
      obtain ⟨x3, hx, h1⟩ := bindC h1
      refine lQ.callVI (F := (fun y A => x3.1 = y ∧ A = tp ad x3.2 A0)) (G := fun _ _ => False) (args := [.ref (adr ad 3), .int v19]) (r := []) hR rfl rfl rfl (Nat.le_of_ble_eq_true rfl) (Nat.le_of_ble_eq_true rfl) rfl (tk_3 hn rfl) (ts_780 hR hn hx (cI_mk ⟨rfl, rfl⟩)) ?_ (fun _ _ _ z => z.elim)
      rintro _ _ ⟨rfl, rfl⟩
      rcases iteC h1 with ⟨hc, h1⟩ | ⟨hc, h1⟩
      · refine lQ.ifF rfl (decide_eq_false (fun z => z hc)) ?_
        obtain rfl := Option.some.inj h1
        exact lQ.retV rfl hz
      · refine lQ.ifT rfl (decide_eq_true hc) ?_
        refine lQ.loadN rfl rfl ?_
        refine lQ.dupN rfl ?_
        refine lQ.get hR rfl (tf_3_10 hn) ?_
        refine lQ.push rfl ?_
        refine lQ.binI rfl ?_
        obtain ⟨s4, hx, h1⟩ := bindC h1
        refine lQ.put hR rfl rfl (tq_3_10 hn hx) ?_
        rintro _ rfl
        refine lQ.loadN rfl rfl ?_
        refine lQ.push rfl ?_
        obtain ⟨x5, hx, h1⟩ := bindC h1
        refine lQ.callVV (F := (fun A => A = tp ad x5 A0)) (G := fun _ _ => False) (args := [.ref (adr ad 3), .int 145707]) (r := []) hR rfl rfl rfl (Nat.le_of_ble_eq_true rfl) (Nat.le_of_ble_eq_true rfl) rfl (tk_3 hn rfl) (ts_781 hR hn hx (cV_mk rfl)) ?_ (fun _ _ _ z => z.elim)
        rintro _ rfl
        refine lQ.loadN rfl rfl ?_
        refine lQ.get hR rfl (tf_3_17 hn) ?_
        refine lQ.loadI rfl rfl ?_
        refine lQ.loadN rfl rfl ?_
        refine lQ.push rfl ?_
        refine lQ.push rfl ?_
        obtain ⟨x6, hx, h1⟩ := bindC h1
        refine lQ.callVI (F := (fun y A => x6.1 = y ∧ A = tp ad x6.2 A0)) (G := fun _ _ => False) (args := [.ref (adr ad 3), .int 0, .int 5]) (r := [.int (x1.1 + 20), .ref (adr ad 110)]) hR rfl rfl rfl (Nat.le_of_ble_eq_true rfl) (Nat.le_of_ble_eq_true rfl) rfl (tk_3 hn rfl) (ts_782 hR hn hx (cI_mk ⟨rfl, rfl⟩)) ?_ (fun _ _ _ z => z.elim)
        rintro _ _ ⟨rfl, rfl⟩
        obtain ⟨s7, hx, h1⟩ := bindC h1
        refine lQ.ast hR rfl (tw_110 hn hx) ?_
        rintro _ rfl
        refine lQ.loadN rfl rfl ?_
        refine lQ.push rfl ?_
        obtain ⟨x8, hx, h1⟩ := bindC h1
        refine lQ.callVV (F := (fun A => A = tp ad x8 A0)) (G := fun _ _ => False) (args := [.ref (adr ad 3), .int 374834]) (r := []) hR rfl rfl rfl (Nat.le_of_ble_eq_true rfl) (Nat.le_of_ble_eq_true rfl) rfl (tk_3 hn rfl) (ts_781 hR hn hx (cV_mk rfl)) ?_ (fun _ _ _ z => z.elim)
        rintro _ rfl
        refine lQ.loadN rfl rfl ?_
        refine lQ.get hR rfl (tf_3_18 hn) ?_
        refine lQ.loadI rfl rfl ?_
        refine lQ.loadN rfl rfl ?_
        refine lQ.push rfl ?_
        refine lQ.push rfl ?_
        obtain ⟨x9, hx, h1⟩ := bindC h1
        refine lQ.callVI (F := (fun y A => x9.1 = y ∧ A = tp ad x9.2 A0)) (G := fun _ _ => False) (args := [.ref (adr ad 3), .int 0, .int 99]) (r := [.int (x1.1 + 20), .ref (adr ad 111)]) hR rfl rfl rfl (Nat.le_of_ble_eq_true rfl) (Nat.le_of_ble_eq_true rfl) rfl (tk_3 hn rfl) (ts_782 hR hn hx (cI_mk ⟨rfl, rfl⟩)) ?_ (fun _ _ _ z => z.elim)
        rintro _ _ ⟨rfl, rfl⟩
        obtain ⟨s10, hx, h1⟩ := bindC h1
        refine lQ.ast hR rfl (tw_111 hn hx) ?_
        rintro _ rfl
        refine lQ.loadN rfl rfl ?_
        refine lQ.push rfl ?_
        obtain ⟨x11, hx, h1⟩ := bindC h1
        refine lQ.callVV (F := (fun A => A = tp ad x11 A0)) (G := fun _ _ => False) (args := [.ref (adr ad 3), .int 26259620]) (r := []) hR rfl rfl rfl (Nat.le_of_ble_eq_true rfl) (Nat.le_of_ble_eq_true rfl) rfl (tk_3 hn rfl) (ts_781 hR hn hx (cV_mk rfl)) ?_ (fun _ _ _ z => z.elim)
        rintro _ rfl
        refine lQ.loadN rfl rfl ?_
        refine lQ.get hR rfl (tf_3_19 hn) ?_
        refine lQ.loadI rfl rfl ?_
        refine lQ.loadN rfl rfl ?_
        refine lQ.push rfl ?_
        refine lQ.push rfl ?_
        obtain ⟨x12, hx, h1⟩ := bindC h1
        refine lQ.callVI (F := (fun y A => x12.1 = y ∧ A = tp ad x12.2 A0)) (G := fun _ _ => False) (args := [.ref (adr ad 3), .int 0, .int 600]) (r := [.int (x1.1 + 20), .ref (adr ad 112)]) hR rfl rfl rfl (Nat.le_of_ble_eq_true rfl) (Nat.le_of_ble_eq_true rfl) rfl (tk_3 hn rfl) (ts_782 hR hn hx (cI_mk ⟨rfl, rfl⟩)) ?_ (fun _ _ _ z => z.elim)
        rintro _ _ ⟨rfl, rfl⟩
        obtain ⟨s13, hx, h1⟩ := bindC h1
        refine lQ.ast hR rfl (tw_112 hn hx) ?_
        rintro _ rfl
        refine lQ.loadN rfl rfl ?_
        obtain ⟨x14, hx, h1⟩ := bindC h1
        refine lQ.callVV (F := (fun A => A = tp ad x14 A0)) (G := fun _ _ => False) (args := [.ref (adr ad 3)]) (r := []) hR rfl rfl rfl (Nat.le_of_ble_eq_true rfl) (Nat.le_of_ble_eq_true rfl) rfl (tk_3 hn rfl) (ts_786 hR hn hx (cV_mk rfl)) ?_ (fun _ _ _ z => z.elim)
        rintro _ rfl
        refine lQ.loadN rfl rfl ?_
        refine lQ.get hR rfl (tf_3_16 hn) ?_
        refine lQ.loadI rfl rfl ?_
        refine lQ.push rfl ?_
        obtain ⟨s15, hx, h1⟩ := bindC h1
        refine lQ.bst hR rfl (tw_109 hn hx) ?_
        rintro _ rfl
        refine lQ.loadN rfl rfl ?_
        refine lQ.get hR rfl (tf_3_20 hn) ?_
        refine lQ.loadI rfl rfl ?_
        refine lQ.push rfl ?_
        obtain ⟨s16, hx, h1⟩ := bindC h1
        refine lQ.bst hR rfl (tw_113 hn hx) ?_
        rintro _ rfl
        obtain rfl := Option.some.inj h1
        exact lQ.retV rfl hz
    rcases iteC hy1 with ⟨hc, hy1⟩ | ⟨hc, hy1⟩
    · refine lQ.ifF rfl (decide_eq_false (fun z => z hc)) ?_
      refine lQ.push rfl ?_
      refine lQ.goto rfl ?_
      obtain rfl := Option.some.inj hy1
      exact lQ.sub (lSb rfl (lSb rfl lSb0)) hJ1
    · refine lQ.ifT rfl (decide_eq_true hc) ?_
      refine lQ.push rfl ?_
      obtain rfl := Option.some.inj hy1
      exact lQ.sub (lSb rfl (lSb rfl lSb0)) hJ1
  · refine lQ.ifT rfl (decide_eq_true (Int32.not_lt.mp hc)) ?_
    obtain rfl := Option.some.inj h
    exact lQ.retV rfl hz
theorem ts_788 {R : lAR} (hR : lRok R) {E : lE} {ad : List Nat} (hn : tOk ad) {v1 : Int32} {s : TS} {A0 : lMem} {x : Int32 × TS} (h : t_788 v1 s = some x) {Z : lZ} (hz : Z (.inl (some (.int x.1))) (tp ad x.2 A0)) : lSQ R E 3 788 [.ref (adr ad 3), .int v1] (tp ad s A0) Z := by
  refine lQ.sq pg_788 (Nat.le_of_ble_eq_true rfl) rfl ?_
  unfold t_788 at h
  refine lQ.loadN rfl rfl ?_
  refine lQ.push rfl ?_
  refine lQ.push rfl ?_
  obtain ⟨x1, hx, h⟩ := bindC h
  refine lQ.callVI (F := (fun y A => x1.1 = y ∧ A = tp ad x1.2 A0)) (G := fun _ _ => False) (args := [.ref (adr ad 3), .int 0, .int 19]) (r := []) hR rfl rfl rfl (Nat.le_of_ble_eq_true rfl) (Nat.le_of_ble_eq_true rfl) rfl (tk_3 hn rfl) (ts_779 hR hn hx (cI_mk ⟨rfl, rfl⟩)) ?_ (fun _ _ _ z => z.elim)
  rintro _ _ ⟨rfl, rfl⟩
  refine lQ.stI rfl (lN2s rfl rfl) ?_
  refine lQ.loadN rfl rfl ?_
  refine lQ.get hR rfl (tf_3_11 hn) ?_
  rcases iteC h with ⟨hc, h⟩ | ⟨hc, h⟩
  · refine lQ.ifF rfl (decide_eq_false (Int32.not_le.mpr hc)) ?_
    refine lQ.loadN rfl rfl ?_
    refine lQ.loadN rfl rfl ?_
    refine lQ.get hR rfl (tf_3_12 hn) ?_
    refine lQ.push rfl ?_
    refine lQ.loadI rfl rfl ?_
    refine lQ.binI rfl ?_
    obtain ⟨x2, hx, h⟩ := bindC h
    refine lQ.ald hR rfl (ta_105 hn hx) ?_
    obtain ⟨v22, hy1, h1⟩ := bindC h
    have hJ1 : lQ R E 2 cd_788 22 [(0, .ref (adr ad 3)), (2, .int x1.1)] [.int v22, .ref (adr ad 3)] (tp ad x1.2 A0) Z := by
      obtain ⟨x3, hx, h1⟩ := bindC h1
      refine lQ.callVI (F := (fun y A => x3.1 = y ∧ A = tp ad x3.2 A0)) (G := fun _ _ => False) (args := [.ref (adr ad 3), .int v22]) (r := []) hR rfl rfl rfl (Nat.le_of_ble_eq_true rfl) (Nat.le_of_ble_eq_true rfl) rfl (tk_3 hn rfl) (ts_780 hR hn hx (cI_mk ⟨rfl, rfl⟩)) ?_ (fun _ _ _ z => z.elim)
      rintro _ _ ⟨rfl, rfl⟩
      rcases iteC h1 with ⟨hc, h1⟩ | ⟨hc, h1⟩
      · refine lQ.ifT rfl (decide_eq_true hc) ?_
        refine lQ.loadI rfl rfl ?_
        obtain rfl := Option.some.inj h1
        exact lQ.retI rfl rfl hz
      · refine lQ.ifF rfl (decide_eq_false hc) ?_
        refine lQ.loadN rfl rfl ?_
        refine lQ.dupN rfl ?_
        refine lQ.get hR rfl (tf_3_10 hn) ?_
        refine lQ.push rfl ?_
        refine lQ.binI rfl ?_
        obtain ⟨s4, hx, h1⟩ := bindC h1
        refine lQ.put hR rfl rfl (tq_3_10 hn hx) ?_
        rintro _ rfl
        refine lQ.loadI rfl rfl ?_
        obtain rfl := Option.some.inj h1
        exact lQ.retI rfl rfl hz
    rcases iteC hy1 with ⟨hc, hy1⟩ | ⟨hc, hy1⟩
    · refine lQ.ifT rfl (decide_eq_true hc) ?_
      refine lQ.push rfl ?_
      obtain rfl := Option.some.inj hy1
      exact lQ.sub (lSb rfl (lSb rfl lSb0)) hJ1
    · refine lQ.ifF rfl (decide_eq_false hc) ?_
      refine lQ.loadI rfl rfl ?_
      refine lQ.loadI rfl rfl ?_
      rcases iteC hy1 with ⟨hc, hy1⟩ | ⟨hc, hy1⟩
      · refine lQ.cmpT rfl (decide_eq_true hc) ?_
        refine lQ.push rfl ?_
        obtain rfl := Option.some.inj hy1
        exact lQ.sub (lSb rfl (lSb rfl lSb0)) hJ1
      · refine lQ.cmpF rfl (decide_eq_false hc) ?_
        refine lQ.push rfl ?_
        refine lQ.goto rfl ?_
        obtain rfl := Option.some.inj hy1
        exact lQ.sub (lSb rfl (lSb rfl lSb0)) hJ1
  · refine lQ.ifT rfl (decide_eq_true (Int32.not_lt.mp hc)) ?_
    refine lQ.loadI rfl rfl ?_
    obtain rfl := Option.some.inj h
    exact lQ.retI rfl rfl hz
theorem ts_787 {R : lAR} (hR : lRok R) {E : lE} {ad : List Nat} (hn : tOk ad) {s : TS} {A0 : lMem} {x : TS} (h : t_787 s = some x) {Z : lZ} (hz : Z (.inl none) (tp ad x A0)) : lSQ R E 4 787 [.ref (adr ad 3)] (tp ad s A0) Z := by
  refine lQ.sq pg_787 (Nat.le_of_ble_eq_true rfl) rfl ?_
  unfold t_787 at h
  refine lQ.loadN rfl rfl ?_
  refine lQ.push rfl ?_
  obtain ⟨x1, hx, h⟩ := bindC h
  refine lQ.callVI (F := (fun y A => x1.1 = y ∧ A = tp ad x1.2 A0)) (G := fun _ _ => False) (args := [.ref (adr ad 3), .int (-1)]) (r := []) hR rfl rfl rfl (Nat.le_of_ble_eq_true rfl) (Nat.le_of_ble_eq_true rfl) rfl (tk_3 hn rfl) (ts_788 hR hn hx (cI_mk ⟨rfl, rfl⟩)) ?_ (fun _ _ _ z => z.elim)
  rintro _ _ ⟨rfl, rfl⟩
  refine lQ.stI rfl (lN2s rfl rfl) ?_
  refine lQ.push rfl ?_
  refine lQ.stI rfl (lN2s rfl rfl) ?_
  refine lQ.loadN rfl rfl ?_
  refine lQ.get hR rfl (tf_3_11 hn) ?_
  obtain ⟨v23, hy1, h1⟩ := bindC h
  have hJ1 : lQ R E 3 cd_787 23 [(0, .ref (adr ad 3)), (1, .int x1.1), (2, .int v23.2)] [] (tp ad v23.1 A0) Z := by
    refine lQ.loadN rfl rfl ?_
    refine lQ.push rfl ?_
    obtain ⟨x5, hx, h1⟩ := bindC h1
    refine lQ.callVV (F := (fun A => A = tp ad x5 A0)) (G := fun _ _ => False) (args := [.ref (adr ad 3), .int 628196]) (r := []) hR rfl rfl rfl (Nat.le_of_ble_eq_true rfl) (Nat.le_of_ble_eq_true rfl) rfl (tk_3 hn rfl) (ts_781 hR hn hx (cV_mk rfl)) ?_ (fun _ _ _ z => z.elim)
    rintro _ rfl
    refine lQ.loadN rfl rfl ?_
    refine lQ.get hR rfl (tf_3_11 hn) ?_
    obtain ⟨v35, hy2, h2⟩ := bindC h1
    have hJ2 : lQ R E 3 cd_787 35 [(0, .ref (adr ad 3)), (1, .int x1.1), (2, .int v23.2)] [.int v35.2] (tp ad v35.1 A0) Z := by
      refine lQ.stI rfl (lN2s rfl rfl) ?_
      refine lQ.loadN rfl rfl ?_
      refine lQ.get hR rfl (tf_3_11 hn) ?_
      obtain ⟨v54, hy3, h3⟩ := bindC h2
      have hJ3 : lQ R E 3 cd_787 54 [(0, .ref (adr ad 3)), (1, .int x1.1), (2, .int v23.2), (3, .int v35.2)] [] (tp ad v54 A0) Z := by
        refine lQ.loadN rfl rfl ?_
        obtain ⟨x10, hx, h3⟩ := bindC h3
        refine lQ.callVV (F := (fun A => A = tp ad x10 A0)) (G := fun _ _ => False) (args := [.ref (adr ad 3)]) (r := []) hR rfl rfl rfl (Nat.le_of_ble_eq_true rfl) (Nat.le_of_ble_eq_true rfl) rfl (tk_3 hn rfl) (ts_786 hR hn hx (cV_mk rfl)) ?_ (fun _ _ _ z => z.elim)
        rintro _ rfl
        refine lQ.loadN rfl rfl ?_
        refine lQ.get hR rfl (tf_3_11 hn) ?_
        rcases iteC h3 with ⟨hc, h3⟩ | ⟨hc, h3⟩
        · refine lQ.ifF rfl (decide_eq_false (Int32.not_le.mpr hc)) ?_
          refine lQ.loadN rfl rfl ?_
          refine lQ.get hR rfl (tf_3_23 hn) ?_
          refine lQ.push rfl ?_
          refine lQ.loadN rfl rfl ?_
          refine lQ.get hR rfl (tf_3_22 hn) ?_
          refine lQ.binI rfl ?_
          refine lQ.loadI rfl rfl ?_
          obtain ⟨s11, hx, h3⟩ := bindC h3
          refine lQ.ast hR rfl (tw_114 hn hx) ?_
          rintro _ rfl
          refine lQ.loadN rfl rfl ?_
          refine lQ.get hR rfl (tf_3_24 hn) ?_
          refine lQ.push rfl ?_
          refine lQ.loadN rfl rfl ?_
          refine lQ.get hR rfl (tf_3_22 hn) ?_
          refine lQ.binI rfl ?_
          refine lQ.loadI rfl rfl ?_
          obtain ⟨s12, hx, h3⟩ := bindC h3
          refine lQ.ast hR rfl (tw_115 hn hx) ?_
          rintro _ rfl
          refine lQ.loadN rfl rfl ?_
          refine lQ.get hR rfl (tf_3_25 hn) ?_
          refine lQ.push rfl ?_
          refine lQ.loadN rfl rfl ?_
          refine lQ.get hR rfl (tf_3_22 hn) ?_
          refine lQ.binI rfl ?_
          refine lQ.loadI rfl rfl ?_
          obtain ⟨s13, hx, h3⟩ := bindC h3
          refine lQ.ast hR rfl (tw_116 hn hx) ?_
          rintro _ rfl
          refine lQ.loadN rfl rfl ?_
          refine lQ.dupN rfl ?_
          refine lQ.get hR rfl (tf_3_22 hn) ?_
          refine lQ.push rfl ?_
          refine lQ.binI rfl ?_
          obtain ⟨s14, hx, h3⟩ := bindC h3
          refine lQ.put hR rfl rfl (tq_3_22 hn hx) ?_
          rintro _ rfl
          obtain rfl := Option.some.inj h3
          exact lQ.retV rfl hz
        · refine lQ.ifT rfl (decide_eq_true (Int32.not_lt.mp hc)) ?_
          obtain rfl := Option.some.inj h3
          exact lQ.retV rfl hz
      rcases iteC hy3 with ⟨hc, hy3⟩ | ⟨hc, hy3⟩
      · refine lQ.ifF rfl (decide_eq_false (Int32.not_le.mpr hc)) ?_
        refine lQ.loadN rfl rfl ?_
        refine lQ.loadN rfl rfl ?_
        refine lQ.get hR rfl (tf_3_16 hn) ?_
        refine lQ.push rfl ?_
        refine lQ.loadI rfl rfl ?_
        refine lQ.binI rfl ?_
        obtain ⟨x7, hx, hy3⟩ := bindC hy3
        refine lQ.ald hR rfl (ta_109 hn hx) ?_
        obtain ⟨x8, hx, hy3⟩ := bindC hy3
        refine lQ.callVI (F := (fun y A => x8.1 = y ∧ A = tp ad x8.2 A0)) (G := fun _ _ => False) (args := [.ref (adr ad 3), .int x7]) (r := []) hR rfl rfl rfl (Nat.le_of_ble_eq_true rfl) (Nat.le_of_ble_eq_true rfl) rfl (tk_3 hn rfl) (ts_780 hR hn hx (cI_mk ⟨rfl, rfl⟩)) ?_ (fun _ _ _ z => z.elim)
        rintro _ _ ⟨rfl, rfl⟩
        rcases iteC hy3 with ⟨hc, hy3⟩ | ⟨hc, hy3⟩
        · refine lQ.ifT rfl (decide_eq_true hc) ?_
          obtain rfl := Option.some.inj hy3
          exact lQ.sub (lSb rfl (lSb rfl (lSb rfl (lSb rfl lSb0)))) hJ3
        · refine lQ.ifF rfl (decide_eq_false hc) ?_
          refine lQ.loadN rfl rfl ?_
          refine lQ.dupN rfl ?_
          refine lQ.get hR rfl (tf_3_10 hn) ?_
          refine lQ.push rfl ?_
          refine lQ.binI rfl ?_
          obtain ⟨s9, hx, hy3⟩ := bindC hy3
          refine lQ.put hR rfl rfl (tq_3_10 hn hx) ?_
          rintro _ rfl
          obtain rfl := Option.some.inj hy3
          exact lQ.sub (lSb rfl (lSb rfl (lSb rfl (lSb rfl lSb0)))) hJ3
      · refine lQ.ifT rfl (decide_eq_true (Int32.not_lt.mp hc)) ?_
        obtain rfl := Option.some.inj hy3
        exact lQ.sub (lSb rfl (lSb rfl (lSb rfl (lSb rfl lSb0)))) hJ3
    rcases iteC hy2 with ⟨hc, hy2⟩ | ⟨hc, hy2⟩
    · refine lQ.ifF rfl (decide_eq_false (Int32.not_le.mpr hc)) ?_
      refine lQ.loadN rfl rfl ?_
      refine lQ.push rfl ?_
      refine lQ.push rfl ?_
      obtain ⟨x6, hx, hy2⟩ := bindC hy2
      refine lQ.callVI (F := (fun y A => x6.1 = y ∧ A = tp ad x6.2 A0)) (G := fun _ _ => False) (args := [.ref (adr ad 3), .int 0, .int 19]) (r := []) hR rfl rfl rfl (Nat.le_of_ble_eq_true rfl) (Nat.le_of_ble_eq_true rfl) rfl (tk_3 hn rfl) (ts_779 hR hn hx (cI_mk ⟨rfl, rfl⟩)) ?_ (fun _ _ _ z => z.elim)
      rintro _ _ ⟨rfl, rfl⟩
      refine lQ.goto rfl ?_
      obtain rfl := Option.some.inj hy2
      exact lQ.sub (lSb rfl (lSb rfl (lSb rfl lSb0))) hJ2
    · refine lQ.ifT rfl (decide_eq_true (Int32.not_lt.mp hc)) ?_
      refine lQ.push rfl ?_
      obtain rfl := Option.some.inj hy2
      exact lQ.sub (lSb rfl (lSb rfl (lSb rfl lSb0))) hJ2
  rcases iteC hy1 with ⟨hc, hy1⟩ | ⟨hc, hy1⟩
  · refine lQ.ifF rfl (decide_eq_false (Int32.not_le.mpr hc)) ?_
    refine lQ.loadN rfl rfl ?_
    refine lQ.push rfl ?_
    obtain ⟨x2, hx, hy1⟩ := bindC hy1
    refine lQ.callVI (F := (fun y A => x2 = y ∧ A = tp ad x1.2 A0)) (G := fun _ _ => False) (args := [.ref (adr ad 3), .int 38]) (r := []) hR rfl rfl rfl (Nat.le_of_ble_eq_true rfl) (Nat.le_of_ble_eq_true rfl) rfl (tk_3 hn rfl) (ts_784 hR hn hx (cI_mk ⟨rfl, rfl⟩)) ?_ (fun _ _ _ z => z.elim)
    rintro _ _ ⟨rfl, rfl⟩
    rcases iteC hy1 with ⟨hc, hy1⟩ | ⟨hc, hy1⟩
    · refine lQ.ifT rfl (decide_eq_true hc) ?_
      obtain rfl := Option.some.inj hy1
      exact lQ.sub (lSb rfl (lSb rfl (lSb rfl lSb0))) hJ1
    · refine lQ.ifF rfl (decide_eq_false hc) ?_
      refine lQ.loadN rfl rfl ?_
      refine lQ.dupN rfl ?_
      refine lQ.get hR rfl (tf_3_10 hn) ?_
      refine lQ.push rfl ?_
      refine lQ.binI rfl ?_
      obtain ⟨s3, hx, hy1⟩ := bindC hy1
      refine lQ.put hR rfl rfl (tq_3_10 hn hx) ?_
      rintro _ rfl
      refine lQ.loadN rfl rfl ?_
      refine lQ.loadI rfl rfl ?_
      obtain ⟨x4, hx, hy1⟩ := bindC hy1
      refine lQ.callVI (F := (fun y A => x4.1 = y ∧ A = tp ad x4.2 A0)) (G := fun _ _ => False) (args := [.ref (adr ad 3), .int x1.1]) (r := []) hR rfl rfl rfl (Nat.le_of_ble_eq_true rfl) (Nat.le_of_ble_eq_true rfl) rfl (tk_3 hn rfl) (ts_788 hR hn hx (cI_mk ⟨rfl, rfl⟩)) ?_ (fun _ _ _ z => z.elim)
      rintro _ _ ⟨rfl, rfl⟩
      refine lQ.stI rfl (lN2s rfl rfl) ?_
      obtain rfl := Option.some.inj hy1
      exact lQ.sub (lSb rfl (lSb rfl (lSb rfl lSb0))) hJ1
  · refine lQ.ifT rfl (decide_eq_true (Int32.not_lt.mp hc)) ?_
    obtain rfl := Option.some.inj hy1
    exact lQ.sub (lSb rfl (lSb rfl (lSb rfl lSb0))) hJ1
theorem ts_789 {R : lAR} (hR : lRok R) {E : lE} {ad : List Nat} (hn : tOk ad) {s : TS} {A0 : lMem} {x : TS} (h : t_789 s = some x) {Z : lZ} (hz : Z (.inl none) (tp ad x A0)) : lSQ R E 3 789 [.ref (adr ad 3)] (tp ad s A0) Z := by
  refine lQ.sq pg_789 (Nat.le_of_ble_eq_true rfl) rfl ?_
  unfold t_789 at h
  refine lQ.loadN rfl rfl ?_
  refine lQ.push rfl ?_
  refine lQ.push rfl ?_
  obtain ⟨x1, hx, h⟩ := bindC h
  refine lQ.callVI (F := (fun y A => x1.1 = y ∧ A = tp ad x1.2 A0)) (G := fun _ _ => False) (args := [.ref (adr ad 3), .int 0, .int 19]) (r := []) hR rfl rfl rfl (Nat.le_of_ble_eq_true rfl) (Nat.le_of_ble_eq_true rfl) rfl (tk_3 hn rfl) (ts_779 hR hn hx (cI_mk ⟨rfl, rfl⟩)) ?_ (fun _ _ _ z => z.elim)
  rintro _ _ ⟨rfl, rfl⟩
  refine lQ.stI rfl (lN2s rfl rfl) ?_
  refine lQ.loadN rfl rfl ?_
  refine lQ.get hR rfl (tf_3_11 hn) ?_
  obtain ⟨v34, hy1, h1⟩ := bindC h
  have hJ1 : lQ R E 2 cd_789 34 [(0, .ref (adr ad 3)), (1, .int x1.1)] [] (tp ad v34 A0) Z := by
    refine lQ.loadN rfl rfl ?_
    obtain ⟨x6, hx, h1⟩ := bindC h1
    refine lQ.callVV (F := (fun A => A = tp ad x6 A0)) (G := fun _ _ => False) (args := [.ref (adr ad 3)]) (r := []) hR rfl rfl rfl (Nat.le_of_ble_eq_true rfl) (Nat.le_of_ble_eq_true rfl) rfl (tk_3 hn rfl) (ts_786 hR hn hx (cV_mk rfl)) ?_ (fun _ _ _ z => z.elim)
    rintro _ rfl
    refine lQ.loadN rfl rfl ?_
    refine lQ.get hR rfl (tf_3_11 hn) ?_
    rcases iteC h1 with ⟨hc, h1⟩ | ⟨hc, h1⟩
    · refine lQ.ifF rfl (decide_eq_false (Int32.not_le.mpr hc)) ?_
      refine lQ.loadN rfl rfl ?_
      refine lQ.get hR rfl (tf_3_20 hn) ?_
      refine lQ.push rfl ?_
      refine lQ.loadI rfl rfl ?_
      refine lQ.binI rfl ?_
      refine lQ.push rfl ?_
      obtain ⟨s7, hx, h1⟩ := bindC h1
      refine lQ.bst hR rfl (tw_113 hn hx) ?_
      rintro _ rfl
      obtain rfl := Option.some.inj h1
      exact lQ.retV rfl hz
    · refine lQ.ifT rfl (decide_eq_true (Int32.not_lt.mp hc)) ?_
      obtain rfl := Option.some.inj h1
      exact lQ.retV rfl hz
  rcases iteC hy1 with ⟨hc, hy1⟩ | ⟨hc, hy1⟩
  · refine lQ.ifF rfl (decide_eq_false (Int32.not_le.mpr hc)) ?_
    refine lQ.loadN rfl rfl ?_
    refine lQ.loadN rfl rfl ?_
    refine lQ.get hR rfl (tf_3_16 hn) ?_
    refine lQ.push rfl ?_
    refine lQ.loadI rfl rfl ?_
    refine lQ.binI rfl ?_
    obtain ⟨x2, hx, hy1⟩ := bindC hy1
    refine lQ.ald hR rfl (ta_109 hn hx) ?_
    obtain ⟨v26, hy2, h2⟩ := bindC hy1
    have hJ2 : lQ R E 2 cd_789 26 [(0, .ref (adr ad 3)), (1, .int x1.1)] [.int v26, .ref (adr ad 3)] (tp ad x1.2 A0) Z := by
      obtain ⟨x4, hx, h2⟩ := bindC h2
      refine lQ.callVI (F := (fun y A => x4.1 = y ∧ A = tp ad x4.2 A0)) (G := fun _ _ => False) (args := [.ref (adr ad 3), .int v26]) (r := []) hR rfl rfl rfl (Nat.le_of_ble_eq_true rfl) (Nat.le_of_ble_eq_true rfl) rfl (tk_3 hn rfl) (ts_780 hR hn hx (cI_mk ⟨rfl, rfl⟩)) ?_ (fun _ _ _ z => z.elim)
      rintro _ _ ⟨rfl, rfl⟩
      rcases iteC h2 with ⟨hc, h2⟩ | ⟨hc, h2⟩
      · refine lQ.ifT rfl (decide_eq_true hc) ?_
        obtain rfl := Option.some.inj h2
        exact lQ.sub (lSb rfl (lSb rfl lSb0)) hJ1
      · refine lQ.ifF rfl (decide_eq_false hc) ?_
        refine lQ.loadN rfl rfl ?_
        refine lQ.dupN rfl ?_
        refine lQ.get hR rfl (tf_3_10 hn) ?_
        refine lQ.push rfl ?_
        refine lQ.binI rfl ?_
        obtain ⟨s5, hx, h2⟩ := bindC h2
        refine lQ.put hR rfl rfl (tq_3_10 hn hx) ?_
        rintro _ rfl
        obtain rfl := Option.some.inj h2
        exact lQ.sub (lSb rfl (lSb rfl lSb0)) hJ1
    rcases iteC hy2 with ⟨hc, hy2⟩ | ⟨hc, hy2⟩
    · refine lQ.ifT rfl (decide_eq_true hc) ?_
      refine lQ.push rfl ?_
      obtain rfl := Option.some.inj hy2
      exact lQ.sub (lSb rfl (lSb rfl lSb0)) hJ2
    · refine lQ.ifF rfl (decide_eq_false hc) ?_
      refine lQ.loadN rfl rfl ?_
      refine lQ.get hR rfl (tf_3_20 hn) ?_
      refine lQ.push rfl ?_
      refine lQ.loadI rfl rfl ?_
      refine lQ.binI rfl ?_
      obtain ⟨x3, hx, hy2⟩ := bindC hy2
      refine lQ.ald hR rfl (ta_113 hn hx) ?_
      rcases iteC hy2 with ⟨hc, hy2⟩ | ⟨hc, hy2⟩
      · refine lQ.ifF rfl (decide_eq_false (fun z => z hc)) ?_
        refine lQ.push rfl ?_
        refine lQ.goto rfl ?_
        obtain rfl := Option.some.inj hy2
        exact lQ.sub (lSb rfl (lSb rfl lSb0)) hJ2
      · refine lQ.ifT rfl (decide_eq_true hc) ?_
        refine lQ.push rfl ?_
        obtain rfl := Option.some.inj hy2
        exact lQ.sub (lSb rfl (lSb rfl lSb0)) hJ2
  · refine lQ.ifT rfl (decide_eq_true (Int32.not_lt.mp hc)) ?_
    obtain rfl := Option.some.inj hy1
    exact lQ.sub (lSb rfl (lSb rfl lSb0)) hJ1
theorem ts_776 {R : lAR} (hR : lRok R) {E : lE} {ad : List Nat} (hn : tOk ad) {s : TS} {A0 : lMem} {x : TS} (h : t_776 s = some x) {Z : lZ} (hz : Z (.inl none) (tp ad x A0)) : lSQ R E 5 776 [.ref (adr ad 3)] (tp ad s A0) Z := by
  refine lQ.sq pg_776 (Nat.le_of_ble_eq_true rfl) rfl ?_
  unfold t_776 at h
  refine lQ.loadN rfl rfl ?_
  obtain ⟨x1, hx, h⟩ := bindC h
  refine lQ.callVI (F := (fun y A => x1 = y ∧ A = tp ad s A0)) (G := fun _ _ => False) (args := [.ref (adr ad 3)]) (r := []) hR rfl rfl rfl (Nat.le_of_ble_eq_true rfl) (Nat.le_of_ble_eq_true rfl) rfl (tk_3 hn rfl) (ts_777 hR hn hx (cI_mk ⟨rfl, rfl⟩)) ?_ (fun _ _ _ z => z.elim)
  rintro _ _ ⟨rfl, rfl⟩
  refine lQ.stI rfl (lN2s rfl rfl) ?_
  refine lQ.loadI rfl rfl ?_
  refine lQ.push rfl ?_
  rcases iteC h with ⟨hc, h⟩ | ⟨hc, h⟩
  · refine lQ.cmpF rfl (decide_eq_false (fun z => z hc)) ?_
    refine lQ.loadN rfl rfl ?_
    refine lQ.dupN rfl ?_
    refine lQ.get hR rfl (tf_3_10 hn) ?_
    refine lQ.push rfl ?_
    refine lQ.binI rfl ?_
    obtain ⟨s9, hx, h⟩ := bindC h
    refine lQ.put hR rfl rfl (tq_3_10 hn hx) ?_
    rintro _ rfl
    refine lQ.loadN rfl rfl ?_
    obtain ⟨x10, hx, h⟩ := bindC h
    refine lQ.callVV (F := (fun A => A = tp ad x10 A0)) (G := fun _ _ => False) (args := [.ref (adr ad 3)]) (r := []) hR rfl rfl rfl (Nat.le_of_ble_eq_true rfl) (Nat.le_of_ble_eq_true rfl) rfl (tk_3 hn rfl) (ts_778 hR hn hx (cV_mk rfl)) ?_ (fun _ _ _ z => z.elim)
    rintro _ rfl
    refine lQ.goto rfl ?_
    obtain rfl := Option.some.inj h
    exact lQ.retV rfl hz
  · refine lQ.cmpT rfl (decide_eq_true hc) ?_
    refine lQ.loadI rfl rfl ?_
    refine lQ.push rfl ?_
    rcases iteC h with ⟨hc, h⟩ | ⟨hc, h⟩
    · refine lQ.cmpF rfl (decide_eq_false (fun z => z hc)) ?_
      refine lQ.loadN rfl rfl ?_
      refine lQ.dupN rfl ?_
      refine lQ.get hR rfl (tf_3_10 hn) ?_
      refine lQ.push rfl ?_
      refine lQ.binI rfl ?_
      obtain ⟨s7, hx, h⟩ := bindC h
      refine lQ.put hR rfl rfl (tq_3_10 hn hx) ?_
      rintro _ rfl
      refine lQ.loadN rfl rfl ?_
      obtain ⟨x8, hx, h⟩ := bindC h
      refine lQ.callVV (F := (fun A => A = tp ad x8 A0)) (G := fun _ _ => False) (args := [.ref (adr ad 3)]) (r := []) hR rfl rfl rfl (Nat.le_of_ble_eq_true rfl) (Nat.le_of_ble_eq_true rfl) rfl (tk_3 hn rfl) (ts_785 hR hn hx (cV_mk rfl)) ?_ (fun _ _ _ z => z.elim)
      rintro _ rfl
      refine lQ.goto rfl ?_
      obtain rfl := Option.some.inj h
      exact lQ.retV rfl hz
    · refine lQ.cmpT rfl (decide_eq_true hc) ?_
      refine lQ.loadI rfl rfl ?_
      refine lQ.push rfl ?_
      rcases iteC h with ⟨hc, h⟩ | ⟨hc, h⟩
      · refine lQ.cmpF rfl (decide_eq_false (fun z => z hc)) ?_
        refine lQ.loadN rfl rfl ?_
        refine lQ.loadN rfl rfl ?_
        refine lQ.get hR rfl (tf_3_22 hn) ?_
        refine lQ.push rfl ?_
        obtain ⟨v38, hy1, h1⟩ := bindC h
        have hJ1 : lQ R E 4 cd_776 38 [(0, .ref (adr ad 3))] [.int v38, .ref (adr ad 3)] (tp ad s A0) Z := by
          obtain ⟨x4, hx, h1⟩ := bindC h1
          refine lQ.callVI (F := (fun y A => x4.1 = y ∧ A = tp ad x4.2 A0)) (G := fun _ _ => False) (args := [.ref (adr ad 3), .int v38]) (r := []) hR rfl rfl rfl (Nat.le_of_ble_eq_true rfl) (Nat.le_of_ble_eq_true rfl) rfl (tk_3 hn rfl) (ts_780 hR hn hx (cI_mk ⟨rfl, rfl⟩)) ?_ (fun _ _ _ z => z.elim)
          rintro _ _ ⟨rfl, rfl⟩
          rcases iteC h1 with ⟨hc, h1⟩ | ⟨hc, h1⟩
          · refine lQ.ifT rfl (decide_eq_true hc) ?_
            obtain rfl := Option.some.inj h1
            exact lQ.retV rfl hz
          · refine lQ.ifF rfl (decide_eq_false hc) ?_
            refine lQ.loadN rfl rfl ?_
            refine lQ.dupN rfl ?_
            refine lQ.get hR rfl (tf_3_10 hn) ?_
            refine lQ.push rfl ?_
            refine lQ.binI rfl ?_
            obtain ⟨s5, hx, h1⟩ := bindC h1
            refine lQ.put hR rfl rfl (tq_3_10 hn hx) ?_
            rintro _ rfl
            refine lQ.loadN rfl rfl ?_
            obtain ⟨x6, hx, h1⟩ := bindC h1
            refine lQ.callVV (F := (fun A => A = tp ad x6 A0)) (G := fun _ _ => False) (args := [.ref (adr ad 3)]) (r := []) hR rfl rfl rfl (Nat.le_of_ble_eq_true rfl) (Nat.le_of_ble_eq_true rfl) rfl (tk_3 hn rfl) (ts_787 hR hn hx (cV_mk rfl)) ?_ (fun _ _ _ z => z.elim)
            rintro _ rfl
            refine lQ.goto rfl ?_
            obtain rfl := Option.some.inj h1
            exact lQ.retV rfl hz
        rcases iteC hy1 with ⟨hc, hy1⟩ | ⟨hc, hy1⟩
        · refine lQ.cmpF rfl (decide_eq_false (Int32.not_le.mpr hc)) ?_
          refine lQ.push rfl ?_
          refine lQ.goto rfl ?_
          obtain rfl := Option.some.inj hy1
          exact lQ.sub (lSb rfl lSb0) hJ1
        · refine lQ.cmpT rfl (decide_eq_true (Int32.not_lt.mp hc)) ?_
          refine lQ.push rfl ?_
          obtain rfl := Option.some.inj hy1
          exact lQ.sub (lSb rfl lSb0) hJ1
      · refine lQ.cmpT rfl (decide_eq_true hc) ?_
        refine lQ.loadN rfl rfl ?_
        refine lQ.push rfl ?_
        obtain ⟨x2, hx, h⟩ := bindC h
        refine lQ.callVV (F := (fun A => A = tp ad x2 A0)) (G := fun _ _ => False) (args := [.ref (adr ad 3), .int 143848]) (r := []) hR rfl rfl rfl (Nat.le_of_ble_eq_true rfl) (Nat.le_of_ble_eq_true rfl) rfl (tk_3 hn rfl) (ts_781 hR hn hx (cV_mk rfl)) ?_ (fun _ _ _ z => z.elim)
        rintro _ rfl
        refine lQ.loadN rfl rfl ?_
        refine lQ.get hR rfl (tf_3_11 hn) ?_
        rcases iteC h with ⟨hc, h⟩ | ⟨hc, h⟩
        · refine lQ.ifF rfl (decide_eq_false (Int32.not_le.mpr hc)) ?_
          refine lQ.loadN rfl rfl ?_
          obtain ⟨x3, hx, h⟩ := bindC h
          refine lQ.callVV (F := (fun A => A = tp ad x3 A0)) (G := fun _ _ => False) (args := [.ref (adr ad 3)]) (r := []) hR rfl rfl rfl (Nat.le_of_ble_eq_true rfl) (Nat.le_of_ble_eq_true rfl) rfl (tk_3 hn rfl) (ts_789 hR hn hx (cV_mk rfl)) ?_ (fun _ _ _ z => z.elim)
          rintro _ rfl
          obtain rfl := Option.some.inj h
          exact lQ.retV rfl hz
        · refine lQ.ifT rfl (decide_eq_true (Int32.not_lt.mp hc)) ?_
          obtain rfl := Option.some.inj h
          exact lQ.retV rfl hz
theorem ts_791 {R : lAR} (hR : lRok R) {E : lE} {ad : List Nat} (hn : tOk ad) {v1 : Int32} {s : TS} {A0 : lMem} {x : TS} (h : t_791 v1 s = some x) {Z : lZ} (hz : Z (.inl none) (tp ad x A0)) : lSQ R E 1 791 [.ref (adr ad 3), .int v1] (tp ad s A0) Z := by
  refine lQ.sq pg_791 (Nat.le_of_ble_eq_true rfl) rfl ?_
  unfold t_791 at h
  refine lQ.loadN rfl rfl ?_
  refine lQ.get hR rfl (tf_3_26 hn) ?_
  refine lQ.loadI rfl rfl ?_
  refine lQ.push rfl ?_
  obtain ⟨s1, hx, h⟩ := bindC h
  refine lQ.ast hR rfl (tw_117 hn hx) ?_
  rintro _ rfl
  refine lQ.loadN rfl rfl ?_
  refine lQ.get hR rfl (tf_3_27 hn) ?_
  refine lQ.loadI rfl rfl ?_
  refine lQ.push rfl ?_
  obtain ⟨s2, hx, h⟩ := bindC h
  refine lQ.ast hR rfl (tw_118 hn hx) ?_
  rintro _ rfl
  refine lQ.loadN rfl rfl ?_
  refine lQ.get hR rfl (tf_3_28 hn) ?_
  refine lQ.loadI rfl rfl ?_
  refine lQ.push rfl ?_
  obtain ⟨s3, hx, h⟩ := bindC h
  refine lQ.bst hR rfl (tw_119 hn hx) ?_
  rintro _ rfl
  refine lQ.loadN rfl rfl ?_
  refine lQ.get hR rfl (tf_3_29 hn) ?_
  refine lQ.loadI rfl rfl ?_
  refine lQ.push rfl ?_
  obtain ⟨s4, hx, h⟩ := bindC h
  refine lQ.bst hR rfl (tw_120 hn hx) ?_
  rintro _ rfl
  obtain rfl := Option.some.inj h
  exact lQ.retV rfl hz
theorem ts_790 {R : lAR} (hR : lRok R) {E : lE} {ad : List Nat} (hn : tOk ad) {s : TS} {A0 : lMem} {x : TS} (h : t_790 s = some x) {Z : lZ} (hz : Z (.inl none) (tp ad x A0)) : lSQ R E 2 790 [.ref (adr ad 3)] (tp ad s A0) Z := by
  refine lQ.sq pg_790 (Nat.le_of_ble_eq_true rfl) rfl ?_
  unfold t_790 at h
  refine lQ.push rfl ?_
  refine lQ.stI rfl (lN2s rfl rfl) ?_
  obtain ⟨v115, hy1, h1⟩ := bindC h
  have hJ1 : lQ R E 1 cd_790 115 [(0, .ref (adr ad 3))] [] (tp ad v115 A0) Z := by
    refine lQ.loadN rfl rfl ?_
    refine lQ.loadN rfl rfl ?_
    refine lQ.get hR rfl (tf_3_22 hn) ?_
    obtain ⟨s20, hx, h1⟩ := bindC h1
    refine lQ.put hR rfl rfl (tq_3_21 hn hx) ?_
    rintro _ rfl
    refine lQ.push rfl ?_
    refine lQ.stI rfl (lN2s rfl rfl) ?_
    obtain ⟨v157, hy2, h2⟩ := bindC h1
    have hJ2 : lQ R E 1 cd_790 157 [] [] (tp ad v157 A0) Z := by
      obtain rfl := Option.some.inj h2
      exact lQ.retV rfl hz
    refine lQ.sub (lSb rfl (lSb rfl lSb0)) (wh_run (P := fun p121 => lQ R E 1 cd_790 121 [(0, .ref (adr ad 3)), (1, .int p121.2)] [] (tp ad p121.1 A0) Z) hy2 ?_)
    intro p121 r3 hb3 hI3 hX3
    refine lQ.loadI rfl rfl ?_
    refine lQ.loadN rfl rfl ?_
    refine lQ.get hR rfl (tf_3_21 hn) ?_
    rcases iteC hb3 with ⟨hc, hb3⟩ | ⟨hc, hb3⟩
    · refine lQ.cmpF rfl (decide_eq_false (Int32.not_le.mpr hc)) ?_
      refine lQ.loadN rfl rfl ?_
      refine lQ.get hR rfl (tf_3_23 hn) ?_
      refine lQ.loadI rfl rfl ?_
      refine lQ.loadN rfl rfl ?_
      refine lQ.get hR rfl (tf_3_23 hn) ?_
      refine lQ.push rfl ?_
      refine lQ.loadI rfl rfl ?_
      refine lQ.binI rfl ?_
      obtain ⟨x21, hx, hb3⟩ := bindC hb3
      refine lQ.ald hR rfl (ta_114 hn hx) ?_
      obtain ⟨s22, hx, hb3⟩ := bindC hb3
      refine lQ.ast hR rfl (tw_114 hn hx) ?_
      rintro _ rfl
      refine lQ.loadN rfl rfl ?_
      refine lQ.get hR rfl (tf_3_24 hn) ?_
      refine lQ.loadI rfl rfl ?_
      refine lQ.loadN rfl rfl ?_
      refine lQ.get hR rfl (tf_3_24 hn) ?_
      refine lQ.push rfl ?_
      refine lQ.loadI rfl rfl ?_
      refine lQ.binI rfl ?_
      obtain ⟨x23, hx, hb3⟩ := bindC hb3
      refine lQ.ald hR rfl (ta_115 hn hx) ?_
      obtain ⟨s24, hx, hb3⟩ := bindC hb3
      refine lQ.ast hR rfl (tw_115 hn hx) ?_
      rintro _ rfl
      refine lQ.loadN rfl rfl ?_
      refine lQ.get hR rfl (tf_3_25 hn) ?_
      refine lQ.loadI rfl rfl ?_
      refine lQ.loadN rfl rfl ?_
      refine lQ.get hR rfl (tf_3_25 hn) ?_
      refine lQ.push rfl ?_
      refine lQ.loadI rfl rfl ?_
      refine lQ.binI rfl ?_
      obtain ⟨x25, hx, hb3⟩ := bindC hb3
      refine lQ.ald hR rfl (ta_116 hn hx) ?_
      obtain ⟨s26, hx, hb3⟩ := bindC hb3
      refine lQ.ast hR rfl (tw_116 hn hx) ?_
      rintro _ rfl
      refine lQ.inc rfl rfl (lN2s rfl rfl) ?_
      refine lQ.goto rfl ?_
      obtain rfl := Option.some.inj hb3
      exact lQ.sub (lSb rfl (lSb rfl lSb0)) (hI3 _ rfl)
    · refine lQ.cmpT rfl (decide_eq_true (Int32.not_lt.mp hc)) ?_
      obtain rfl := Option.some.inj hb3
      obtain rfl := hX3 _ rfl
      exact lQ.sub lSb0 hJ2
  refine lQ.sub (lSb rfl (lSb rfl lSb0)) (wh_run (P := fun p2 => lQ R E 1 cd_790 2 [(0, .ref (adr ad 3)), (1, .int p2.2)] [] (tp ad p2.1 A0) Z) hy1 ?_)
  intro p2 r4 hb4 hI4 hX4
  refine lQ.loadI rfl rfl ?_
  refine lQ.push rfl ?_
  rcases iteC hb4 with ⟨hc, hb4⟩ | ⟨hc, hb4⟩
  · refine lQ.cmpF rfl (decide_eq_false (Int32.not_le.mpr hc)) ?_
    refine lQ.loadN rfl rfl ?_
    refine lQ.get hR rfl (tf_3_12 hn) ?_
    refine lQ.loadI rfl rfl ?_
    refine lQ.loadN rfl rfl ?_
    refine lQ.get hR rfl (tf_3_12 hn) ?_
    refine lQ.push rfl ?_
    refine lQ.loadI rfl rfl ?_
    refine lQ.binI rfl ?_
    obtain ⟨x1, hx, hb4⟩ := bindC hb4
    refine lQ.ald hR rfl (ta_105 hn hx) ?_
    obtain ⟨s2, hx, hb4⟩ := bindC hb4
    refine lQ.bst hR rfl (tw_105 hn hx) ?_
    rintro _ rfl
    refine lQ.loadN rfl rfl ?_
    refine lQ.get hR rfl (tf_3_13 hn) ?_
    refine lQ.loadI rfl rfl ?_
    refine lQ.loadN rfl rfl ?_
    refine lQ.get hR rfl (tf_3_13 hn) ?_
    refine lQ.push rfl ?_
    refine lQ.loadI rfl rfl ?_
    refine lQ.binI rfl ?_
    obtain ⟨x3, hx, hb4⟩ := bindC hb4
    refine lQ.ald hR rfl (ta_106 hn hx) ?_
    obtain ⟨s4, hx, hb4⟩ := bindC hb4
    refine lQ.ast hR rfl (tw_106 hn hx) ?_
    rintro _ rfl
    refine lQ.loadN rfl rfl ?_
    refine lQ.get hR rfl (tf_3_14 hn) ?_
    refine lQ.loadI rfl rfl ?_
    refine lQ.loadN rfl rfl ?_
    refine lQ.get hR rfl (tf_3_14 hn) ?_
    refine lQ.push rfl ?_
    refine lQ.loadI rfl rfl ?_
    refine lQ.binI rfl ?_
    obtain ⟨x5, hx, hb4⟩ := bindC hb4
    refine lQ.ald hR rfl (ta_107 hn hx) ?_
    obtain ⟨s6, hx, hb4⟩ := bindC hb4
    refine lQ.ast hR rfl (tw_107 hn hx) ?_
    rintro _ rfl
    refine lQ.push rfl ?_
    refine lQ.stI rfl (lN2s rfl rfl) ?_
    obtain ⟨v60, hy5, h5⟩ := bindC hb4
    have hJ5 : lQ R E 1 cd_790 60 [(0, .ref (adr ad 3)), (1, .int p2.2)] [] (tp ad v60 A0) Z := by
      refine lQ.loadN rfl rfl ?_
      refine lQ.get hR rfl (tf_3_16 hn) ?_
      refine lQ.loadI rfl rfl ?_
      refine lQ.loadN rfl rfl ?_
      refine lQ.get hR rfl (tf_3_16 hn) ?_
      refine lQ.push rfl ?_
      refine lQ.loadI rfl rfl ?_
      refine lQ.binI rfl ?_
      obtain ⟨x9, hx, h5⟩ := bindC h5
      refine lQ.ald hR rfl (ta_109 hn hx) ?_
      obtain ⟨s10, hx, h5⟩ := bindC h5
      refine lQ.bst hR rfl (tw_109 hn hx) ?_
      rintro _ rfl
      refine lQ.loadN rfl rfl ?_
      refine lQ.get hR rfl (tf_3_17 hn) ?_
      refine lQ.loadI rfl rfl ?_
      refine lQ.loadN rfl rfl ?_
      refine lQ.get hR rfl (tf_3_17 hn) ?_
      refine lQ.push rfl ?_
      refine lQ.loadI rfl rfl ?_
      refine lQ.binI rfl ?_
      obtain ⟨x11, hx, h5⟩ := bindC h5
      refine lQ.ald hR rfl (ta_110 hn hx) ?_
      obtain ⟨s12, hx, h5⟩ := bindC h5
      refine lQ.ast hR rfl (tw_110 hn hx) ?_
      rintro _ rfl
      refine lQ.loadN rfl rfl ?_
      refine lQ.get hR rfl (tf_3_18 hn) ?_
      refine lQ.loadI rfl rfl ?_
      refine lQ.loadN rfl rfl ?_
      refine lQ.get hR rfl (tf_3_18 hn) ?_
      refine lQ.push rfl ?_
      refine lQ.loadI rfl rfl ?_
      refine lQ.binI rfl ?_
      obtain ⟨x13, hx, h5⟩ := bindC h5
      refine lQ.ald hR rfl (ta_111 hn hx) ?_
      obtain ⟨s14, hx, h5⟩ := bindC h5
      refine lQ.ast hR rfl (tw_111 hn hx) ?_
      rintro _ rfl
      refine lQ.loadN rfl rfl ?_
      refine lQ.get hR rfl (tf_3_19 hn) ?_
      refine lQ.loadI rfl rfl ?_
      refine lQ.loadN rfl rfl ?_
      refine lQ.get hR rfl (tf_3_19 hn) ?_
      refine lQ.push rfl ?_
      refine lQ.loadI rfl rfl ?_
      refine lQ.binI rfl ?_
      obtain ⟨x15, hx, h5⟩ := bindC h5
      refine lQ.ald hR rfl (ta_112 hn hx) ?_
      obtain ⟨s16, hx, h5⟩ := bindC h5
      refine lQ.ast hR rfl (tw_112 hn hx) ?_
      rintro _ rfl
      refine lQ.loadN rfl rfl ?_
      refine lQ.get hR rfl (tf_3_20 hn) ?_
      refine lQ.loadI rfl rfl ?_
      refine lQ.loadN rfl rfl ?_
      refine lQ.get hR rfl (tf_3_20 hn) ?_
      refine lQ.push rfl ?_
      refine lQ.loadI rfl rfl ?_
      refine lQ.binI rfl ?_
      obtain ⟨x17, hx, h5⟩ := bindC h5
      refine lQ.ald hR rfl (ta_113 hn hx) ?_
      obtain ⟨s18, hx, h5⟩ := bindC h5
      refine lQ.bst hR rfl (tw_113 hn hx) ?_
      rintro _ rfl
      refine lQ.loadN rfl rfl ?_
      refine lQ.loadI rfl rfl ?_
      obtain ⟨x19, hx, h5⟩ := bindC h5
      refine lQ.callVV (F := (fun A => A = tp ad x19 A0)) (G := fun _ _ => False) (args := [.ref (adr ad 3), .int p2.2]) (r := []) hR rfl rfl rfl (Nat.le_of_ble_eq_true rfl) (Nat.le_of_ble_eq_true rfl) rfl (tk_3 hn rfl) (ts_791 hR hn hx (cV_mk rfl)) ?_ (fun _ _ _ z => z.elim)
      rintro _ rfl
      refine lQ.inc rfl rfl (lN2s rfl rfl) ?_
      refine lQ.goto rfl ?_
      obtain rfl := Option.some.inj h5
      exact lQ.sub (lSb rfl (lSb rfl lSb0)) (hI4 _ rfl)
    refine lQ.sub (lSb rfl (lSb rfl (lSb rfl lSb0))) (wh_run (P := fun p37 => lQ R E 1 cd_790 37 [(0, .ref (adr ad 3)), (1, .int p2.2), (2, .int p37.2)] [] (tp ad p37.1 A0) Z) hy5 ?_)
    intro p37 r6 hb6 hI6 hX6
    refine lQ.loadI rfl rfl ?_
    refine lQ.push rfl ?_
    rcases iteC hb6 with ⟨hc, hb6⟩ | ⟨hc, hb6⟩
    · refine lQ.cmpF rfl (decide_eq_false (Int32.not_le.mpr hc)) ?_
      refine lQ.loadN rfl rfl ?_
      refine lQ.get hR rfl (tf_3_15 hn) ?_
      refine lQ.push rfl ?_
      refine lQ.loadI rfl rfl ?_
      refine lQ.binI rfl ?_
      refine lQ.loadI rfl rfl ?_
      refine lQ.binI rfl ?_
      refine lQ.loadN rfl rfl ?_
      refine lQ.get hR rfl (tf_3_15 hn) ?_
      refine lQ.push rfl ?_
      refine lQ.push rfl ?_
      refine lQ.loadI rfl rfl ?_
      refine lQ.binI rfl ?_
      refine lQ.binI rfl ?_
      refine lQ.loadI rfl rfl ?_
      refine lQ.binI rfl ?_
      obtain ⟨x7, hx, hb6⟩ := bindC hb6
      refine lQ.ald hR rfl (ta_108 hn hx) ?_
      obtain ⟨s8, hx, hb6⟩ := bindC hb6
      refine lQ.ast hR rfl (tw_108 hn hx) ?_
      rintro _ rfl
      refine lQ.inc rfl rfl (lN2s rfl rfl) ?_
      refine lQ.goto rfl ?_
      obtain rfl := Option.some.inj hb6
      exact lQ.sub (lSb rfl (lSb rfl (lSb rfl lSb0))) (hI6 _ rfl)
    · refine lQ.cmpT rfl (decide_eq_true (Int32.not_lt.mp hc)) ?_
      obtain rfl := Option.some.inj hb6
      obtain rfl := hX6 _ rfl
      exact lQ.sub (lSb rfl (lSb rfl lSb0)) hJ5
  · refine lQ.cmpT rfl (decide_eq_true (Int32.not_lt.mp hc)) ?_
    obtain rfl := Option.some.inj hb4
    obtain rfl := hX4 _ rfl
    exact lQ.sub (lSb rfl lSb0) hJ1
theorem ts_773 {R : lAR} (hR : lRok R) {E : lE} {ad : List Nat} (hn : tOk ad) {s : TS} {A0 : lMem} {x : Int32 × TS} (h : t_773 s = some x) {Z : lZ} (hz : Z (.inl (some (.int x.1))) (tp ad x.2 A0)) : lSQ R E 6 773 [.ref (adr ad 3)] (tp ad s A0) Z := by
  refine lQ.sq pg_773 (Nat.le_of_ble_eq_true rfl) rfl ?_
  unfold t_773 at h
  refine lQ.loadN rfl rfl ?_
  obtain ⟨x1, hx, h⟩ := bindC h
  refine lQ.callVV (F := (fun A => A = tp ad x1 A0)) (G := fun _ _ => False) (args := [.ref (adr ad 3)]) (r := []) hR rfl rfl rfl (Nat.le_of_ble_eq_true rfl) (Nat.le_of_ble_eq_true rfl) rfl (tk_3 hn rfl) (ts_774 hR hn hx (cV_mk rfl)) ?_ (fun _ _ _ z => z.elim)
  rintro _ rfl
  refine lQ.loadN rfl rfl ?_
  refine lQ.push rfl ?_
  obtain ⟨s2, hx, h⟩ := bindC h
  refine lQ.put hR rfl rfl (tq_3_10 hn hx) ?_
  rintro _ rfl
  refine lQ.loadN rfl rfl ?_
  refine lQ.push rfl ?_
  obtain ⟨s3, hx, h⟩ := bindC h
  refine lQ.put hR rfl rfl (tq_3_11 hn hx) ?_
  rintro _ rfl
  refine lQ.loadN rfl rfl ?_
  refine lQ.push rfl ?_
  obtain ⟨s4, hx, h⟩ := bindC h
  refine lQ.put hR rfl rfl (tq_3_22 hn hx) ?_
  rintro _ rfl
  refine lQ.push rfl ?_
  refine lQ.stI rfl (lN2s rfl rfl) ?_
  obtain ⟨v28, hy1, h1⟩ := bindC h
  have hJ1 : lQ R E 5 cd_773 28 [(0, .ref (adr ad 3))] [] (tp ad v28 A0) Z := by
    obtain ⟨v39, hy2, h2⟩ := bindC h1
    have hJ2 : lQ R E 5 cd_773 39 [(0, .ref (adr ad 3))] [] (tp ad v39 A0) Z := by
      refine lQ.loadN rfl rfl ?_
      refine lQ.get hR rfl (tf_3_11 hn) ?_
      rcases iteC h2 with ⟨hc, h2⟩ | ⟨hc, h2⟩
      · refine lQ.ifT rfl (decide_eq_true hc) ?_
        refine lQ.loadN rfl rfl ?_
        obtain ⟨x8, hx, h2⟩ := bindC h2
        refine lQ.callVV (F := (fun A => A = tp ad x8 A0)) (G := fun _ _ => False) (args := [.ref (adr ad 3)]) (r := []) hR rfl rfl rfl (Nat.le_of_ble_eq_true rfl) (Nat.le_of_ble_eq_true rfl) rfl (tk_3 hn rfl) (ts_790 hR hn hx (cV_mk rfl)) ?_ (fun _ _ _ z => z.elim)
        rintro _ rfl
        refine lQ.loadN rfl rfl ?_
        refine lQ.get hR rfl (tf_3_21 hn) ?_
        obtain rfl := Option.some.inj h2
        exact lQ.retI rfl rfl hz
      · refine lQ.ifF rfl (decide_eq_false hc) ?_
        refine lQ.push rfl ?_
        refine lQ.loadN rfl rfl ?_
        refine lQ.get hR rfl (tf_3_11 hn) ?_
        refine lQ.binI rfl ?_
        obtain rfl := Option.some.inj h2
        exact lQ.retI rfl rfl hz
    refine lQ.sub (lSb rfl lSb0) (wh_run (P := fun p28 => lQ R E 5 cd_773 28 [(0, .ref (adr ad 3))] [] (tp ad p28 A0) Z) hy2 ?_)
    intro p28 r3 hb3 hI3 hX3
    refine lQ.loadN rfl rfl ?_
    refine lQ.get hR rfl (tf_3_10 hn) ?_
    refine lQ.loadN rfl rfl ?_
    refine lQ.get hR rfl (tf_3_7 hn) ?_
    rcases iteC hb3 with ⟨hc, hb3⟩ | ⟨hc, hb3⟩
    · refine lQ.cmpF rfl (decide_eq_false (Int32.not_le.mpr hc)) ?_
      refine lQ.loadN rfl rfl ?_
      refine lQ.get hR rfl (tf_3_11 hn) ?_
      rcases iteC hb3 with ⟨hc, hb3⟩ | ⟨hc, hb3⟩
      · refine lQ.ifF rfl (decide_eq_false (Int32.not_le.mpr hc)) ?_
        refine lQ.loadN rfl rfl ?_
        obtain ⟨x7, hx, hb3⟩ := bindC hb3
        refine lQ.callVV (F := (fun A => A = tp ad x7 A0)) (G := fun _ _ => False) (args := [.ref (adr ad 3)]) (r := []) hR rfl rfl rfl (Nat.le_of_ble_eq_true rfl) (Nat.le_of_ble_eq_true rfl) rfl (tk_3 hn rfl) (ts_776 hR hn hx (cV_mk rfl)) ?_ (fun _ _ _ z => z.elim)
        rintro _ rfl
        refine lQ.goto rfl ?_
        obtain rfl := Option.some.inj hb3
        exact lQ.sub (lSb rfl lSb0) (hI3 _ rfl)
      · refine lQ.ifT rfl (decide_eq_true (Int32.not_lt.mp hc)) ?_
        obtain rfl := Option.some.inj hb3
        obtain rfl := hX3 _ rfl
        exact lQ.sub (lSb rfl lSb0) hJ2
    · refine lQ.cmpT rfl (decide_eq_true (Int32.not_lt.mp hc)) ?_
      obtain rfl := Option.some.inj hb3
      obtain rfl := hX3 _ rfl
      exact lQ.sub (lSb rfl lSb0) hJ2
  refine lQ.sub (lSb rfl (lSb rfl lSb0)) (wh_run (P := fun p13 => lQ R E 5 cd_773 13 [(0, .ref (adr ad 3)), (1, .int p13.2)] [] (tp ad p13.1 A0) Z) hy1 ?_)
  intro p13 r4 hb4 hI4 hX4
  refine lQ.loadI rfl rfl ?_
  refine lQ.push rfl ?_
  rcases iteC hb4 with ⟨hc, hb4⟩ | ⟨hc, hb4⟩
  · refine lQ.cmpF rfl (decide_eq_false (Int32.not_le.mpr hc)) ?_
    refine lQ.loadN rfl rfl ?_
    refine lQ.get hR rfl (tf_3_12 hn) ?_
    refine lQ.loadI rfl rfl ?_
    refine lQ.push rfl ?_
    obtain ⟨s5, hx, hb4⟩ := bindC hb4
    refine lQ.bst hR rfl (tw_105 hn hx) ?_
    rintro _ rfl
    refine lQ.loadN rfl rfl ?_
    refine lQ.get hR rfl (tf_3_16 hn) ?_
    refine lQ.loadI rfl rfl ?_
    refine lQ.push rfl ?_
    obtain ⟨s6, hx, hb4⟩ := bindC hb4
    refine lQ.bst hR rfl (tw_109 hn hx) ?_
    rintro _ rfl
    refine lQ.inc rfl rfl (lN2s rfl rfl) ?_
    refine lQ.goto rfl ?_
    obtain rfl := Option.some.inj hb4
    exact lQ.sub (lSb rfl (lSb rfl lSb0)) (hI4 _ rfl)
  · refine lQ.cmpT rfl (decide_eq_true (Int32.not_lt.mp hc)) ?_
    obtain rfl := Option.some.inj hb4
    obtain rfl := hX4 _ rfl
    exact lQ.sub (lSb rfl lSb0) hJ1
