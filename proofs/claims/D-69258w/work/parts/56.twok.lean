set_option maxRecDepth 100000
theorem ts_658 {R : lAR} (hR : lRok R) {E : lE} {ad : List Nat} (hn : tOk ad) {s : TS} {A0 : lMem} {x : Int64 × TS} (h : t_658 s = some x) {Z : lZ} (hz : Z (.inl (some (.long x.1))) (tp ad x.2 A0)) : lSQ R E 5 658 [.ref (adr ad 0)] (tp ad s A0) Z := by
  refine lQ.sq pg_658 (Nat.le_of_ble_eq_true rfl) rfl ?_
  unfold t_658 at h
  refine lQ.loadN rfl rfl ?_
  refine lQ.loadN rfl rfl ?_
  refine lQ.get hR rfl (tf_0_1 hn) ?_
  obtain ⟨x1, hx, h⟩ := bindC h
  refine lQ.callVI (F := (fun y A => x1.1 = y ∧ A = tp ad x1.2 A0)) (G := fun _ _ => False) (args := [.ref (adr ad 0), .int (s.1 1)]) (r := []) hR rfl rfl rfl (Nat.le_of_ble_eq_true rfl) (Nat.le_of_ble_eq_true rfl) rfl (tk_0 hn rfl) (ts_563 hR hn hx (cI_mk ⟨rfl, rfl⟩)) ?_ (fun _ _ _ z => z.elim)
  rintro _ _ ⟨rfl, rfl⟩
  rcases iteC h with ⟨hc, h⟩ | ⟨hc, h⟩
  · refine lQ.ifF rfl (decide_eq_false (fun z => z hc)) ?_
    refine lQ.push rfl ?_
    obtain rfl := Option.some.inj h
    exact lQ.retL rfl hz
  · refine lQ.ifT rfl (decide_eq_true hc) ?_
    refine lQ.loadN rfl rfl ?_
    refine lQ.get hR rfl (tf_0_8 hn) ?_
    refine lQ.loadN rfl rfl ?_
    refine lQ.get hR rfl (tf_0_5 hn) ?_
    refine lQ.push rfl ?_
    obtain ⟨x2, hx, h⟩ := bindC h
    refine lQ.callVI (F := (fun y A => x2 = y ∧ A = tp ad x1.2 A0)) (G := fun _ _ => False) (args := [.ref (adr ad 3), .int 1]) (r := [.ref (adr ad 6)]) hR rfl rfl rfl (Nat.le_of_ble_eq_true rfl) (Nat.le_of_ble_eq_true rfl) rfl (tk_3 hn rfl) (ts_763 hR hn hx (cI_mk ⟨rfl, rfl⟩)) ?_ (fun _ _ _ z => z.elim)
    rintro _ _ ⟨rfl, rfl⟩
    obtain ⟨v17, hy1, h1⟩ := bindC h
    have hJ1 : lQ R E 4 cd_658 17 [(0, .ref (adr ad 0))] [.int v17, .ref (adr ad 6)] (tp ad x1.2 A0) Z := by
      rcases iteC h1 with ⟨hg, h1⟩ | ⟨_, h1⟩
      case inr => cases h1
      obtain ⟨s3, hx, h1⟩ := bindC h1
      refine lQ.put hR rfl (fitB hg) (tq_6_13 hn hx) ?_
      rintro _ rfl
      refine lQ.loadN rfl rfl ?_
      refine lQ.get hR rfl (tf_0_8 hn) ?_
      obtain ⟨x4, hx, h1⟩ := bindC h1
      refine lQ.callVL (F := (fun y A => x4.1 = y ∧ A = tp ad x4.2 A0)) (G := fun _ _ => False) (args := [.ref (adr ad 6)]) (r := []) hR rfl rfl rfl (Nat.le_of_ble_eq_true rfl) (Nat.le_of_ble_eq_true rfl) rfl (tk_6 hn rfl) (ts_851 hR hn hx (cL_mk ⟨rfl, rfl⟩)) ?_ (fun _ _ _ z => z.elim)
      rintro _ _ ⟨rfl, rfl⟩
      obtain rfl := Option.some.inj h1
      exact lQ.retL rfl hz
    rcases iteC hy1 with ⟨hc, hy1⟩ | ⟨hc, hy1⟩
    · refine lQ.ifF rfl (decide_eq_false (Int32.not_le.mpr hc)) ?_
      refine lQ.push rfl ?_
      refine lQ.goto rfl ?_
      obtain rfl := Option.some.inj hy1
      exact lQ.sub (lSb rfl lSb0) hJ1
    · refine lQ.ifT rfl (decide_eq_true (Int32.not_lt.mp hc)) ?_
      refine lQ.push rfl ?_
      obtain rfl := Option.some.inj hy1
      exact lQ.sub (lSb rfl lSb0) hJ1
theorem ts_864 {R : lAR} (hR : lRok R) {E : lE} {ad : List Nat} (hn : tOk ad) {v1 : Int32} {v2 : Int32} {s : TS} {A0 : lMem} {x : Int32} (h : t_864 v1 v2 s = some x) {Z : lZ} (hz : Z (.inl (some (.int x))) (tp ad s A0)) : lSQ R E 1 864 [.ref (adr ad 6), .int v1, .int v2] (tp ad s A0) Z := by
  refine lQ.sq pg_864 (Nat.le_of_ble_eq_true rfl) rfl ?_
  unfold t_864 at h
  refine lQ.loadN rfl rfl ?_
  refine lQ.get hR rfl (tf_6_20 hn) ?_
  refine lQ.loadI rfl rfl ?_
  obtain ⟨x1, hx, h⟩ := bindC h
  refine lQ.ald hR rfl (ta_172 hn hx) ?_
  rcases iteC h with ⟨hc, h⟩ | ⟨hc, h⟩
  · refine lQ.ifF rfl (decide_eq_false (Int32.not_le.mpr hc)) ?_
    refine lQ.push rfl ?_
    refine lQ.goto rfl ?_
    obtain rfl := Option.some.inj h
    exact lQ.retI rfl rfl hz
  · refine lQ.ifT rfl (decide_eq_true (Int32.not_lt.mp hc)) ?_
    refine lQ.loadI rfl rfl ?_
    rcases iteC h with ⟨hc, h⟩ | ⟨hc, h⟩
    · refine lQ.ifF rfl (decide_eq_false (fun z => z hc)) ?_
      refine lQ.loadN rfl rfl ?_
      refine lQ.get hR rfl (tf_6_20 hn) ?_
      refine lQ.loadI rfl rfl ?_
      obtain ⟨x5, hx, h⟩ := bindC h
      refine lQ.ald hR rfl (ta_172 hn hx) ?_
      refine lQ.goto rfl ?_
      obtain rfl := Option.some.inj h
      exact lQ.retI rfl rfl hz
    · refine lQ.ifT rfl (decide_eq_true hc) ?_
      refine lQ.loadI rfl rfl ?_
      refine lQ.push rfl ?_
      rcases iteC h with ⟨hc, h⟩ | ⟨hc, h⟩
      · refine lQ.cmpF rfl (decide_eq_false (fun z => z hc)) ?_
        refine lQ.loadN rfl rfl ?_
        refine lQ.get hR rfl (tf_6_21 hn) ?_
        refine lQ.loadI rfl rfl ?_
        obtain ⟨x4, hx, h⟩ := bindC h
        refine lQ.ald hR rfl (ta_173 hn hx) ?_
        refine lQ.goto rfl ?_
        obtain rfl := Option.some.inj h
        exact lQ.retI rfl rfl hz
      · refine lQ.cmpT rfl (decide_eq_true hc) ?_
        refine lQ.loadI rfl rfl ?_
        refine lQ.push rfl ?_
        rcases iteC h with ⟨hc, h⟩ | ⟨hc, h⟩
        · refine lQ.cmpF rfl (decide_eq_false (fun z => z hc)) ?_
          refine lQ.loadN rfl rfl ?_
          refine lQ.get hR rfl (tf_6_22 hn) ?_
          refine lQ.loadI rfl rfl ?_
          obtain ⟨x3, hx, h⟩ := bindC h
          refine lQ.ald hR rfl (ta_174 hn hx) ?_
          refine lQ.goto rfl ?_
          obtain rfl := Option.some.inj h
          exact lQ.retI rfl rfl hz
        · refine lQ.cmpT rfl (decide_eq_true hc) ?_
          refine lQ.loadN rfl rfl ?_
          refine lQ.get hR rfl (tf_6_23 hn) ?_
          refine lQ.loadI rfl rfl ?_
          obtain ⟨x2, hx, h⟩ := bindC h
          refine lQ.ald hR rfl (ta_175 hn hx) ?_
          obtain rfl := Option.some.inj h
          exact lQ.retI rfl rfl hz
theorem ts_659 {R : lAR} (hR : lRok R) {E : lE} {ad : List Nat} (hn : tOk ad) {v1 : Int32} {v2 : Int32} {s : TS} {A0 : lMem} {x : Int32 × TS} (h : t_659 v1 v2 s = some x) {Z : lZ} (hz : Z (.inl (some (.int x.1))) (tp ad x.2 A0)) : lSQ R E 2 659 [.ref (adr ad 0), .int v1, .int v2] (tp ad s A0) Z := by
  refine lQ.sq pg_659 (Nat.le_of_ble_eq_true rfl) rfl ?_
  unfold t_659 at h
  refine lQ.loadN rfl rfl ?_
  refine lQ.loadI rfl rfl ?_
  refine lQ.loadN rfl rfl ?_
  refine lQ.get hR rfl (tf_0_8 hn) ?_
  refine lQ.get hR rfl (tf_6_6 hn) ?_
  obtain ⟨x1, hx, h⟩ := bindC h
  refine lQ.callI (F := (fun y A => x1 = y ∧ A = tp ad s A0)) (G := fun _ _ => False) (args := [.int v1, .int (s.1 606)]) (r := [.ref (adr ad 0)]) hR rfl rfl rfl (Nat.le_of_ble_eq_true rfl) (Nat.le_of_ble_eq_true rfl) (ts_560 hR hn hx (cI_mk ⟨rfl, rfl⟩)) ?_ (fun _ _ _ z => z.elim)
  rintro _ _ ⟨rfl, rfl⟩
  obtain ⟨v14, hy1, h1⟩ := bindC h
  have hJ1 : lQ R E 1 cd_659 14 [(0, .ref (adr ad 0)), (1, .int v1), (2, .int v2)] [.int v14, .ref (adr ad 0)] (tp ad s A0) Z := by
    refine lQ.loadN rfl rfl ?_
    refine lQ.get hR rfl (tf_0_1 hn) ?_
    obtain ⟨x3, hx, h1⟩ := bindC h1
    refine lQ.callVI (F := (fun y A => x3.1 = y ∧ A = tp ad x3.2 A0)) (G := fun _ _ => False) (args := [.ref (adr ad 0), .int v14, .int (s.1 1)]) (r := []) hR rfl rfl rfl (Nat.le_of_ble_eq_true rfl) (Nat.le_of_ble_eq_true rfl) rfl (tk_0 hn rfl) (ts_558 hR hn hx (cI_mk ⟨rfl, rfl⟩)) ?_ (fun _ _ _ z => z.elim)
    rintro _ _ ⟨rfl, rfl⟩
    rcases iteC h1 with ⟨hc, h1⟩ | ⟨hc, h1⟩
    · refine lQ.ifT rfl (decide_eq_true hc) ?_
      refine lQ.push rfl ?_
      obtain rfl := Option.some.inj h1
      exact lQ.retI rfl rfl hz
    · refine lQ.ifF rfl (decide_eq_false hc) ?_
      refine lQ.loadN rfl rfl ?_
      refine lQ.get hR rfl (tf_0_8 hn) ?_
      refine lQ.loadI rfl rfl ?_
      refine lQ.loadI rfl rfl ?_
      obtain ⟨x4, hx, h1⟩ := bindC h1
      refine lQ.callVI (F := (fun y A => x4 = y ∧ A = tp ad x3.2 A0)) (G := fun _ _ => False) (args := [.ref (adr ad 6), .int v1, .int v2]) (r := []) hR rfl rfl rfl (Nat.le_of_ble_eq_true rfl) (Nat.le_of_ble_eq_true rfl) rfl (tk_6 hn rfl) (ts_864 hR hn hx (cI_mk ⟨rfl, rfl⟩)) ?_ (fun _ _ _ z => z.elim)
      rintro _ _ ⟨rfl, rfl⟩
      refine lQ.goto rfl ?_
      obtain rfl := Option.some.inj h1
      exact lQ.retI rfl rfl hz
  rcases iteC hy1 with ⟨hc, hy1⟩ | ⟨hc, hy1⟩
  · refine lQ.ifT rfl (decide_eq_true hc) ?_
    refine lQ.push rfl ?_
    obtain rfl := Option.some.inj hy1
    exact lQ.sub (lSb rfl (lSb rfl (lSb rfl lSb0))) hJ1
  · refine lQ.ifF rfl (decide_eq_false hc) ?_
    refine lQ.loadI rfl rfl ?_
    refine lQ.push rfl ?_
    obtain ⟨x2, hx, hy1⟩ := bindC hy1
    refine lQ.callI (F := (fun y A => x2 = y ∧ A = tp ad s A0)) (G := fun _ _ => False) (args := [.int v2, .int 4]) (r := [.ref (adr ad 0)]) hR rfl rfl rfl (Nat.le_of_ble_eq_true rfl) (Nat.le_of_ble_eq_true rfl) (ts_560 hR hn hx (cI_mk ⟨rfl, rfl⟩)) ?_ (fun _ _ _ z => z.elim)
    rintro _ _ ⟨rfl, rfl⟩
    rcases iteC hy1 with ⟨hc, hy1⟩ | ⟨hc, hy1⟩
    · refine lQ.ifT rfl (decide_eq_true hc) ?_
      refine lQ.push rfl ?_
      obtain rfl := Option.some.inj hy1
      exact lQ.sub (lSb rfl (lSb rfl (lSb rfl lSb0))) hJ1
    · refine lQ.ifF rfl (decide_eq_false hc) ?_
      refine lQ.push rfl ?_
      refine lQ.goto rfl ?_
      obtain rfl := Option.some.inj hy1
      exact lQ.sub (lSb rfl (lSb rfl (lSb rfl lSb0))) hJ1
theorem ts_660 {R : lAR} (hR : lRok R) {E : lE} {ad : List Nat} (hn : tOk ad) {v1 : Int32} {v2 : Int32} {s : TS} {A0 : lMem} {x : Int32 × TS} (h : t_660 v1 v2 s = some x) {Z : lZ} (hz : Z (.inl (some (.int x.1))) (tp ad x.2 A0)) : lSQ R E 3 660 [.ref (adr ad 0), .int v1, .int v2] (tp ad s A0) Z := by
  refine lQ.sq pg_660 (Nat.le_of_ble_eq_true rfl) rfl ?_
  unfold t_660 at h
  refine lQ.loadN rfl rfl ?_
  refine lQ.loadI rfl rfl ?_
  refine lQ.loadI rfl rfl ?_
  obtain ⟨x1, hx, h⟩ := bindC h
  refine lQ.callI (F := (fun y A => x1 = y ∧ A = tp ad s A0)) (G := fun _ _ => False) (args := [.int v1, .int v2]) (r := [.ref (adr ad 0)]) hR rfl rfl rfl (Nat.le_of_ble_eq_true rfl) (Nat.le_of_ble_eq_true rfl) (ts_569 hR hn hx (cI_mk ⟨rfl, rfl⟩)) ?_ (fun _ _ _ z => z.elim)
  rintro _ _ ⟨rfl, rfl⟩
  refine lQ.loadN rfl rfl ?_
  refine lQ.get hR rfl (tf_0_1 hn) ?_
  obtain ⟨x2, hx, h⟩ := bindC h
  refine lQ.callVI (F := (fun y A => x2.1 = y ∧ A = tp ad x2.2 A0)) (G := fun _ _ => False) (args := [.ref (adr ad 0), .int x1, .int (s.1 1)]) (r := []) hR rfl rfl rfl (Nat.le_of_ble_eq_true rfl) (Nat.le_of_ble_eq_true rfl) rfl (tk_0 hn rfl) (ts_558 hR hn hx (cI_mk ⟨rfl, rfl⟩)) ?_ (fun _ _ _ z => z.elim)
  rintro _ _ ⟨rfl, rfl⟩
  rcases iteC h with ⟨hc, h⟩ | ⟨hc, h⟩
  · refine lQ.ifF rfl (decide_eq_false (fun z => z hc)) ?_
    refine lQ.push rfl ?_
    obtain rfl := Option.some.inj h
    exact lQ.retI rfl rfl hz
  · refine lQ.ifT rfl (decide_eq_true hc) ?_
    refine lQ.loadN rfl rfl ?_
    refine lQ.get hR rfl (tf_0_54 hn) ?_
    refine lQ.push rfl ?_
    refine lQ.loadI rfl rfl ?_
    refine lQ.binI rfl ?_
    refine lQ.loadI rfl rfl ?_
    refine lQ.binI rfl ?_
    obtain ⟨x3, hx, h⟩ := bindC h
    refine lQ.ald hR rfl (ta_44 hn hx) ?_
    obtain ⟨v22, hy1, h1⟩ := bindC h
    have hJ1 : lQ R E 2 cd_660 22 [(0, .ref (adr ad 0)), (1, .int v1), (2, .int v2)] [.int v22] (tp ad x2.2 A0) Z := by
      refine lQ.stI rfl (lN2s rfl rfl) ?_
      refine lQ.loadN rfl rfl ?_
      refine lQ.get hR rfl (tf_0_54 hn) ?_
      refine lQ.push rfl ?_
      refine lQ.loadI rfl rfl ?_
      refine lQ.binI rfl ?_
      refine lQ.loadI rfl rfl ?_
      refine lQ.binI rfl ?_
      refine lQ.push rfl ?_
      obtain ⟨s4, hx, h1⟩ := bindC h1
      refine lQ.bst hR rfl (tw_44 hn hx) ?_
      rintro _ rfl
      refine lQ.loadI rfl rfl ?_
      rcases iteC h1 with ⟨hg, h1⟩ | ⟨_, h1⟩
      case inr => cases h1
      have hb := hg
      obtain rfl := Option.some.inj h1
      exact lQ.retI rfl (fitB hb) hz
    rcases iteC hy1 with ⟨hc, hy1⟩ | ⟨hc, hy1⟩
    · refine lQ.ifF rfl (decide_eq_false (fun z => z hc)) ?_
      refine lQ.push rfl ?_
      refine lQ.goto rfl ?_
      obtain rfl := Option.some.inj hy1
      exact lQ.sub (lSb rfl (lSb rfl (lSb rfl lSb0))) hJ1
    · refine lQ.ifT rfl (decide_eq_true hc) ?_
      refine lQ.push rfl ?_
      obtain rfl := Option.some.inj hy1
      exact lQ.sub (lSb rfl (lSb rfl (lSb rfl lSb0))) hJ1
theorem ts_661 {R : lAR} (hR : lRok R) {E : lE} {ad : List Nat} (hn : tOk ad) {v1 : Int32} {v2 : Int32} {v3 : Int32} {s : TS} {A0 : lMem} {x : Int32 × TS} (h : t_661 v1 v2 v3 s = some x) {Z : lZ} (hz : Z (.inl (some (.int x.1))) (tp ad x.2 A0)) : lSQ R E 3 661 [.ref (adr ad 0), .int v1, .int v2, .int v3] (tp ad s A0) Z := by
  refine lQ.sq pg_661 (Nat.le_of_ble_eq_true rfl) rfl ?_
  unfold t_661 at h
  refine lQ.loadN rfl rfl ?_
  refine lQ.loadI rfl rfl ?_
  refine lQ.loadI rfl rfl ?_
  obtain ⟨x1, hx, h⟩ := bindC h
  refine lQ.callI (F := (fun y A => x1 = y ∧ A = tp ad s A0)) (G := fun _ _ => False) (args := [.int v1, .int v2]) (r := [.ref (adr ad 0)]) hR rfl rfl rfl (Nat.le_of_ble_eq_true rfl) (Nat.le_of_ble_eq_true rfl) (ts_569 hR hn hx (cI_mk ⟨rfl, rfl⟩)) ?_ (fun _ _ _ z => z.elim)
  rintro _ _ ⟨rfl, rfl⟩
  obtain ⟨v12, hy1, h1⟩ := bindC h
  have hJ1 : lQ R E 2 cd_661 12 [(0, .ref (adr ad 0)), (1, .int v1), (2, .int v2), (3, .int v3)] [.int v12, .ref (adr ad 0)] (tp ad s A0) Z := by
    refine lQ.loadN rfl rfl ?_
    refine lQ.get hR rfl (tf_0_1 hn) ?_
    obtain ⟨x3, hx, h1⟩ := bindC h1
    refine lQ.callVI (F := (fun y A => x3.1 = y ∧ A = tp ad x3.2 A0)) (G := fun _ _ => False) (args := [.ref (adr ad 0), .int v12, .int (s.1 1)]) (r := []) hR rfl rfl rfl (Nat.le_of_ble_eq_true rfl) (Nat.le_of_ble_eq_true rfl) rfl (tk_0 hn rfl) (ts_558 hR hn hx (cI_mk ⟨rfl, rfl⟩)) ?_ (fun _ _ _ z => z.elim)
    rintro _ _ ⟨rfl, rfl⟩
    rcases iteC h1 with ⟨hc, h1⟩ | ⟨hc, h1⟩
    · refine lQ.ifF rfl (decide_eq_false (fun z => z hc)) ?_
      refine lQ.push rfl ?_
      obtain rfl := Option.some.inj h1
      exact lQ.retI rfl rfl hz
    · refine lQ.ifT rfl (decide_eq_true hc) ?_
      refine lQ.push rfl ?_
      refine lQ.loadI rfl rfl ?_
      refine lQ.binI rfl ?_
      refine lQ.loadI rfl rfl ?_
      refine lQ.binI rfl ?_
      refine lQ.stI rfl (lN2s rfl rfl) ?_
      refine lQ.loadI rfl rfl ?_
      refine lQ.push rfl ?_
      rcases iteC h1 with ⟨hc, h1⟩ | ⟨hc, h1⟩
      · refine lQ.cmpF rfl (decide_eq_false (Int32.not_le.mpr hc)) ?_
        refine lQ.loadI rfl rfl ?_
        rcases iteC h1 with ⟨hc, h1⟩ | ⟨hc, h1⟩
        · refine lQ.ifF rfl (decide_eq_false (fun z => z hc)) ?_
          refine lQ.loadN rfl rfl ?_
          refine lQ.get hR rfl (tf_0_54 hn) ?_
          refine lQ.loadI rfl rfl ?_
          obtain ⟨x9, hx, h1⟩ := bindC h1
          refine lQ.ald hR rfl (ta_44 hn hx) ?_
          rcases iteC h1 with ⟨hc, h1⟩ | ⟨hc, h1⟩
          · refine lQ.ifT rfl (decide_eq_true hc) ?_
            refine lQ.push rfl ?_
            refine lQ.goto rfl ?_
            obtain rfl := Option.some.inj h1
            exact lQ.retI rfl rfl hz
          · refine lQ.ifF rfl (decide_eq_false hc) ?_
            refine lQ.push rfl ?_
            refine lQ.goto rfl ?_
            obtain rfl := Option.some.inj h1
            exact lQ.retI rfl rfl hz
        · refine lQ.ifT rfl (decide_eq_true hc) ?_
          refine lQ.loadN rfl rfl ?_
          refine lQ.get hR rfl (tf_0_56 hn) ?_
          refine lQ.loadI rfl rfl ?_
          obtain ⟨x7, hx, h1⟩ := bindC h1
          refine lQ.ald hR rfl (ta_46 hn hx) ?_
          rcases iteC h1 with ⟨hc, h1⟩ | ⟨hc, h1⟩
          · refine lQ.ifF rfl (decide_eq_false (fun z => z hc)) ?_
            refine lQ.push rfl ?_
            refine lQ.goto rfl ?_
            obtain rfl := Option.some.inj h1
            exact lQ.retI rfl rfl hz
          · refine lQ.ifT rfl (decide_eq_true hc) ?_
            refine lQ.loadN rfl rfl ?_
            refine lQ.get hR rfl (tf_0_56 hn) ?_
            refine lQ.loadI rfl rfl ?_
            obtain ⟨x8, hx, h1⟩ := bindC h1
            refine lQ.ald hR rfl (ta_46 hn hx) ?_
            obtain rfl := Option.some.inj h1
            exact lQ.retI rfl rfl hz
      · refine lQ.cmpT rfl (decide_eq_true (Int32.not_lt.mp hc)) ?_
        refine lQ.push rfl ?_
        refine lQ.stI rfl (lN2s rfl rfl) ?_
        refine lQ.push rfl ?_
        refine lQ.stI rfl (lN2s rfl rfl) ?_
        obtain ⟨v83, hy2, h2⟩ := bindC h1
        have hJ2 : lQ R E 2 cd_661 83 [(5, .int v83)] [] (tp ad x3.2 A0) Z := by
          refine lQ.loadI rfl rfl ?_
          obtain rfl := Option.some.inj h2
          exact lQ.retI rfl rfl hz
        refine lQ.sub (lSb rfl (lSb rfl (lSb rfl (lSb rfl (lSb rfl lSb0))))) (wh_run (P := fun p54 => lQ R E 2 cd_661 54 [(0, .ref (adr ad 0)), (1, .int v1), (2, .int v2), (5, .int p54.1), (6, .int p54.2)] [] (tp ad x3.2 A0) Z) hy2 ?_)
        intro p54 r3 hb3 hI3 hX3
        refine lQ.loadI rfl rfl ?_
        refine lQ.loadN rfl rfl ?_
        refine lQ.get hR rfl (tf_0_27 hn) ?_
        rcases iteC hb3 with ⟨hc, hb3⟩ | ⟨hc, hb3⟩
        · refine lQ.cmpF rfl (decide_eq_false (Int32.not_le.mpr hc)) ?_
          refine lQ.loadI rfl rfl ?_
          refine lQ.loadN rfl rfl ?_
          refine lQ.get hR rfl (tf_0_31 hn) ?_
          refine lQ.loadI rfl rfl ?_
          obtain ⟨x4, hx, hb3⟩ := bindC hb3
          refine lQ.ald hR rfl (ta_25 hn hx) ?_
          refine lQ.loadI rfl rfl ?_
          obtain ⟨v79, hy4, h4⟩ := bindC hb3
          have hJ4 : lQ R E 2 cd_661 79 [(0, .ref (adr ad 0)), (1, .int v1), (2, .int v2), (6, .int p54.2)] [.int v79, .int p54.1] (tp ad x3.2 A0) Z := by
            refine lQ.binI rfl ?_
            refine lQ.stI rfl (lN2n rfl) ?_
            refine lQ.inc rfl rfl (lN2s rfl rfl) ?_
            refine lQ.goto rfl ?_
            obtain rfl := Option.some.inj h4
            exact lQ.sub (lSb rfl (lSb rfl (lSb rfl (lSb rfl (lSb rfl lSb0))))) (hI3 _ rfl)
          rcases iteC hy4 with ⟨hc, hy4⟩ | ⟨hc, hy4⟩
          · refine lQ.cmpF rfl (decide_eq_false (fun z => z hc)) ?_
            refine lQ.loadN rfl rfl ?_
            refine lQ.get hR rfl (tf_0_32 hn) ?_
            refine lQ.loadI rfl rfl ?_
            obtain ⟨x5, hx, hy4⟩ := bindC hy4
            refine lQ.ald hR rfl (ta_26 hn hx) ?_
            refine lQ.loadI rfl rfl ?_
            rcases iteC hy4 with ⟨hc, hy4⟩ | ⟨hc, hy4⟩
            · refine lQ.cmpF rfl (decide_eq_false (fun z => z hc)) ?_
              refine lQ.loadN rfl rfl ?_
              refine lQ.get hR rfl (tf_0_33 hn) ?_
              refine lQ.loadI rfl rfl ?_
              obtain ⟨x6, hx, hy4⟩ := bindC hy4
              refine lQ.ald hR rfl (ta_27 hn hx) ?_
              rcases iteC hy4 with ⟨hc, hy4⟩ | ⟨hc, hy4⟩
              · refine lQ.ifF rfl (decide_eq_false (Int32.not_le.mpr hc)) ?_
                refine lQ.push rfl ?_
                refine lQ.goto rfl ?_
                obtain rfl := Option.some.inj hy4
                exact lQ.sub (lSb rfl (lSb rfl (lSb rfl (lSb rfl lSb0)))) hJ4
              · refine lQ.ifT rfl (decide_eq_true (Int32.not_lt.mp hc)) ?_
                refine lQ.push rfl ?_
                obtain rfl := Option.some.inj hy4
                exact lQ.sub (lSb rfl (lSb rfl (lSb rfl (lSb rfl lSb0)))) hJ4
            · refine lQ.cmpT rfl (decide_eq_true hc) ?_
              refine lQ.push rfl ?_
              obtain rfl := Option.some.inj hy4
              exact lQ.sub (lSb rfl (lSb rfl (lSb rfl (lSb rfl lSb0)))) hJ4
          · refine lQ.cmpT rfl (decide_eq_true hc) ?_
            refine lQ.push rfl ?_
            obtain rfl := Option.some.inj hy4
            exact lQ.sub (lSb rfl (lSb rfl (lSb rfl (lSb rfl lSb0)))) hJ4
        · refine lQ.cmpT rfl (decide_eq_true (Int32.not_lt.mp hc)) ?_
          obtain rfl := Option.some.inj hb3
          obtain rfl := hX3 _ rfl
          exact lQ.sub (lSb rfl lSb0) hJ2
  rcases iteC hy1 with ⟨hc, hy1⟩ | ⟨hc, hy1⟩
  · refine lQ.ifT rfl (decide_eq_true hc) ?_
    refine lQ.push rfl ?_
    obtain rfl := Option.some.inj hy1
    exact lQ.sub (lSb rfl (lSb rfl (lSb rfl (lSb rfl lSb0)))) hJ1
  · refine lQ.ifF rfl (decide_eq_false hc) ?_
    refine lQ.loadI rfl rfl ?_
    refine lQ.push rfl ?_
    obtain ⟨x2, hx, hy1⟩ := bindC hy1
    refine lQ.callI (F := (fun y A => x2 = y ∧ A = tp ad s A0)) (G := fun _ _ => False) (args := [.int v3, .int 3]) (r := [.ref (adr ad 0)]) hR rfl rfl rfl (Nat.le_of_ble_eq_true rfl) (Nat.le_of_ble_eq_true rfl) (ts_560 hR hn hx (cI_mk ⟨rfl, rfl⟩)) ?_ (fun _ _ _ z => z.elim)
    rintro _ _ ⟨rfl, rfl⟩
    rcases iteC hy1 with ⟨hc, hy1⟩ | ⟨hc, hy1⟩
    · refine lQ.ifT rfl (decide_eq_true hc) ?_
      refine lQ.push rfl ?_
      obtain rfl := Option.some.inj hy1
      exact lQ.sub (lSb rfl (lSb rfl (lSb rfl (lSb rfl lSb0)))) hJ1
    · refine lQ.ifF rfl (decide_eq_false hc) ?_
      refine lQ.push rfl ?_
      refine lQ.goto rfl ?_
      obtain rfl := Option.some.inj hy1
      exact lQ.sub (lSb rfl (lSb rfl (lSb rfl (lSb rfl lSb0)))) hJ1
theorem ts_664 {R : lAR} (hR : lRok R) {E : lE} {ad : List Nat} (hn : tOk ad) {s : TS} {A0 : lMem} {x : TS} (h : t_664 s = some x) {Z : lZ} (hz : Z (.inl none) (tp ad x A0)) : lSQ R E 4 664 [.ref (adr ad 0)] (tp ad s A0) Z := by
  refine lQ.sq pg_664 (Nat.le_of_ble_eq_true rfl) rfl ?_
  unfold t_664 at h
  refine lQ.push rfl ?_
  refine lQ.stI rfl (lN2s rfl rfl) ?_
  obtain ⟨v69, hy1, h1⟩ := bindC h
  have hJ1 : lQ R E 3 cd_664 69 [(0, .ref (adr ad 0))] [] (tp ad v69 A0) Z := by
    refine lQ.push rfl ?_
    refine lQ.stI rfl (lN2s rfl rfl) ?_
    obtain ⟨v84, hy2, h2⟩ := bindC h1
    have hJ2 : lQ R E 3 cd_664 84 [] [] (tp ad v84 A0) Z := by
      obtain rfl := Option.some.inj h2
      exact lQ.retV rfl hz
    refine lQ.sub (lSb rfl (lSb rfl lSb0)) (wh_run (P := fun p71 => lQ R E 3 cd_664 71 [(0, .ref (adr ad 0)), (1, .int p71.2)] [] (tp ad p71.1 A0) Z) hy2 ?_)
    intro p71 r3 hb3 hI3 hX3
    refine lQ.loadI rfl rfl ?_
    refine lQ.push rfl ?_
    rcases iteC hb3 with ⟨hc, hb3⟩ | ⟨hc, hb3⟩
    · refine lQ.cmpF rfl (decide_eq_false (Int32.not_le.mpr hc)) ?_
      refine lQ.loadN rfl rfl ?_
      refine lQ.get hR rfl (tf_0_54 hn) ?_
      refine lQ.loadI rfl rfl ?_
      refine lQ.loadN rfl rfl ?_
      refine lQ.get hR rfl (tf_0_55 hn) ?_
      refine lQ.loadI rfl rfl ?_
      obtain ⟨x10, hx, hb3⟩ := bindC hb3
      refine lQ.ald hR rfl (ta_45 hn hx) ?_
      obtain ⟨s11, hx, hb3⟩ := bindC hb3
      refine lQ.bst hR rfl (tw_44 hn hx) ?_
      rintro _ rfl
      refine lQ.inc rfl rfl (lN2s rfl rfl) ?_
      refine lQ.goto rfl ?_
      obtain rfl := Option.some.inj hb3
      exact lQ.sub (lSb rfl (lSb rfl lSb0)) (hI3 _ rfl)
    · refine lQ.cmpT rfl (decide_eq_true (Int32.not_lt.mp hc)) ?_
      obtain rfl := Option.some.inj hb3
      obtain rfl := hX3 _ rfl
      exact lQ.sub lSb0 hJ2
  refine lQ.sub (lSb rfl (lSb rfl lSb0)) (wh_run (P := fun p2 => lQ R E 3 cd_664 2 [(0, .ref (adr ad 0)), (1, .int p2.2)] [] (tp ad p2.1 A0) Z) hy1 ?_)
  intro p2 r4 hb4 hI4 hX4
  refine lQ.loadI rfl rfl ?_
  refine lQ.push rfl ?_
  rcases iteC hb4 with ⟨hc, hb4⟩ | ⟨hc, hb4⟩
  · refine lQ.cmpF rfl (decide_eq_false (Int32.not_le.mpr hc)) ?_
    refine lQ.loadN rfl rfl ?_
    refine lQ.get hR rfl (tf_0_55 hn) ?_
    refine lQ.loadI rfl rfl ?_
    refine lQ.loadN rfl rfl ?_
    refine lQ.get hR rfl (tf_0_54 hn) ?_
    refine lQ.loadI rfl rfl ?_
    obtain ⟨x1, hx, hb4⟩ := bindC hb4
    refine lQ.ald hR rfl (ta_44 hn hx) ?_
    obtain ⟨s2, hx, hb4⟩ := bindC hb4
    refine lQ.bst hR rfl (tw_45 hn hx) ?_
    rintro _ rfl
    refine lQ.push rfl ?_
    refine lQ.stI rfl (lN2s rfl rfl) ?_
    obtain ⟨v67, hy5, h5⟩ := bindC hb4
    have hJ5 : lQ R E 3 cd_664 67 [(0, .ref (adr ad 0)), (1, .int p2.2)] [] (tp ad v67 A0) Z := by
      refine lQ.inc rfl rfl (lN2s rfl rfl) ?_
      refine lQ.goto rfl ?_
      obtain rfl := Option.some.inj h5
      exact lQ.sub (lSb rfl (lSb rfl lSb0)) (hI4 _ rfl)
    refine lQ.sub (lSb rfl (lSb rfl (lSb rfl lSb0))) (wh_run (P := fun p15 => lQ R E 3 cd_664 15 [(0, .ref (adr ad 0)), (1, .int p2.2), (2, .int p15.2)] [] (tp ad p15.1 A0) Z) hy5 ?_)
    intro p15 r6 hb6 hI6 hX6
    refine lQ.loadI rfl rfl ?_
    refine lQ.push rfl ?_
    rcases iteC hb6 with ⟨hc, hb6⟩ | ⟨hc, hb6⟩
    · refine lQ.cmpF rfl (decide_eq_false (Int32.not_le.mpr hc)) ?_
      refine lQ.loadI rfl rfl ?_
      refine lQ.push rfl ?_
      refine lQ.divI rfl (by decide) ?_
      refine lQ.loadI rfl rfl ?_
      obtain ⟨x3, hx, hb6⟩ := bindC hb6
      refine lQ.callI (F := (fun y A => x3 = y ∧ A = tp ad p15.1 A0)) (G := fun _ _ => False) (args := [.int (p2.2 - p2.2 / (24 : Int32) * (24 : Int32)), .int p15.2]) (r := []) hR rfl rfl rfl (Nat.le_of_ble_eq_true rfl) (Nat.le_of_ble_eq_true rfl) (ts_589 hR hn hx (cI_mk ⟨rfl, rfl⟩)) ?_ (fun _ _ _ z => z.elim)
      rintro _ _ ⟨rfl, rfl⟩
      refine lQ.stI rfl (lN2s rfl rfl) ?_
      refine lQ.loadI rfl rfl ?_
      refine lQ.push rfl ?_
      refine lQ.divI rfl (by decide) ?_
      refine lQ.loadI rfl rfl ?_
      obtain ⟨x4, hx, hb6⟩ := bindC hb6
      refine lQ.callI (F := (fun y A => x4 = y ∧ A = tp ad p15.1 A0)) (G := fun _ _ => False) (args := [.int (p2.2 / 24), .int p15.2]) (r := []) hR rfl rfl rfl (Nat.le_of_ble_eq_true rfl) (Nat.le_of_ble_eq_true rfl) (ts_590 hR hn hx (cI_mk ⟨rfl, rfl⟩)) ?_ (fun _ _ _ z => z.elim)
      rintro _ _ ⟨rfl, rfl⟩
      refine lQ.stI rfl (lN2s rfl rfl) ?_
      refine lQ.loadN rfl rfl ?_
      refine lQ.get hR rfl (tf_0_55 hn) ?_
      refine lQ.loadI rfl rfl ?_
      refine lQ.loadN rfl rfl ?_
      refine lQ.get hR rfl (tf_0_55 hn) ?_
      refine lQ.loadI rfl rfl ?_
      obtain ⟨x5, hx, hb6⟩ := bindC hb6
      refine lQ.ald hR rfl (ta_45 hn hx) ?_
      obtain ⟨v64, hy7, h7⟩ := bindC hb6
      have hJ7 : lQ R E 3 cd_664 64 [(0, .ref (adr ad 0)), (1, .int p2.2), (2, .int p15.2)] [.int v64, .int p2.2, .ref (adr ad 45)] (tp ad p15.1 A0) Z := by
        obtain ⟨s9, hx, h7⟩ := bindC h7
        refine lQ.bst hR rfl (tw_45 hn hx) ?_
        rintro _ rfl
        refine lQ.inc rfl rfl (lN2s rfl rfl) ?_
        refine lQ.goto rfl ?_
        obtain rfl := Option.some.inj h7
        exact lQ.sub (lSb rfl (lSb rfl (lSb rfl lSb0))) (hI6 _ rfl)
      rcases iteC hy7 with ⟨hc, hy7⟩ | ⟨hc, hy7⟩
      · refine lQ.ifF rfl (decide_eq_false (fun z => z hc)) ?_
        refine lQ.loadI rfl rfl ?_
        refine lQ.loadI rfl rfl ?_
        obtain ⟨x6, hx, hy7⟩ := bindC hy7
        refine lQ.callI (F := (fun y A => x6 = y ∧ A = tp ad p15.1 A0)) (G := fun _ _ => False) (args := [.int x3, .int x4]) (r := [.int p2.2, .ref (adr ad 45)]) hR rfl rfl rfl (Nat.le_of_ble_eq_true rfl) (Nat.le_of_ble_eq_true rfl) (ts_569 hR hn hx (cI_mk ⟨rfl, rfl⟩)) ?_ (fun _ _ _ z => z.elim)
        rintro _ _ ⟨rfl, rfl⟩
        rcases iteC hy7 with ⟨hc, hy7⟩ | ⟨hc, hy7⟩
        · refine lQ.ifT rfl (decide_eq_true hc) ?_
          refine lQ.push rfl ?_
          obtain rfl := Option.some.inj hy7
          exact lQ.sub (lSb rfl (lSb rfl (lSb rfl lSb0))) hJ7
        · refine lQ.ifF rfl (decide_eq_false hc) ?_
          refine lQ.loadN rfl rfl ?_
          refine lQ.get hR rfl (tf_0_54 hn) ?_
          refine lQ.push rfl ?_
          refine lQ.loadI rfl rfl ?_
          refine lQ.binI rfl ?_
          refine lQ.loadI rfl rfl ?_
          refine lQ.binI rfl ?_
          obtain ⟨x7, hx, hy7⟩ := bindC hy7
          refine lQ.ald hR rfl (ta_44 hn hx) ?_
          rcases iteC hy7 with ⟨hc, hy7⟩ | ⟨hc, hy7⟩
          · refine lQ.ifT rfl (decide_eq_true hc) ?_
            refine lQ.push rfl ?_
            obtain rfl := Option.some.inj hy7
            exact lQ.sub (lSb rfl (lSb rfl (lSb rfl lSb0))) hJ7
          · refine lQ.ifF rfl (decide_eq_false hc) ?_
            refine lQ.loadN rfl rfl ?_
            refine lQ.loadI rfl rfl ?_
            refine lQ.push rfl ?_
            refine lQ.divI rfl (by decide) ?_
            refine lQ.loadI rfl rfl ?_
            refine lQ.push rfl ?_
            refine lQ.divI rfl (by decide) ?_
            refine lQ.loadI rfl rfl ?_
            obtain ⟨x8, hx, hy7⟩ := bindC hy7
            refine lQ.callVI (F := (fun y A => x8 = y ∧ A = tp ad p15.1 A0)) (G := fun _ _ => False) (args := [.ref (adr ad 0), .int (p2.2 - p2.2 / (24 : Int32) * (24 : Int32)), .int (p2.2 / 24), .int p15.2]) (r := [.int p2.2, .ref (adr ad 45)]) hR rfl rfl rfl (Nat.le_of_ble_eq_true rfl) (Nat.le_of_ble_eq_true rfl) rfl (tk_0 hn rfl) (ts_591 hR hn hx (cI_mk ⟨rfl, rfl⟩)) ?_ (fun _ _ _ z => z.elim)
            rintro _ _ ⟨rfl, rfl⟩
            rcases iteC hy7 with ⟨hc, hy7⟩ | ⟨hc, hy7⟩
            · refine lQ.ifT rfl (decide_eq_true hc) ?_
              refine lQ.push rfl ?_
              obtain rfl := Option.some.inj hy7
              exact lQ.sub (lSb rfl (lSb rfl (lSb rfl lSb0))) hJ7
            · refine lQ.ifF rfl (decide_eq_false hc) ?_
              refine lQ.push rfl ?_
              refine lQ.goto rfl ?_
              obtain rfl := Option.some.inj hy7
              exact lQ.sub (lSb rfl (lSb rfl (lSb rfl lSb0))) hJ7
      · refine lQ.ifT rfl (decide_eq_true hc) ?_
        refine lQ.push rfl ?_
        refine lQ.goto rfl ?_
        obtain rfl := Option.some.inj hy7
        exact lQ.sub (lSb rfl (lSb rfl (lSb rfl lSb0))) hJ7
    · refine lQ.cmpT rfl (decide_eq_true (Int32.not_lt.mp hc)) ?_
      obtain rfl := Option.some.inj hb6
      obtain rfl := hX6 _ rfl
      exact lQ.sub (lSb rfl (lSb rfl lSb0)) hJ5
  · refine lQ.cmpT rfl (decide_eq_true (Int32.not_lt.mp hc)) ?_
    obtain rfl := Option.some.inj hb4
    obtain rfl := hX4 _ rfl
    exact lQ.sub (lSb rfl lSb0) hJ1
theorem ts_666 {R : lAR} (hR : lRok R) {E : lE} {ad : List Nat} (hn : tOk ad) {v1 : Int32} {s : TS} {A0 : lMem} {x : Int32} (h : t_666 v1 s = some x) {Z : lZ} (hz : Z (.inl (some (.int x))) (tp ad s A0)) : lSQ R E 1 666 [.ref (adr ad 0), .int v1] (tp ad s A0) Z := by
  refine lQ.sq pg_666 (Nat.le_of_ble_eq_true rfl) rfl ?_
  unfold t_666 at h
  refine lQ.push rfl ?_
  refine lQ.stI rfl (lN2s rfl rfl) ?_
  refine lQ.push rfl ?_
  refine lQ.stI rfl (lN2s rfl rfl) ?_
  obtain ⟨v28, hy1, h1⟩ := bindC h
  have hJ1 : lQ R E 0 cd_666 28 [(2, .int v28)] [] (tp ad s A0) Z := by
    refine lQ.loadI rfl rfl ?_
    obtain rfl := Option.some.inj h1
    exact lQ.retI rfl rfl hz
  refine lQ.sub (lSb rfl (lSb rfl (lSb rfl (lSb rfl lSb0)))) (wh_run (P := fun p4 => lQ R E 0 cd_666 4 [(0, .ref (adr ad 0)), (1, .int v1), (2, .int p4.1), (3, .int p4.2)] [] (tp ad s A0) Z) hy1 ?_)
  intro p4 r2 hb2 hI2 hX2
  refine lQ.loadI rfl rfl ?_
  refine lQ.push rfl ?_
  rcases iteC hb2 with ⟨hc, hb2⟩ | ⟨hc, hb2⟩
  · refine lQ.cmpF rfl (decide_eq_false (Int32.not_le.mpr hc)) ?_
    refine lQ.loadI rfl rfl ?_
    refine lQ.loadN rfl rfl ?_
    refine lQ.get hR rfl (tf_0_54 hn) ?_
    refine lQ.loadI rfl rfl ?_
    obtain ⟨x1, hx, hb2⟩ := bindC hb2
    refine lQ.ald hR rfl (ta_44 hn hx) ?_
    obtain ⟨v24, hy3, h3⟩ := bindC hb2
    have hJ3 : lQ R E 0 cd_666 24 [(0, .ref (adr ad 0)), (1, .int v1), (3, .int p4.2)] [.int v24, .int p4.1] (tp ad s A0) Z := by
      refine lQ.binI rfl ?_
      refine lQ.stI rfl (lN2s rfl rfl) ?_
      refine lQ.inc rfl rfl (lN2s rfl rfl) ?_
      refine lQ.goto rfl ?_
      obtain rfl := Option.some.inj h3
      exact lQ.sub (lSb rfl (lSb rfl (lSb rfl (lSb rfl lSb0)))) (hI2 _ rfl)
    rcases iteC hy3 with ⟨hc, hy3⟩ | ⟨hc, hy3⟩
    · refine lQ.ifT rfl (decide_eq_true hc) ?_
      refine lQ.push rfl ?_
      obtain rfl := Option.some.inj hy3
      exact lQ.sub (lSb rfl (lSb rfl (lSb rfl lSb0))) hJ3
    · refine lQ.ifF rfl (decide_eq_false hc) ?_
      refine lQ.loadI rfl rfl ?_
      rcases iteC hy3 with ⟨hc, hy3⟩ | ⟨hc, hy3⟩
      · refine lQ.ifT rfl (decide_eq_true hc) ?_
        refine lQ.push rfl ?_
        refine lQ.goto rfl ?_
        obtain rfl := Option.some.inj hy3
        exact lQ.sub (lSb rfl (lSb rfl (lSb rfl lSb0))) hJ3
      · refine lQ.ifF rfl (decide_eq_false hc) ?_
        refine lQ.loadN rfl rfl ?_
        refine lQ.get hR rfl (tf_0_57 hn) ?_
        refine lQ.loadI rfl rfl ?_
        obtain ⟨x2, hx, hy3⟩ := bindC hy3
        refine lQ.ald hR rfl (ta_47 hn hx) ?_
        refine lQ.loadI rfl rfl ?_
        rcases iteC hy3 with ⟨hc, hy3⟩ | ⟨hc, hy3⟩
        · refine lQ.cmpF rfl (decide_eq_false (fun z => z hc)) ?_
          refine lQ.push rfl ?_
          refine lQ.goto rfl ?_
          obtain rfl := Option.some.inj hy3
          exact lQ.sub (lSb rfl (lSb rfl (lSb rfl lSb0))) hJ3
        · refine lQ.cmpT rfl (decide_eq_true hc) ?_
          refine lQ.push rfl ?_
          obtain rfl := Option.some.inj hy3
          exact lQ.sub (lSb rfl (lSb rfl (lSb rfl lSb0))) hJ3
  · refine lQ.cmpT rfl (decide_eq_true (Int32.not_lt.mp hc)) ?_
    obtain rfl := Option.some.inj hb2
    obtain rfl := hX2 _ rfl
    exact lQ.sub (lSb rfl lSb0) hJ1
theorem ts_665 {R : lAR} (hR : lRok R) {E : lE} {ad : List Nat} (hn : tOk ad) {s : TS} {A0 : lMem} {x : TS} (h : t_665 s = some x) {Z : lZ} (hz : Z (.inl none) (tp ad x A0)) : lSQ R E 2 665 [.ref (adr ad 0)] (tp ad s A0) Z := by
  refine lQ.sq pg_665 (Nat.le_of_ble_eq_true rfl) rfl ?_
  unfold t_665 at h
  refine lQ.push rfl ?_
  refine lQ.stI rfl (lN2s rfl rfl) ?_
  obtain ⟨v25, hy1, h1⟩ := bindC h
  have hJ1 : lQ R E 1 cd_665 25 [(0, .ref (adr ad 0))] [] (tp ad v25 A0) Z := by
    refine lQ.push rfl ?_
    refine lQ.stI rfl (lN2s rfl rfl) ?_
    obtain ⟨v70, hy2, h2⟩ := bindC h1
    have hJ2 : lQ R E 1 cd_665 70 [] [] (tp ad v70 A0) Z := by
      obtain rfl := Option.some.inj h2
      exact lQ.retV rfl hz
    refine lQ.sub (lSb rfl (lSb rfl lSb0)) (wh_run (P := fun p27 => lQ R E 1 cd_665 27 [(0, .ref (adr ad 0)), (1, .int p27.2)] [] (tp ad p27.1 A0) Z) hy2 ?_)
    intro p27 r3 hb3 hI3 hX3
    refine lQ.loadI rfl rfl ?_
    refine lQ.loadN rfl rfl ?_
    refine lQ.get hR rfl (tf_0_6 hn) ?_
    refine lQ.get hR rfl (tf_4_0 hn) ?_
    rcases iteC hb3 with ⟨hc, hb3⟩ | ⟨hc, hb3⟩
    · refine lQ.cmpF rfl (decide_eq_false (Int32.not_le.mpr hc)) ?_
      refine lQ.loadN rfl rfl ?_
      refine lQ.get hR rfl (tf_0_6 hn) ?_
      refine lQ.get hR rfl (tf_4_13 hn) ?_
      refine lQ.loadI rfl rfl ?_
      obtain ⟨x3, hx, hb3⟩ := bindC hb3
      refine lQ.ald hR rfl (ta_137 hn hx) ?_
      obtain ⟨v68, hy4, h4⟩ := bindC hb3
      have hJ4 : lQ R E 1 cd_665 68 [(0, .ref (adr ad 0)), (1, .int p27.2)] [] (tp ad v68 A0) Z := by
        refine lQ.inc rfl rfl (lN2s rfl rfl) ?_
        refine lQ.goto rfl ?_
        obtain rfl := Option.some.inj h4
        exact lQ.sub (lSb rfl (lSb rfl lSb0)) (hI3 _ rfl)
      rcases iteC hy4 with ⟨hc, hy4⟩ | ⟨hc, hy4⟩
      · refine lQ.ifF rfl (decide_eq_false (Int32.not_le.mpr hc)) ?_
        refine lQ.loadN rfl rfl ?_
        refine lQ.get hR rfl (tf_0_6 hn) ?_
        refine lQ.get hR rfl (tf_4_7 hn) ?_
        refine lQ.loadI rfl rfl ?_
        obtain ⟨x4, hx, hy4⟩ := bindC hy4
        refine lQ.ald hR rfl (ta_131 hn hx) ?_
        refine lQ.stI rfl (lN2s rfl rfl) ?_
        refine lQ.loadN rfl rfl ?_
        refine lQ.get hR rfl (tf_0_5 hn) ?_
        refine lQ.get hR rfl (tf_3_2 hn) ?_
        refine lQ.loadN rfl rfl ?_
        refine lQ.get hR rfl (tf_0_9 hn) ?_
        refine lQ.loadN rfl rfl ?_
        refine lQ.get hR rfl (tf_0_6 hn) ?_
        refine lQ.get hR rfl (tf_4_13 hn) ?_
        refine lQ.loadI rfl rfl ?_
        obtain ⟨x5, hx, hy4⟩ := bindC hy4
        refine lQ.ald hR rfl (ta_137 hn hx) ?_
        refine lQ.binI rfl ?_
        refine lQ.push rfl ?_
        refine lQ.binI rfl ?_
        refine lQ.loadI rfl rfl ?_
        obtain ⟨v67, hy5, h5⟩ := bindC hy4
        have hJ5 : lQ R E 1 cd_665 67 [(0, .ref (adr ad 0)), (1, .int p27.2)] [.int v67, .int (((p27.1.1 9) + x5) - 1), .ref (adr ad 99)] (tp ad p27.1 A0) Z := by
          obtain ⟨s6, hx, h5⟩ := bindC h5
          refine lQ.ast hR rfl (tw_99 hn hx) ?_
          rintro _ rfl
          obtain rfl := Option.some.inj h5
          exact lQ.sub (lSb rfl (lSb rfl lSb0)) hJ4
        rcases iteC hy5 with ⟨hc, hy5⟩ | ⟨hc, hy5⟩
        · refine lQ.ifF rfl (decide_eq_false (Int32.not_le.mpr hc)) ?_
          refine lQ.push rfl ?_
          refine lQ.goto rfl ?_
          obtain rfl := Option.some.inj hy5
          exact lQ.sub (lSb rfl (lSb rfl lSb0)) hJ5
        · refine lQ.ifT rfl (decide_eq_true (Int32.not_lt.mp hc)) ?_
          refine lQ.loadI rfl rfl ?_
          refine lQ.push rfl ?_
          rcases iteC hy5 with ⟨hc, hy5⟩ | ⟨hc, hy5⟩
          · refine lQ.cmpF rfl (decide_eq_false (Int32.not_le.mpr hc)) ?_
            refine lQ.push rfl ?_
            refine lQ.goto rfl ?_
            obtain rfl := Option.some.inj hy5
            exact lQ.sub (lSb rfl (lSb rfl lSb0)) hJ5
          · refine lQ.cmpT rfl (decide_eq_true (Int32.not_lt.mp hc)) ?_
            refine lQ.loadI rfl rfl ?_
            obtain rfl := Option.some.inj hy5
            exact lQ.sub (lSb rfl (lSb rfl lSb0)) hJ5
      · refine lQ.ifT rfl (decide_eq_true (Int32.not_lt.mp hc)) ?_
        obtain rfl := Option.some.inj hy4
        exact lQ.sub (lSb rfl (lSb rfl lSb0)) hJ4
    · refine lQ.cmpT rfl (decide_eq_true (Int32.not_lt.mp hc)) ?_
      obtain rfl := Option.some.inj hb3
      obtain rfl := hX3 _ rfl
      exact lQ.sub lSb0 hJ2
  refine lQ.sub (lSb rfl (lSb rfl lSb0)) (wh_run (P := fun p2 => lQ R E 1 cd_665 2 [(0, .ref (adr ad 0)), (1, .int p2.2)] [] (tp ad p2.1 A0) Z) hy1 ?_)
  intro p2 r6 hb6 hI6 hX6
  refine lQ.loadI rfl rfl ?_
  refine lQ.loadN rfl rfl ?_
  refine lQ.get hR rfl (tf_0_9 hn) ?_
  rcases iteC hb6 with ⟨hc, hb6⟩ | ⟨hc, hb6⟩
  · refine lQ.cmpF rfl (decide_eq_false (Int32.not_le.mpr hc)) ?_
    refine lQ.push rfl ?_
    refine lQ.loadN rfl rfl ?_
    refine lQ.loadI rfl rfl ?_
    obtain ⟨x1, hx, hb6⟩ := bindC hb6
    refine lQ.callVI (F := (fun y A => x1 = y ∧ A = tp ad p2.1 A0)) (G := fun _ _ => False) (args := [.ref (adr ad 0), .int p2.2]) (r := [.int 10]) hR rfl rfl rfl (Nat.le_of_ble_eq_true rfl) (Nat.le_of_ble_eq_true rfl) rfl (tk_0 hn rfl) (ts_666 hR hn hx (cI_mk ⟨rfl, rfl⟩)) ?_ (fun _ _ _ z => z.elim)
    rintro _ _ ⟨rfl, rfl⟩
    refine lQ.binI rfl ?_
    refine lQ.stI rfl (lN2s rfl rfl) ?_
    refine lQ.loadN rfl rfl ?_
    refine lQ.get hR rfl (tf_0_5 hn) ?_
    refine lQ.get hR rfl (tf_3_2 hn) ?_
    refine lQ.loadI rfl rfl ?_
    refine lQ.loadI rfl rfl ?_
    refine lQ.push rfl ?_
    obtain ⟨v22, hy7, h7⟩ := bindC hb6
    have hJ7 : lQ R E 1 cd_665 22 [(0, .ref (adr ad 0)), (1, .int p2.2)] [.int v22, .int p2.2, .ref (adr ad 99)] (tp ad p2.1 A0) Z := by
      obtain ⟨s2, hx, h7⟩ := bindC h7
      refine lQ.ast hR rfl (tw_99 hn hx) ?_
      rintro _ rfl
      refine lQ.inc rfl rfl (lN2s rfl rfl) ?_
      refine lQ.goto rfl ?_
      obtain rfl := Option.some.inj h7
      exact lQ.sub (lSb rfl (lSb rfl lSb0)) (hI6 _ rfl)
    rcases iteC hy7 with ⟨hc, hy7⟩ | ⟨hc, hy7⟩
    · refine lQ.cmpF rfl (decide_eq_false (Int32.not_le.mpr hc)) ?_
      refine lQ.push rfl ?_
      refine lQ.goto rfl ?_
      obtain rfl := Option.some.inj hy7
      exact lQ.sub (lSb rfl (lSb rfl lSb0)) hJ7
    · refine lQ.cmpT rfl (decide_eq_true (Int32.not_lt.mp hc)) ?_
      refine lQ.loadI rfl rfl ?_
      obtain rfl := Option.some.inj hy7
      exact lQ.sub (lSb rfl (lSb rfl lSb0)) hJ7
  · refine lQ.cmpT rfl (decide_eq_true (Int32.not_lt.mp hc)) ?_
    obtain rfl := Option.some.inj hb6
    obtain rfl := hX6 _ rfl
    exact lQ.sub (lSb rfl lSb0) hJ1
theorem ts_804 {R : lAR} (hR : lRok R) {E : lE} {ad : List Nat} (hn : tOk ad) {v1 : Int32} {s : TS} {A0 : lMem} {x : Int32 × TS} (h : t_804 v1 s = some x) {Z : lZ} (hz : Z (.inl (some (.int x.1))) (tp ad x.2 A0)) : lSQ R E 6 804 [.ref (adr ad 3), .int v1] (tp ad s A0) Z := by
  refine lQ.sq pg_804 (Nat.le_of_ble_eq_true rfl) rfl ?_
  unfold t_804 at h
  refine lQ.loadN rfl rfl ?_
  refine lQ.loadI rfl rfl ?_
  refine lQ.push rfl ?_
  obtain ⟨x1, hx, h⟩ := bindC h
  refine lQ.callVI (F := (fun y A => x1 = y ∧ A = tp ad s A0)) (G := fun _ _ => False) (args := [.ref (adr ad 3), .int v1, .int 0]) (r := []) hR rfl rfl rfl (Nat.le_of_ble_eq_true rfl) (Nat.le_of_ble_eq_true rfl) rfl (tk_3 hn rfl) (ts_795 hR hn hx (cI_mk ⟨rfl, rfl⟩)) ?_ (fun _ _ _ z => z.elim)
  rintro _ _ ⟨rfl, rfl⟩
  rcases iteC h with ⟨hc, h⟩ | ⟨hc, h⟩
  · refine lQ.ifF rfl (decide_eq_false (fun z => z hc)) ?_
    refine lQ.loadN rfl rfl ?_
    refine lQ.get hR rfl (tf_3_26 hn) ?_
    refine lQ.loadI rfl rfl ?_
    obtain ⟨x13, hx, h⟩ := bindC h
    refine lQ.ald hR rfl (ta_117 hn hx) ?_
    refine lQ.push rfl ?_
    obtain ⟨v19, hy1, h1⟩ := bindC h
    have hJ1 : lQ R E 5 cd_804 19 [(0, .ref (adr ad 3)), (1, .int v1)] [.int v19] (tp ad s A0) Z := by
      refine lQ.stI rfl (lN2s rfl rfl) ?_
      refine lQ.loadI rfl rfl ?_
      obtain ⟨v26, hy2, h2⟩ := bindC h1
      have hJ2 : lQ R E 5 cd_804 26 [(0, .ref (adr ad 3)), (1, .int v1), (2, .int v19)] [] (tp ad v26 A0) Z := by
        refine lQ.loadI rfl rfl ?_
        obtain ⟨v37, hy3, h3⟩ := bindC h2
        have hJ3 : lQ R E 5 cd_804 37 [(2, .int v19)] [] (tp ad v37 A0) Z := by
          refine lQ.loadI rfl rfl ?_
          rcases iteC h3 with ⟨hc, h3⟩ | ⟨hc, h3⟩
          · refine lQ.ifT rfl (decide_eq_true hc) ?_
            refine lQ.push rfl ?_
            obtain rfl := Option.some.inj h3
            exact lQ.retI rfl rfl hz
          · refine lQ.ifF rfl (decide_eq_false hc) ?_
            refine lQ.push rfl ?_
            refine lQ.goto rfl ?_
            obtain rfl := Option.some.inj h3
            exact lQ.retI rfl rfl hz
        obtain ⟨y4, hy4, h4⟩ := bindC hy3
        have hJ4 : ∀ v34, y4 = .inl v34 → lQ R E 5 cd_804 34 [(0, .ref (adr ad 3)), (1, .int v1), (2, .int v19)] [] (tp ad v26 A0) Z := by
          rintro v34 rfl
          have h4 := elimC h4
          refine lQ.loadN rfl rfl ?_
          refine lQ.loadI rfl rfl ?_
          obtain ⟨x17, hx, h4⟩ := bindC h4
          refine lQ.callVV (F := (fun A => A = tp ad x17 A0)) (G := fun _ _ => False) (args := [.ref (adr ad 3), .int v1]) (r := []) hR rfl rfl rfl (Nat.le_of_ble_eq_true rfl) (Nat.le_of_ble_eq_true rfl) rfl (tk_3 hn rfl) (ts_791 hR hn hx (cV_mk rfl)) ?_ (fun _ _ _ z => z.elim)
          rintro _ rfl
          obtain rfl := Option.some.inj h4
          exact lQ.sub (lSb rfl lSb0) hJ3
        rcases iteC hy4 with ⟨hc, hy4⟩ | ⟨hc, hy4⟩
        · refine lQ.ifF rfl (decide_eq_false (fun z => z hc)) ?_
          refine lQ.loadN rfl rfl ?_
          refine lQ.get hR rfl (tf_3_26 hn) ?_
          refine lQ.loadI rfl rfl ?_
          obtain ⟨x16, hx, hy4⟩ := bindC hy4
          refine lQ.ald hR rfl (ta_117 hn hx) ?_
          refine lQ.push rfl ?_
          rcases iteC hy4 with ⟨hc, hy4⟩ | ⟨hc, hy4⟩
          · refine lQ.cmpF rfl (decide_eq_false (fun z => z hc)) ?_
            obtain rfl := Option.some.inj hy4
            exact lQ.sub (lSb rfl (lSb rfl (lSb rfl lSb0))) (hJ4 _ rfl)
          · refine lQ.cmpT rfl (decide_eq_true hc) ?_
            obtain rfl := Option.some.inj hy4
            obtain rfl := elimD h4
            exact lQ.sub (lSb rfl lSb0) hJ3
        · refine lQ.ifT rfl (decide_eq_true hc) ?_
          obtain rfl := Option.some.inj hy4
          exact lQ.sub (lSb rfl (lSb rfl (lSb rfl lSb0))) (hJ4 _ rfl)
      rcases iteC hy2 with ⟨hc, hy2⟩ | ⟨hc, hy2⟩
      · refine lQ.ifT rfl (decide_eq_true hc) ?_
        obtain rfl := Option.some.inj hy2
        exact lQ.sub (lSb rfl (lSb rfl (lSb rfl lSb0))) hJ2
      · refine lQ.ifF rfl (decide_eq_false hc) ?_
        refine lQ.loadN rfl rfl ?_
        refine lQ.loadI rfl rfl ?_
        refine lQ.push rfl ?_
        obtain ⟨x15, hx, hy2⟩ := bindC hy2
        refine lQ.callVV (F := (fun A => A = tp ad x15 A0)) (G := fun _ _ => False) (args := [.ref (adr ad 3), .int v1, .int 0]) (r := []) hR rfl rfl rfl (Nat.le_of_ble_eq_true rfl) (Nat.le_of_ble_eq_true rfl) rfl (tk_3 hn rfl) (ts_801 hR hn hx (cV_mk rfl)) ?_ (fun _ _ _ z => z.elim)
        rintro _ rfl
        obtain rfl := Option.some.inj hy2
        exact lQ.sub (lSb rfl (lSb rfl (lSb rfl lSb0))) hJ2
    rcases iteC hy1 with ⟨hc, hy1⟩ | ⟨hc, hy1⟩
    · refine lQ.cmpF rfl (decide_eq_false (fun z => z hc)) ?_
      refine lQ.loadN rfl rfl ?_
      refine lQ.get hR rfl (tf_3_20 hn) ?_
      refine lQ.loadI rfl rfl ?_
      obtain ⟨x14, hx, hy1⟩ := bindC hy1
      refine lQ.ald hR rfl (ta_113 hn hx) ?_
      rcases iteC hy1 with ⟨hc, hy1⟩ | ⟨hc, hy1⟩
      · refine lQ.ifF rfl (decide_eq_false (fun z => z hc)) ?_
        refine lQ.push rfl ?_
        refine lQ.goto rfl ?_
        obtain rfl := Option.some.inj hy1
        exact lQ.sub (lSb rfl (lSb rfl lSb0)) hJ1
      · refine lQ.ifT rfl (decide_eq_true hc) ?_
        refine lQ.push rfl ?_
        obtain rfl := Option.some.inj hy1
        exact lQ.sub (lSb rfl (lSb rfl lSb0)) hJ1
    · refine lQ.cmpT rfl (decide_eq_true hc) ?_
      refine lQ.push rfl ?_
      obtain rfl := Option.some.inj hy1
      exact lQ.sub (lSb rfl (lSb rfl lSb0)) hJ1
  · refine lQ.ifT rfl (decide_eq_true hc) ?_
    refine lQ.loadN rfl rfl ?_
    refine lQ.get hR rfl (tf_3_26 hn) ?_
    refine lQ.loadI rfl rfl ?_
    obtain ⟨x2, hx, h⟩ := bindC h
    refine lQ.ald hR rfl (ta_117 hn hx) ?_
    refine lQ.push rfl ?_
    rcases iteC h with ⟨hc, h⟩ | ⟨hc, h⟩
    · refine lQ.cmpF rfl (decide_eq_false (fun z => z hc)) ?_
      refine lQ.push rfl ?_
      obtain rfl := Option.some.inj h
      exact lQ.retI rfl rfl hz
    · refine lQ.cmpT rfl (decide_eq_true hc) ?_
      refine lQ.loadN rfl rfl ?_
      refine lQ.get hR rfl (tf_3_26 hn) ?_
      refine lQ.loadI rfl rfl ?_
      obtain ⟨x3, hx, h⟩ := bindC h
      refine lQ.ald hR rfl (ta_117 hn hx) ?_
      obtain ⟨v67, hy5, h5⟩ := bindC h
      have hJ5 : lQ R E 5 cd_804 67 [(0, .ref (adr ad 3)), (1, .int v1)] [] (tp ad v67 A0) Z := by
        refine lQ.loadN rfl rfl ?_
        refine lQ.get hR rfl (tf_3_1 hn) ?_
        refine lQ.loadN rfl rfl ?_
        refine lQ.get hR rfl (tf_3_27 hn) ?_
        refine lQ.loadI rfl rfl ?_
        obtain ⟨x6, hx, h5⟩ := bindC h5
        refine lQ.ald hR rfl (ta_118 hn hx) ?_
        refine lQ.loadN rfl rfl ?_
        refine lQ.get hR rfl (tf_3_19 hn) ?_
        refine lQ.loadI rfl rfl ?_
        obtain ⟨x7, hx, h5⟩ := bindC h5
        refine lQ.ald hR rfl (ta_112 hn hx) ?_
        refine lQ.binI rfl ?_
        obtain ⟨y6, hy6, h6⟩ := bindC h5
        have hJ6 : ∀ v91, y6 = .inl v91 → lQ R E 5 cd_804 91 [(0, .ref (adr ad 3)), (1, .int v1)] [] (tp ad v67 A0) Z := by
          rintro v91 rfl
          have h6 := elimC h6
          refine lQ.loadN rfl rfl ?_
          refine lQ.loadI rfl rfl ?_
          obtain ⟨x10, hx, h6⟩ := bindC h6
          refine lQ.callVV (F := (fun A => A = tp ad x10 A0)) (G := fun _ _ => False) (args := [.ref (adr ad 3), .int v1]) (r := []) hR rfl rfl rfl (Nat.le_of_ble_eq_true rfl) (Nat.le_of_ble_eq_true rfl) rfl (tk_3 hn rfl) (ts_791 hR hn hx (cV_mk rfl)) ?_ (fun _ _ _ z => z.elim)
          rintro _ rfl
          refine lQ.loadN rfl rfl ?_
          refine lQ.get hR rfl (tf_3_26 hn) ?_
          refine lQ.loadI rfl rfl ?_
          refine lQ.push rfl ?_
          obtain ⟨s11, hx, h6⟩ := bindC h6
          refine lQ.ast hR rfl (tw_117 hn hx) ?_
          rintro _ rfl
          refine lQ.loadN rfl rfl ?_
          refine lQ.loadI rfl rfl ?_
          refine lQ.push rfl ?_
          obtain ⟨x12, hx, h6⟩ := bindC h6
          refine lQ.callVV (F := (fun A => A = tp ad x12 A0)) (G := fun _ _ => False) (args := [.ref (adr ad 3), .int v1, .int 1]) (r := []) hR rfl rfl rfl (Nat.le_of_ble_eq_true rfl) (Nat.le_of_ble_eq_true rfl) rfl (tk_3 hn rfl) (ts_801 hR hn hx (cV_mk rfl)) ?_ (fun _ _ _ z => z.elim)
          rintro _ rfl
          refine lQ.push rfl ?_
          obtain rfl := Option.some.inj h6
          exact lQ.retI rfl rfl hz
        rcases iteC hy6 with ⟨hc, hy6⟩ | ⟨hc, hy6⟩
        · refine lQ.cmpF rfl (decide_eq_false (Int32.not_le.mpr hc)) ?_
          refine lQ.loadN rfl rfl ?_
          refine lQ.get hR rfl (tf_3_29 hn) ?_
          refine lQ.loadI rfl rfl ?_
          obtain ⟨x8, hx, hy6⟩ := bindC hy6
          refine lQ.ald hR rfl (ta_120 hn hx) ?_
          rcases iteC hy6 with ⟨hc, hy6⟩ | ⟨hc, hy6⟩
          · refine lQ.ifF rfl (decide_eq_false (fun z => z hc)) ?_
            refine lQ.loadN rfl rfl ?_
            refine lQ.loadI rfl rfl ?_
            refine lQ.push rfl ?_
            obtain ⟨x9, hx, hy6⟩ := bindC hy6
            refine lQ.callVI (F := (fun y A => x9 = y ∧ A = tp ad v67 A0)) (G := fun _ _ => False) (args := [.ref (adr ad 3), .int v1, .int 1]) (r := []) hR rfl rfl rfl (Nat.le_of_ble_eq_true rfl) (Nat.le_of_ble_eq_true rfl) rfl (tk_3 hn rfl) (ts_795 hR hn hx (cI_mk ⟨rfl, rfl⟩)) ?_ (fun _ _ _ z => z.elim)
            rintro _ _ ⟨rfl, rfl⟩
            rcases iteC hy6 with ⟨hc, hy6⟩ | ⟨hc, hy6⟩
            · refine lQ.ifF rfl (decide_eq_false (fun z => z hc)) ?_
              refine lQ.push rfl ?_
              obtain rfl := Option.some.inj hy6
              obtain rfl := elimD h6
              exact lQ.retI rfl rfl hz
            · refine lQ.ifT rfl (decide_eq_true hc) ?_
              obtain rfl := Option.some.inj hy6
              exact lQ.sub (lSb rfl (lSb rfl lSb0)) (hJ6 _ rfl)
          · refine lQ.ifT rfl (decide_eq_true hc) ?_
            obtain rfl := Option.some.inj hy6
            exact lQ.sub (lSb rfl (lSb rfl lSb0)) (hJ6 _ rfl)
        · refine lQ.cmpT rfl (decide_eq_true (Int32.not_lt.mp hc)) ?_
          obtain rfl := Option.some.inj hy6
          exact lQ.sub (lSb rfl (lSb rfl lSb0)) (hJ6 _ rfl)
      rcases iteC hy5 with ⟨hc, hy5⟩ | ⟨hc, hy5⟩
      · refine lQ.ifF rfl (decide_eq_false (fun z => z hc)) ?_
        refine lQ.loadN rfl rfl ?_
        refine lQ.get hR rfl (tf_3_26 hn) ?_
        refine lQ.loadI rfl rfl ?_
        refine lQ.push rfl ?_
        obtain ⟨s4, hx, hy5⟩ := bindC hy5
        refine lQ.ast hR rfl (tw_117 hn hx) ?_
        rintro _ rfl
        refine lQ.loadN rfl rfl ?_
        refine lQ.get hR rfl (tf_3_27 hn) ?_
        refine lQ.loadI rfl rfl ?_
        refine lQ.loadN rfl rfl ?_
        refine lQ.get hR rfl (tf_3_1 hn) ?_
        obtain ⟨s5, hx, hy5⟩ := bindC hy5
        refine lQ.ast hR rfl (tw_118 hn hx) ?_
        rintro _ rfl
        obtain rfl := Option.some.inj hy5
        exact lQ.sub (lSb rfl (lSb rfl lSb0)) hJ5
      · refine lQ.ifT rfl (decide_eq_true hc) ?_
        obtain rfl := Option.some.inj hy5
        exact lQ.sub (lSb rfl (lSb rfl lSb0)) hJ5
theorem ts_667 {R : lAR} (hR : lRok R) {E : lE} {ad : List Nat} (hn : tOk ad) {s : TS} {A0 : lMem} {x : Int32} (h : t_667 s = some x) {Z : lZ} (hz : Z (.inl (some (.int x))) (tp ad s A0)) : lSQ R E 1 667 [.ref (adr ad 0)] (tp ad s A0) Z := by
  refine lQ.sq pg_667 (Nat.le_of_ble_eq_true rfl) rfl ?_
  unfold t_667 at h
  refine lQ.push rfl ?_
  refine lQ.stI rfl (lN2s rfl rfl) ?_
  refine lQ.push rfl ?_
  refine lQ.stI rfl (lN2s rfl rfl) ?_
  obtain ⟨v28, hy1, h1⟩ := bindC h
  have hJ1 : lQ R E 0 cd_667 28 [(1, .int v28)] [] (tp ad s A0) Z := by
    refine lQ.loadI rfl rfl ?_
    obtain rfl := Option.some.inj h1
    exact lQ.retI rfl rfl hz
  refine lQ.sub (lSb rfl (lSb rfl (lSb rfl lSb0))) (wh_run (P := fun p4 => lQ R E 0 cd_667 4 [(0, .ref (adr ad 0)), (1, .int p4.1), (2, .int p4.2)] [] (tp ad s A0) Z) hy1 ?_)
  intro p4 r2 hb2 hI2 hX2
  refine lQ.loadI rfl rfl ?_
  refine lQ.loadN rfl rfl ?_
  refine lQ.get hR rfl (tf_0_27 hn) ?_
  rcases iteC hb2 with ⟨hc, hb2⟩ | ⟨hc, hb2⟩
  · refine lQ.cmpF rfl (decide_eq_false (Int32.not_le.mpr hc)) ?_
    refine lQ.loadI rfl rfl ?_
    refine lQ.loadN rfl rfl ?_
    refine lQ.get hR rfl (tf_0_30 hn) ?_
    refine lQ.loadI rfl rfl ?_
    obtain ⟨x1, hx, hb2⟩ := bindC hb2
    refine lQ.ald hR rfl (ta_24 hn hx) ?_
    refine lQ.loadN rfl rfl ?_
    refine lQ.get hR rfl (tf_0_9 hn) ?_
    obtain ⟨v24, hy3, h3⟩ := bindC hb2
    have hJ3 : lQ R E 0 cd_667 24 [(0, .ref (adr ad 0)), (2, .int p4.2)] [.int v24, .int p4.1] (tp ad s A0) Z := by
      refine lQ.binI rfl ?_
      refine lQ.stI rfl (lN2s rfl rfl) ?_
      refine lQ.inc rfl rfl (lN2s rfl rfl) ?_
      refine lQ.goto rfl ?_
      obtain rfl := Option.some.inj h3
      exact lQ.sub (lSb rfl (lSb rfl (lSb rfl lSb0))) (hI2 _ rfl)
    rcases iteC hy3 with ⟨hc, hy3⟩ | ⟨hc, hy3⟩
    · refine lQ.cmpF rfl (decide_eq_false (Int32.not_le.mpr hc)) ?_
      refine lQ.loadN rfl rfl ?_
      refine lQ.get hR rfl (tf_0_33 hn) ?_
      refine lQ.loadI rfl rfl ?_
      obtain ⟨x2, hx, hy3⟩ := bindC hy3
      refine lQ.ald hR rfl (ta_27 hn hx) ?_
      rcases iteC hy3 with ⟨hc, hy3⟩ | ⟨hc, hy3⟩
      · refine lQ.ifF rfl (decide_eq_false (Int32.not_le.mpr hc)) ?_
        refine lQ.push rfl ?_
        refine lQ.goto rfl ?_
        obtain rfl := Option.some.inj hy3
        exact lQ.sub (lSb rfl (lSb rfl lSb0)) hJ3
      · refine lQ.ifT rfl (decide_eq_true (Int32.not_lt.mp hc)) ?_
        refine lQ.push rfl ?_
        obtain rfl := Option.some.inj hy3
        exact lQ.sub (lSb rfl (lSb rfl lSb0)) hJ3
    · refine lQ.cmpT rfl (decide_eq_true (Int32.not_lt.mp hc)) ?_
      refine lQ.push rfl ?_
      obtain rfl := Option.some.inj hy3
      exact lQ.sub (lSb rfl (lSb rfl lSb0)) hJ3
  · refine lQ.cmpT rfl (decide_eq_true (Int32.not_lt.mp hc)) ?_
    obtain rfl := Option.some.inj hb2
    obtain rfl := hX2 _ rfl
    exact lQ.sub (lSb rfl lSb0) hJ1
theorem ts_814 {R : lAR} (hR : lRok R) {E : lE} {ad : List Nat} (hn : tOk ad) {v1 : Int32} {v2 : Int32} {s : TS} {A0 : lMem} {x : Int32} (h : t_814 v1 v2 s = some x) {Z : lZ} (hz : Z (.inl (some (.int x))) (tp ad s A0)) : lSQ R E 1 814 [.ref (adr ad 4), .int v1, .int v2] (tp ad s A0) Z := by
  refine lQ.sq pg_814 (Nat.le_of_ble_eq_true rfl) rfl ?_
  unfold t_814 at h
  refine lQ.loadN rfl rfl ?_
  refine lQ.get hR rfl (tf_4_7 hn) ?_
  refine lQ.loadN rfl rfl ?_
  refine lQ.get hR rfl (tf_4_5 hn) ?_
  refine lQ.push rfl ?_
  refine lQ.loadI rfl rfl ?_
  refine lQ.binI rfl ?_
  refine lQ.loadI rfl rfl ?_
  refine lQ.binI rfl ?_
  obtain ⟨x1, hx, h⟩ := bindC h
  refine lQ.ald hR rfl (ta_129 hn hx) ?_
  obtain ⟨x2, hx, h⟩ := bindC h
  refine lQ.ald hR rfl (ta_131 hn hx) ?_
  obtain rfl := Option.some.inj h
  exact lQ.retI rfl rfl hz
theorem ts_813 {R : lAR} (hR : lRok R) {E : lE} {ad : List Nat} (hn : tOk ad) {v1 : Int32} {s : TS} {A0 : lMem} {x : Int32} (h : t_813 v1 s = some x) {Z : lZ} (hz : Z (.inl (some (.int x))) (tp ad s A0)) : lSQ R E 2 813 [.ref (adr ad 4), .int v1] (tp ad s A0) Z := by
  refine lQ.sq pg_813 (Nat.le_of_ble_eq_true rfl) rfl ?_
  unfold t_813 at h
  refine lQ.loadN rfl rfl ?_
  refine lQ.get hR rfl (tf_4_1 hn) ?_
  refine lQ.loadI rfl rfl ?_
  obtain ⟨x1, hx, h⟩ := bindC h
  refine lQ.ald hR rfl (ta_125 hn hx) ?_
  refine lQ.stI rfl (lN2s rfl rfl) ?_
  refine lQ.push rfl ?_
  refine lQ.stI rfl (lN2s rfl rfl) ?_
  obtain ⟨y1, hy1, h1⟩ := bindC h
  have hJ1 : ∀ v27, y1 = .inl v27 → lQ R E 1 cd_813 27 [(0, .ref (adr ad 4)), (1, .int v1), (2, .int x1)] [] (tp ad s A0) Z := by
    rintro v27 rfl
    have h1 := elimC h1
    refine lQ.loadI rfl rfl ?_
    refine lQ.push rfl ?_
    obtain ⟨y2, hy2, h2⟩ := bindC h1
    have hJ2 : ∀ v40, y2 = .inl v40 → lQ R E 1 cd_813 40 [(0, .ref (adr ad 4)), (1, .int v1), (2, .int x1)] [] (tp ad s A0) Z := by
      rintro v40 rfl
      have h2 := elimC h2
      refine lQ.loadI rfl rfl ?_
      obtain ⟨v70, hy3, h3⟩ := bindC h2
      have hJ3 : lQ R E 1 cd_813 70 [] [.int v70] (tp ad s A0) Z := by
        refine lQ.stI rfl (lN2n rfl) ?_
        refine lQ.loadI rfl rfl ?_
        rcases iteC h3 with ⟨hc, h3⟩ | ⟨hc, h3⟩
        · refine lQ.ifT rfl (decide_eq_true hc) ?_
          refine lQ.push rfl ?_
          obtain rfl := Option.some.inj h3
          exact lQ.retI rfl rfl hz
        · refine lQ.ifF rfl (decide_eq_false hc) ?_
          refine lQ.push rfl ?_
          refine lQ.goto rfl ?_
          obtain rfl := Option.some.inj h3
          exact lQ.retI rfl rfl hz
      obtain ⟨y4, hy4, h4⟩ := bindC hy3
      have hJ4 : ∀ v53, y4 = .inl v53 → lQ R E 1 cd_813 53 [(0, .ref (adr ad 4)), (1, .int v1), (2, .int x1)] [] (tp ad s A0) Z := by
        rintro v53 rfl
        have h4 := elimC h4
        refine lQ.loadI rfl rfl ?_
        refine lQ.push rfl ?_
        rcases iteC h4 with ⟨hc, h4⟩ | ⟨hc, h4⟩
        · refine lQ.cmpF rfl (decide_eq_false (fun z => z hc)) ?_
          refine lQ.loadN rfl rfl ?_
          refine lQ.loadI rfl rfl ?_
          refine lQ.push rfl ?_
          obtain ⟨x7, hx, h4⟩ := bindC h4
          refine lQ.callVI (F := (fun y A => x7 = y ∧ A = tp ad s A0)) (G := fun _ _ => False) (args := [.ref (adr ad 4), .int v1, .int 0]) (r := []) hR rfl rfl rfl (Nat.le_of_ble_eq_true rfl) (Nat.le_of_ble_eq_true rfl) rfl (tk_4 hn rfl) (ts_814 hR hn hx (cI_mk ⟨rfl, rfl⟩)) ?_ (fun _ _ _ z => z.elim)
          rintro _ _ ⟨rfl, rfl⟩
          rcases iteC h4 with ⟨hc, h4⟩ | ⟨hc, h4⟩
          · refine lQ.ifT rfl (decide_eq_true hc) ?_
            refine lQ.push rfl ?_
            refine lQ.goto rfl ?_
            obtain rfl := Option.some.inj h4
            exact lQ.sub lSb0 hJ3
          · refine lQ.ifF rfl (decide_eq_false hc) ?_
            refine lQ.loadN rfl rfl ?_
            refine lQ.loadI rfl rfl ?_
            refine lQ.push rfl ?_
            obtain ⟨x8, hx, h4⟩ := bindC h4
            refine lQ.callVI (F := (fun y A => x8 = y ∧ A = tp ad s A0)) (G := fun _ _ => False) (args := [.ref (adr ad 4), .int v1, .int 0]) (r := []) hR rfl rfl rfl (Nat.le_of_ble_eq_true rfl) (Nat.le_of_ble_eq_true rfl) rfl (tk_4 hn rfl) (ts_814 hR hn hx (cI_mk ⟨rfl, rfl⟩)) ?_ (fun _ _ _ z => z.elim)
            rintro _ _ ⟨rfl, rfl⟩
            refine lQ.push rfl ?_
            rcases iteC h4 with ⟨hc, h4⟩ | ⟨hc, h4⟩
            · refine lQ.cmpF rfl (decide_eq_false (Int32.not_le.mpr hc)) ?_
              refine lQ.push rfl ?_
              refine lQ.goto rfl ?_
              obtain rfl := Option.some.inj h4
              exact lQ.sub lSb0 hJ3
            · refine lQ.cmpT rfl (decide_eq_true (Int32.not_lt.mp hc)) ?_
              refine lQ.push rfl ?_
              obtain rfl := Option.some.inj h4
              exact lQ.sub lSb0 hJ3
        · refine lQ.cmpT rfl (decide_eq_true hc) ?_
          refine lQ.push rfl ?_
          obtain rfl := Option.some.inj h4
          exact lQ.sub lSb0 hJ3
      rcases iteC hy4 with ⟨hc, hy4⟩ | ⟨hc, hy4⟩
      · refine lQ.ifF rfl (decide_eq_false (fun z => z hc)) ?_
        refine lQ.loadN rfl rfl ?_
        refine lQ.get hR rfl (tf_4_2 hn) ?_
        refine lQ.loadI rfl rfl ?_
        obtain ⟨x5, hx, hy4⟩ := bindC hy4
        refine lQ.ald hR rfl (ta_126 hn hx) ?_
        rcases iteC hy4 with ⟨hc, hy4⟩ | ⟨hc, hy4⟩
        · refine lQ.ifT rfl (decide_eq_true hc) ?_
          refine lQ.push rfl ?_
          refine lQ.goto rfl ?_
          obtain rfl := Option.some.inj hy4
          obtain rfl := elimD h4
          exact lQ.sub lSb0 hJ3
        · refine lQ.ifF rfl (decide_eq_false hc) ?_
          refine lQ.loadN rfl rfl ?_
          refine lQ.get hR rfl (tf_4_2 hn) ?_
          refine lQ.loadI rfl rfl ?_
          obtain ⟨x6, hx, hy4⟩ := bindC hy4
          refine lQ.ald hR rfl (ta_126 hn hx) ?_
          refine lQ.push rfl ?_
          rcases iteC hy4 with ⟨hc, hy4⟩ | ⟨hc, hy4⟩
          · refine lQ.cmpT rfl (decide_eq_true hc) ?_
            refine lQ.push rfl ?_
            refine lQ.goto rfl ?_
            obtain rfl := Option.some.inj hy4
            obtain rfl := elimD h4
            exact lQ.sub lSb0 hJ3
          · refine lQ.cmpF rfl (decide_eq_false hc) ?_
            obtain rfl := Option.some.inj hy4
            exact lQ.sub (lSb rfl (lSb rfl (lSb rfl lSb0))) (hJ4 _ rfl)
      · refine lQ.ifT rfl (decide_eq_true hc) ?_
        obtain rfl := Option.some.inj hy4
        exact lQ.sub (lSb rfl (lSb rfl (lSb rfl lSb0))) (hJ4 _ rfl)
    obtain ⟨y5, hy5, h5⟩ := bindC hy2
    have hJ5 : ∀ v33, y5 = .inl v33 → lQ R E 1 cd_813 33 [(0, .ref (adr ad 4)), (1, .int v1), (2, .int x1)] [] (tp ad s A0) Z := by
      rintro v33 rfl
      have h5 := elimC h5
      refine lQ.loadN rfl rfl ?_
      refine lQ.loadI rfl rfl ?_
      refine lQ.push rfl ?_
      obtain ⟨x4, hx, h5⟩ := bindC h5
      refine lQ.callVI (F := (fun y A => x4 = y ∧ A = tp ad s A0)) (G := fun _ _ => False) (args := [.ref (adr ad 4), .int v1, .int 1]) (r := []) hR rfl rfl rfl (Nat.le_of_ble_eq_true rfl) (Nat.le_of_ble_eq_true rfl) rfl (tk_4 hn rfl) (ts_814 hR hn hx (cI_mk ⟨rfl, rfl⟩)) ?_ (fun _ _ _ z => z.elim)
      rintro _ _ ⟨rfl, rfl⟩
      rcases iteC h5 with ⟨hc, h5⟩ | ⟨hc, h5⟩
      · refine lQ.ifF rfl (decide_eq_false (fun z => z hc)) ?_
        refine lQ.push rfl ?_
        obtain rfl := Option.some.inj h5
        obtain rfl := elimD h2
        exact lQ.retI rfl rfl hz
      · refine lQ.ifT rfl (decide_eq_true hc) ?_
        obtain rfl := Option.some.inj h5
        exact lQ.sub (lSb rfl (lSb rfl (lSb rfl lSb0))) (hJ2 _ rfl)
    rcases iteC hy5 with ⟨hc, hy5⟩ | ⟨hc, hy5⟩
    · refine lQ.cmpT rfl (decide_eq_true hc) ?_
      obtain rfl := Option.some.inj hy5
      exact lQ.sub (lSb rfl (lSb rfl (lSb rfl lSb0))) (hJ5 _ rfl)
    · refine lQ.cmpF rfl (decide_eq_false hc) ?_
      refine lQ.loadI rfl rfl ?_
      refine lQ.push rfl ?_
      rcases iteC hy5 with ⟨hc, hy5⟩ | ⟨hc, hy5⟩
      · refine lQ.cmpF rfl (decide_eq_false (fun z => z hc)) ?_
        obtain rfl := Option.some.inj hy5
        exact lQ.sub (lSb rfl (lSb rfl (lSb rfl lSb0))) (hJ5 _ rfl)
      · refine lQ.cmpT rfl (decide_eq_true hc) ?_
        obtain rfl := Option.some.inj hy5
        obtain rfl := elimD h5
        exact lQ.sub (lSb rfl (lSb rfl (lSb rfl lSb0))) (hJ2 _ rfl)
  obtain ⟨y6, hy6, h6⟩ := bindC hy1
  have hJ6 : ∀ v23, y6 = .inl v23 → lQ R E 1 cd_813 23 [] [] (tp ad s A0) Z := by
    rintro v23 rfl
    have h6 := elimC h6
    refine lQ.push rfl ?_
    obtain rfl := Option.some.inj h6
    obtain rfl := elimD h1
    exact lQ.retI rfl rfl hz
  refine lQ.sub (lSb rfl (lSb rfl (lSb rfl (lSb rfl lSb0)))) (wh_run (P := fun p7 => lQ R E 1 cd_813 7 [(0, .ref (adr ad 4)), (1, .int v1), (2, .int x1), (3, .int p7)] [] (tp ad s A0) Z) hy6 ?_)
  intro p7 r7 hb7 hI7 hX7
  refine lQ.loadI rfl rfl ?_
  refine lQ.loadI rfl rfl ?_
  obtain ⟨x2, hx, hb7⟩ := bindC hb7
  refine lQ.callI (F := (fun y A => x2 = y ∧ A = tp ad s A0)) (G := fun _ _ => False) (args := [.int x1]) (r := [.int p7]) hR rfl rfl rfl (Nat.le_of_ble_eq_true rfl) (Nat.le_of_ble_eq_true rfl) (ts_809 hR hn hx (cI_mk ⟨rfl, rfl⟩)) ?_ (fun _ _ _ z => z.elim)
  rintro _ _ ⟨rfl, rfl⟩
  rcases iteC hb7 with ⟨hc, hb7⟩ | ⟨hc, hb7⟩
  · refine lQ.cmpF rfl (decide_eq_false (Int32.not_le.mpr hc)) ?_
    refine lQ.loadI rfl rfl ?_
    refine lQ.push rfl ?_
    rcases iteC hb7 with ⟨hc, hb7⟩ | ⟨hc, hb7⟩
    · refine lQ.cmpT rfl (decide_eq_true hc) ?_
      obtain rfl := Option.some.inj hb7
      obtain rfl := hX7 _ rfl
      obtain rfl := elimD h6
      exact lQ.sub (lSb rfl (lSb rfl (lSb rfl lSb0))) (hJ1 _ rfl)
    · refine lQ.cmpF rfl (decide_eq_false hc) ?_
      refine lQ.loadN rfl rfl ?_
      refine lQ.get hR rfl (tf_4_5 hn) ?_
      refine lQ.push rfl ?_
      refine lQ.loadI rfl rfl ?_
      refine lQ.binI rfl ?_
      refine lQ.loadI rfl rfl ?_
      refine lQ.binI rfl ?_
      obtain ⟨x3, hx, hb7⟩ := bindC hb7
      refine lQ.ald hR rfl (ta_129 hn hx) ?_
      rcases iteC hb7 with ⟨hc, hb7⟩ | ⟨hc, hb7⟩
      · refine lQ.ifF rfl (decide_eq_false (Int32.not_le.mpr hc)) ?_
        obtain rfl := Option.some.inj hb7
        obtain rfl := hX7 _ rfl
        exact lQ.sub lSb0 (hJ6 _ rfl)
      · refine lQ.ifT rfl (decide_eq_true (Int32.not_lt.mp hc)) ?_
        refine lQ.inc rfl rfl (lN2s rfl rfl) ?_
        refine lQ.goto rfl ?_
        obtain rfl := Option.some.inj hb7
        exact lQ.sub (lSb rfl (lSb rfl (lSb rfl (lSb rfl lSb0)))) (hI7 _ rfl)
  · refine lQ.cmpT rfl (decide_eq_true (Int32.not_lt.mp hc)) ?_
    obtain rfl := Option.some.inj hb7
    obtain rfl := hX7 _ rfl
    obtain rfl := elimD h6
    exact lQ.sub (lSb rfl (lSb rfl (lSb rfl lSb0))) (hJ1 _ rfl)
theorem ts_815 {R : lAR} (hR : lRok R) {E : lE} {ad : List Nat} (hn : tOk ad) {v1 : Int32} {v2 : Int32} {s : TS} {A0 : lMem} {x : TS} (h : t_815 v1 v2 s = some x) {Z : lZ} (hz : Z (.inl none) (tp ad x A0)) : lSQ R E 1 815 [.ref (adr ad 4), .int v1, .int v2] (tp ad s A0) Z := by
  refine lQ.sq pg_815 (Nat.le_of_ble_eq_true rfl) rfl ?_
  unfold t_815 at h
  refine lQ.loadN rfl rfl ?_
  refine lQ.get hR rfl (tf_4_17 hn) ?_
  refine lQ.push rfl ?_
  refine lQ.dup2 rfl rfl rfl ?_
  obtain ⟨x1, hx, h⟩ := bindC h
  refine lQ.ald hR rfl (ta_140 hn hx) ?_
  refine lQ.push rfl ?_
  refine lQ.binI rfl ?_
  obtain ⟨s2, hx, h⟩ := bindC h
  refine lQ.ast hR rfl (tw_140 hn hx) ?_
  rintro _ rfl
  refine lQ.loadN rfl rfl ?_
  refine lQ.get hR rfl (tf_4_17 hn) ?_
  refine lQ.loadI rfl rfl ?_
  refine lQ.dup2 rfl rfl rfl ?_
  obtain ⟨x3, hx, h⟩ := bindC h
  refine lQ.ald hR rfl (ta_140 hn hx) ?_
  refine lQ.push rfl ?_
  refine lQ.binI rfl ?_
  obtain ⟨s4, hx, h⟩ := bindC h
  refine lQ.ast hR rfl (tw_140 hn hx) ?_
  rintro _ rfl
  refine lQ.loadN rfl rfl ?_
  refine lQ.get hR rfl (tf_4_7 hn) ?_
  refine lQ.loadI rfl rfl ?_
  refine lQ.loadN rfl rfl ?_
  refine lQ.get hR rfl (tf_4_4 hn) ?_
  refine lQ.loadI rfl rfl ?_
  obtain ⟨x5, hx, h⟩ := bindC h
  refine lQ.ald hR rfl (ta_128 hn hx) ?_
  obtain ⟨s6, hx, h⟩ := bindC h
  refine lQ.ast hR rfl (tw_131 hn hx) ?_
  rintro _ rfl
  obtain rfl := Option.some.inj h
  exact lQ.retV rfl hz
theorem ts_816 {R : lAR} (hR : lRok R) {E : lE} {ad : List Nat} (hn : tOk ad) {v1 : Int32} {v2 : Int32} {v3 : Int32} {s : TS} {A0 : lMem} {x : Int32} (h : t_816 v1 v2 v3 s = some x) {Z : lZ} (hz : Z (.inl (some (.int x))) (tp ad s A0)) : lSQ R E 2 816 [.ref (adr ad 4), .int v1, .int v2, .int v3] (tp ad s A0) Z := by
  refine lQ.sq pg_816 (Nat.le_of_ble_eq_true rfl) rfl ?_
  unfold t_816 at h
  refine lQ.loadN rfl rfl ?_
  refine lQ.get hR rfl (tf_4_1 hn) ?_
  refine lQ.loadI rfl rfl ?_
  obtain ⟨x1, hx, h⟩ := bindC h
  refine lQ.ald hR rfl (ta_125 hn hx) ?_
  rcases iteC h with ⟨hc, h⟩ | ⟨hc, h⟩
  · refine lQ.sw (j := 5) rfl (by unfold swT; rw [hc]; rfl) ?_
    refine lQ.loadN rfl rfl ?_
    refine lQ.get hR rfl (tf_4_12 hn) ?_
    refine lQ.loadN rfl rfl ?_
    refine lQ.get hR rfl (tf_4_2 hn) ?_
    refine lQ.loadI rfl rfl ?_
    obtain ⟨x5, hx, h⟩ := bindC h
    refine lQ.ald hR rfl (ta_126 hn hx) ?_
    obtain ⟨x6, hx, h⟩ := bindC h
    refine lQ.ald hR rfl (ta_136 hn hx) ?_
    obtain rfl := Option.some.inj h
    exact lQ.retI rfl rfl hz
  · have e0 := hc
    rcases iteC h with ⟨hc, h⟩ | ⟨hc, h⟩
    · refine lQ.sw (j := 13) rfl (by unfold swT; rw [hc]; rfl) ?_
      refine lQ.loadN rfl rfl ?_
      refine lQ.get hR rfl (tf_4_2 hn) ?_
      refine lQ.loadI rfl rfl ?_
      obtain ⟨x4, hx, h⟩ := bindC h
      refine lQ.ald hR rfl (ta_126 hn hx) ?_
      obtain rfl := Option.some.inj h
      exact lQ.retI rfl rfl hz
    · have e1 := hc
      rcases iteC h with ⟨hc, h⟩ | ⟨hc, h⟩
      · refine lQ.sw (j := 18) rfl (by unfold swT; rw [hc]; rfl) ?_
        refine lQ.loadI rfl rfl ?_
        refine lQ.loadI rfl rfl ?_
        refine lQ.binI rfl ?_
        obtain rfl := Option.some.inj h
        exact lQ.retI rfl rfl hz
      · have e2 := hc
        rcases iteC h with ⟨hc, h⟩ | ⟨hc, h⟩
        · refine lQ.sw (j := 22) rfl (by unfold swT; rw [hc]; rfl) ?_
          refine lQ.loadI rfl rfl ?_
          refine lQ.loadI rfl rfl ?_
          refine lQ.binI rfl ?_
          obtain rfl := Option.some.inj h
          exact lQ.retI rfl rfl hz
        · have e3 := hc
          rcases iteC h with ⟨hc, h⟩ | ⟨hc, h⟩
          · refine lQ.sw (j := 26) rfl (by unfold swT; rw [hc]; rfl) ?_
            refine lQ.loadI rfl rfl ?_
            refine lQ.loadI rfl rfl ?_
            refine lQ.binI rfl ?_
            obtain rfl := Option.some.inj h
            exact lQ.retI rfl rfl hz
          · have e4 := hc
            rcases iteC h with ⟨hc, h⟩ | ⟨hc, h⟩
            · refine lQ.sw (j := 30) rfl (by unfold swT; rw [hc]; rfl) ?_
              refine lQ.loadI rfl rfl ?_
              refine lQ.loadI rfl rfl ?_
              rcases iteC h with ⟨_, h⟩ | ⟨hg, h⟩
              case inl => cases h
              refine lQ.divI rfl hg ?_
              obtain rfl := Option.some.inj h
              exact lQ.retI rfl rfl hz
            · have e5 := hc
              rcases iteC h with ⟨hc, h⟩ | ⟨hc, h⟩
              · refine lQ.sw (j := 34) rfl (by unfold swT; rw [hc]; rfl) ?_
                refine lQ.loadI rfl rfl ?_
                refine lQ.loadI rfl rfl ?_
                refine lQ.loadI rfl rfl ?_
                refine lQ.loadI rfl rfl ?_
                rcases iteC h with ⟨_, h⟩ | ⟨hg, h⟩
                case inl => cases h
                refine lQ.divI rfl hg ?_
                refine lQ.binI rfl ?_
                refine lQ.binI rfl ?_
                obtain rfl := Option.some.inj h
                exact lQ.retI rfl rfl hz
              · have e6 := hc
                rcases iteC h with ⟨hc, h⟩ | ⟨hc, h⟩
                · refine lQ.sw (j := 42) rfl (by unfold swT; rw [hc]; rfl) ?_
                  refine lQ.loadI rfl rfl ?_
                  refine lQ.loadI rfl rfl ?_
                  rcases iteC h with ⟨hc, h⟩ | ⟨hc, h⟩
                  · refine lQ.cmpF rfl (decide_eq_false (Int32.not_le.mpr hc)) ?_
                    refine lQ.loadI rfl rfl ?_
                    refine lQ.goto rfl ?_
                    obtain rfl := Option.some.inj h
                    exact lQ.retI rfl rfl hz
                  · refine lQ.cmpT rfl (decide_eq_true (Int32.not_lt.mp hc)) ?_
                    refine lQ.loadI rfl rfl ?_
                    obtain rfl := Option.some.inj h
                    exact lQ.retI rfl rfl hz
                · have e7 := hc
                  rcases iteC h with ⟨hc, h⟩ | ⟨hc, h⟩
                  · refine lQ.sw (j := 49) rfl (by unfold swT; rw [hc]; rfl) ?_
                    refine lQ.loadI rfl rfl ?_
                    refine lQ.loadI rfl rfl ?_
                    rcases iteC h with ⟨hc, h⟩ | ⟨hc, h⟩
                    · refine lQ.cmpF rfl (decide_eq_false (Int32.not_le.mpr hc)) ?_
                      refine lQ.loadI rfl rfl ?_
                      refine lQ.goto rfl ?_
                      obtain rfl := Option.some.inj h
                      exact lQ.retI rfl rfl hz
                    · refine lQ.cmpT rfl (decide_eq_true (Int32.not_lt.mp hc)) ?_
                      refine lQ.loadI rfl rfl ?_
                      obtain rfl := Option.some.inj h
                      exact lQ.retI rfl rfl hz
                  · have e8 := hc
                    rcases iteC h with ⟨hc, h⟩ | ⟨hc, h⟩
                    · refine lQ.sw (j := 56) rfl (by unfold swT; rw [hc]; rfl) ?_
                      refine lQ.loadI rfl rfl ?_
                      refine lQ.loadI rfl rfl ?_
                      rcases iteC h with ⟨hc, h⟩ | ⟨hc, h⟩
                      · refine lQ.cmpF rfl (decide_eq_false (Int32.not_le.mpr hc)) ?_
                        refine lQ.push rfl ?_
                        refine lQ.goto rfl ?_
                        obtain rfl := Option.some.inj h
                        exact lQ.retI rfl rfl hz
                      · refine lQ.cmpT rfl (decide_eq_true (Int32.not_lt.mp hc)) ?_
                        refine lQ.push rfl ?_
                        obtain rfl := Option.some.inj h
                        exact lQ.retI rfl rfl hz
                    · have e9 := hc
                      rcases iteC h with ⟨hc, h⟩ | ⟨hc, h⟩
                      · refine lQ.sw (j := 63) rfl (by unfold swT; rw [hc]; rfl) ?_
                        refine lQ.loadI rfl rfl ?_
                        refine lQ.loadI rfl rfl ?_
                        rcases iteC h with ⟨hc, h⟩ | ⟨hc, h⟩
                        · refine lQ.cmpF rfl (decide_eq_false (fun z => z hc)) ?_
                          refine lQ.push rfl ?_
                          refine lQ.goto rfl ?_
                          obtain rfl := Option.some.inj h
                          exact lQ.retI rfl rfl hz
                        · refine lQ.cmpT rfl (decide_eq_true hc) ?_
                          refine lQ.push rfl ?_
                          obtain rfl := Option.some.inj h
                          exact lQ.retI rfl rfl hz
                      · have e10 := hc
                        rcases iteC h with ⟨hc, h⟩ | ⟨hc, h⟩
                        · refine lQ.sw (j := 70) rfl (by unfold swT; rw [hc]; rfl) ?_
                          refine lQ.loadI rfl rfl ?_
                          rcases iteC h with ⟨hc, h⟩ | ⟨hc, h⟩
                          · refine lQ.ifT rfl (decide_eq_true hc) ?_
                            refine lQ.push rfl ?_
                            obtain rfl := Option.some.inj h
                            exact lQ.retI rfl rfl hz
                          · refine lQ.ifF rfl (decide_eq_false hc) ?_
                            refine lQ.loadI rfl rfl ?_
                            rcases iteC h with ⟨hc, h⟩ | ⟨hc, h⟩
                            · refine lQ.ifT rfl (decide_eq_true hc) ?_
                              refine lQ.push rfl ?_
                              obtain rfl := Option.some.inj h
                              exact lQ.retI rfl rfl hz
                            · refine lQ.ifF rfl (decide_eq_false hc) ?_
                              refine lQ.push rfl ?_
                              refine lQ.goto rfl ?_
                              obtain rfl := Option.some.inj h
                              exact lQ.retI rfl rfl hz
                        · have e11 := hc
                          rcases iteC h with ⟨hc, h⟩ | ⟨hc, h⟩
                          · refine lQ.sw (j := 78) rfl (by unfold swT; rw [hc]; rfl) ?_
                            refine lQ.loadI rfl rfl ?_
                            rcases iteC h with ⟨hc, h⟩ | ⟨hc, h⟩
                            · refine lQ.ifF rfl (decide_eq_false (fun z => z hc)) ?_
                              refine lQ.loadI rfl rfl ?_
                              rcases iteC h with ⟨hc, h⟩ | ⟨hc, h⟩
                              · refine lQ.ifT rfl (decide_eq_true hc) ?_
                                refine lQ.push rfl ?_
                                obtain rfl := Option.some.inj h
                                exact lQ.retI rfl rfl hz
                              · refine lQ.ifF rfl (decide_eq_false hc) ?_
                                refine lQ.push rfl ?_
                                refine lQ.goto rfl ?_
                                obtain rfl := Option.some.inj h
                                exact lQ.retI rfl rfl hz
                            · refine lQ.ifT rfl (decide_eq_true hc) ?_
                              refine lQ.push rfl ?_
                              refine lQ.goto rfl ?_
                              obtain rfl := Option.some.inj h
                              exact lQ.retI rfl rfl hz
                          · have e12 := hc
                            rcases iteC h with ⟨hc, h⟩ | ⟨hc, h⟩
                            · refine lQ.sw (j := 86) rfl (by unfold swT; rw [hc]; rfl) ?_
                              refine lQ.loadI rfl rfl ?_
                              rcases iteC h with ⟨hc, h⟩ | ⟨hc, h⟩
                              · refine lQ.ifF rfl (decide_eq_false (fun z => z hc)) ?_
                                refine lQ.push rfl ?_
                                refine lQ.goto rfl ?_
                                obtain rfl := Option.some.inj h
                                exact lQ.retI rfl rfl hz
                              · refine lQ.ifT rfl (decide_eq_true hc) ?_
                                refine lQ.push rfl ?_
                                obtain rfl := Option.some.inj h
                                exact lQ.retI rfl rfl hz
                            · have e13 := hc
                              rcases iteC h with ⟨hc, h⟩ | ⟨hc, h⟩
                              · refine lQ.sw (j := 92) rfl (by unfold swT; rw [hc]; rfl) ?_
                                refine lQ.loadI rfl rfl ?_
                                rcases iteC h with ⟨hc, h⟩ | ⟨hc, h⟩
                                · refine lQ.ifT rfl (decide_eq_true hc) ?_
                                  refine lQ.loadN rfl rfl ?_
                                  refine lQ.loadI rfl rfl ?_
                                  refine lQ.push rfl ?_
                                  obtain ⟨x3, hx, h⟩ := bindC h
                                  refine lQ.callVI (F := (fun y A => x3 = y ∧ A = tp ad s A0)) (G := fun _ _ => False) (args := [.ref (adr ad 4), .int v1, .int 2]) (r := []) hR rfl rfl rfl (Nat.le_of_ble_eq_true rfl) (Nat.le_of_ble_eq_true rfl) rfl (tk_4 hn rfl) (ts_814 hR hn hx (cI_mk ⟨rfl, rfl⟩)) ?_ (fun _ _ _ z => z.elim)
                                  rintro _ _ ⟨rfl, rfl⟩
                                  obtain rfl := Option.some.inj h
                                  exact lQ.retI rfl rfl hz
                                · refine lQ.ifF rfl (decide_eq_false hc) ?_
                                  refine lQ.loadI rfl rfl ?_
                                  refine lQ.goto rfl ?_
                                  obtain rfl := Option.some.inj h
                                  exact lQ.retI rfl rfl hz
                              · have e14 := hc
                                refine lQ.sw (j := 101) rfl (swT_all ⟨Or.inr e0, ⟨Or.inr e1, ⟨Or.inr e2, ⟨Or.inr e3, ⟨Or.inr e4, ⟨Or.inr e5, ⟨Or.inr e6, ⟨Or.inr e7, ⟨Or.inr e8, ⟨Or.inr e9, ⟨Or.inr e10, ⟨Or.inr e11, ⟨Or.inr e12, ⟨Or.inr e13, ⟨Or.inr e14, trivial⟩⟩⟩⟩⟩⟩⟩⟩⟩⟩⟩⟩⟩⟩⟩) ?_
                                refine lQ.loadN rfl rfl ?_
                                refine lQ.get hR rfl (tf_4_6 hn) ?_
                                refine lQ.push rfl ?_
                                refine lQ.loadI rfl rfl ?_
                                refine lQ.binI rfl ?_
                                refine lQ.loadI rfl rfl ?_
                                refine lQ.binI rfl ?_
                                obtain ⟨x2, hx, h⟩ := bindC h
                                refine lQ.ald hR rfl (ta_130 hn hx) ?_
                                obtain rfl := Option.some.inj h
                                exact lQ.retI rfl rfl hz
theorem ts_818 {R : lAR} (hR : lRok R) {E : lE} {ad : List Nat} (hn : tOk ad) {v1 : Int32} {v2 : Int32} {s : TS} {A0 : lMem} {x : Int32} (h : t_818 v1 v2 s = some x) {Z : lZ} (hz : Z (.inl (some (.int x))) (tp ad s A0)) : lSQ R E 1 818 [.ref (adr ad 4), .int v1, .int v2] (tp ad s A0) Z := by
  refine lQ.sq pg_818 (Nat.le_of_ble_eq_true rfl) rfl ?_
  unfold t_818 at h
  refine lQ.loadI rfl rfl ?_
  refine lQ.i2l rfl ?_
  refine lQ.loadN rfl rfl ?_
  refine lQ.get hR rfl (tf_4_7 hn) ?_
  refine lQ.loadI rfl rfl ?_
  obtain ⟨x1, hx, h⟩ := bindC h
  refine lQ.ald hR rfl (ta_131 hn hx) ?_
  refine lQ.i2l rfl ?_
  refine lQ.binL rfl ?_
  refine lQ.stL rfl (lN2s rfl rfl) rfl ?_
  refine lQ.loadN rfl rfl ?_
  refine lQ.get hR rfl (tf_4_2 hn) ?_
  refine lQ.loadI rfl rfl ?_
  obtain ⟨x2, hx, h⟩ := bindC h
  refine lQ.ald hR rfl (ta_126 hn hx) ?_
  obtain ⟨v21, hy1, h1⟩ := bindC h
  have hJ1 : lQ R E 0 cd_818 21 [(0, .ref (adr ad 4)), (1, .int v1), (3, .long (v2.toInt64 - x1.toInt64))] [.long v21] (tp ad s A0) Z := by
    refine lQ.stL rfl (lN2n rfl) rfl ?_
    refine lQ.loadL rfl rfl ?_
    refine lQ.loadL rfl rfl ?_
    refine lQ.lcmp rfl ?_
    obtain ⟨v28, hy2, h2⟩ := bindC h1
    have hJ2 : lQ R E 0 cd_818 28 [(0, .ref (adr ad 4)), (1, .int v1), (3, .long v28), (5, .long v21)] [] (tp ad s A0) Z := by
      refine lQ.loadL rfl rfl ?_
      refine lQ.loadL rfl rfl ?_
      refine lQ.unL rfl ?_
      refine lQ.lcmp rfl ?_
      obtain ⟨v36, hy3, h3⟩ := bindC h2
      have hJ3 : lQ R E 0 cd_818 36 [(0, .ref (adr ad 4)), (1, .int v1), (3, .long v36)] [] (tp ad s A0) Z := by
        refine lQ.loadN rfl rfl ?_
        refine lQ.get hR rfl (tf_4_7 hn) ?_
        refine lQ.loadI rfl rfl ?_
        obtain ⟨x4, hx, h3⟩ := bindC h3
        refine lQ.ald hR rfl (ta_131 hn hx) ?_
        refine lQ.i2l rfl ?_
        refine lQ.loadL rfl rfl ?_
        refine lQ.binL rfl ?_
        refine lQ.l2i rfl ?_
        obtain rfl := Option.some.inj h3
        exact lQ.retI rfl rfl hz
      rcases iteC hy3 with ⟨hc, hy3⟩ | ⟨hc, hy3⟩
      · refine lQ.ifF rfl (decide_eq_false (Int32.not_le.mpr hc)) ?_
        refine lQ.loadL rfl rfl ?_
        refine lQ.unL rfl ?_
        refine lQ.stL rfl (lN2n rfl) rfl ?_
        obtain rfl := Option.some.inj hy3
        exact lQ.sub (lSb rfl (lSb rfl (lSb rfl lSb0))) hJ3
      · refine lQ.ifT rfl (decide_eq_true (Int32.not_lt.mp hc)) ?_
        obtain rfl := Option.some.inj hy3
        exact lQ.sub (lSb rfl (lSb rfl (lSb rfl lSb0))) hJ3
    rcases iteC hy2 with ⟨hc, hy2⟩ | ⟨hc, hy2⟩
    · refine lQ.ifF rfl (decide_eq_false (Int32.not_le.mpr hc)) ?_
      refine lQ.loadL rfl rfl ?_
      refine lQ.stL rfl (lN2n rfl) rfl ?_
      obtain rfl := Option.some.inj hy2
      exact lQ.sub (lSb rfl (lSb rfl (lSb rfl (lSb rfl lSb0)))) hJ2
    · refine lQ.ifT rfl (decide_eq_true (Int32.not_lt.mp hc)) ?_
      obtain rfl := Option.some.inj hy2
      exact lQ.sub (lSb rfl (lSb rfl (lSb rfl (lSb rfl lSb0)))) hJ2
  rcases iteC hy1 with ⟨hc, hy1⟩ | ⟨hc, hy1⟩
  · refine lQ.ifF rfl (decide_eq_false (Int32.not_le.mpr hc)) ?_
    refine lQ.push rfl ?_
    refine lQ.goto rfl ?_
    obtain rfl := Option.some.inj hy1
    exact lQ.sub (lSb rfl (lSb rfl (lSb rfl lSb0))) hJ1
  · refine lQ.ifT rfl (decide_eq_true (Int32.not_lt.mp hc)) ?_
    refine lQ.loadN rfl rfl ?_
    refine lQ.get hR rfl (tf_4_2 hn) ?_
    refine lQ.loadI rfl rfl ?_
    obtain ⟨x3, hx, hy1⟩ := bindC hy1
    refine lQ.ald hR rfl (ta_126 hn hx) ?_
    refine lQ.i2l rfl ?_
    obtain rfl := Option.some.inj hy1
    exact lQ.sub (lSb rfl (lSb rfl (lSb rfl lSb0))) hJ1
theorem ts_819 {R : lAR} (hR : lRok R) {E : lE} {ad : List Nat} (hn : tOk ad) {v1 : Int32} {v2 : Int32} {v3 : Int32} {s : TS} {A0 : lMem} {x : Int32 × TS} (h : t_819 v1 v2 v3 s = some x) {Z : lZ} (hz : Z (.inl (some (.int x.1))) (tp ad x.2 A0)) : lSQ R E 1 819 [.ref (adr ad 4), .int v1, .int v2, .int v3] (tp ad s A0) Z := by
  refine lQ.sq pg_819 (Nat.le_of_ble_eq_true rfl) rfl ?_
  unfold t_819 at h
  refine lQ.loadI rfl rfl ?_
  obtain ⟨v23, hy1, h1⟩ := bindC h
  have hJ1 : lQ R E 0 cd_819 23 [(0, .ref (adr ad 4)), (1, .int v1), (2, .int v2)] [] (tp ad v23 A0) Z := by
    refine lQ.loadN rfl rfl ?_
    refine lQ.get hR rfl (tf_4_9 hn) ?_
    refine lQ.loadI rfl rfl ?_
    refine lQ.loadI rfl rfl ?_
    obtain ⟨s5, hx, h1⟩ := bindC h1
    refine lQ.ast hR rfl (tw_133 hn hx) ?_
    rintro _ rfl
    refine lQ.loadN rfl rfl ?_
    refine lQ.get hR rfl (tf_4_8 hn) ?_
    refine lQ.loadI rfl rfl ?_
    obtain ⟨x6, hx, h1⟩ := bindC h1
    refine lQ.ald hR rfl (ta_132 hn hx) ?_
    obtain rfl := Option.some.inj h1
    exact lQ.retI rfl rfl hz
  rcases iteC hy1 with ⟨hc, hy1⟩ | ⟨hc, hy1⟩
  · refine lQ.ifT rfl (decide_eq_true hc) ?_
    refine lQ.loadI rfl rfl ?_
    rcases iteC hy1 with ⟨hc, hy1⟩ | ⟨hc, hy1⟩
    · refine lQ.ifT rfl (decide_eq_true hc) ?_
      obtain rfl := Option.some.inj hy1
      exact lQ.sub (lSb rfl (lSb rfl (lSb rfl lSb0))) hJ1
    · refine lQ.ifF rfl (decide_eq_false hc) ?_
      refine lQ.loadN rfl rfl ?_
      refine lQ.get hR rfl (tf_4_9 hn) ?_
      refine lQ.loadI rfl rfl ?_
      obtain ⟨x1, hx, hy1⟩ := bindC hy1
      refine lQ.ald hR rfl (ta_133 hn hx) ?_
      rcases iteC hy1 with ⟨hc, hy1⟩ | ⟨hc, hy1⟩
      · refine lQ.ifF rfl (decide_eq_false (fun z => z hc)) ?_
        refine lQ.loadN rfl rfl ?_
        refine lQ.get hR rfl (tf_4_8 hn) ?_
        refine lQ.loadI rfl rfl ?_
        refine lQ.dup2 rfl rfl rfl ?_
        obtain ⟨x2, hx, hy1⟩ := bindC hy1
        refine lQ.ald hR rfl (ta_132 hn hx) ?_
        refine lQ.push rfl ?_
        refine lQ.binI rfl ?_
        obtain ⟨s3, hx, hy1⟩ := bindC hy1
        refine lQ.ast hR rfl (tw_132 hn hx) ?_
        rintro _ rfl
        obtain rfl := Option.some.inj hy1
        exact lQ.sub (lSb rfl (lSb rfl (lSb rfl lSb0))) hJ1
      · refine lQ.ifT rfl (decide_eq_true hc) ?_
        obtain rfl := Option.some.inj hy1
        exact lQ.sub (lSb rfl (lSb rfl (lSb rfl lSb0))) hJ1
  · refine lQ.ifF rfl (decide_eq_false hc) ?_
    refine lQ.loadN rfl rfl ?_
    refine lQ.get hR rfl (tf_4_8 hn) ?_
    refine lQ.loadI rfl rfl ?_
    refine lQ.push rfl ?_
    obtain ⟨s4, hx, hy1⟩ := bindC hy1
    refine lQ.ast hR rfl (tw_132 hn hx) ?_
    rintro _ rfl
    refine lQ.goto rfl ?_
    obtain rfl := Option.some.inj hy1
    exact lQ.sub (lSb rfl (lSb rfl (lSb rfl lSb0))) hJ1
theorem ts_820 {R : lAR} (hR : lRok R) {E : lE} {ad : List Nat} (hn : tOk ad) {v1 : Int32} {s : TS} {A0 : lMem} {x : Int32} (h : t_820 v1 s = some x) {Z : lZ} (hz : Z (.inl (some (.int x))) (tp ad s A0)) : lSQ R E 1 820 [.ref (adr ad 4), .int v1] (tp ad s A0) Z := by
  refine lQ.sq pg_820 (Nat.le_of_ble_eq_true rfl) rfl ?_
  unfold t_820 at h
  refine lQ.loadN rfl rfl ?_
  refine lQ.get hR rfl (tf_4_14 hn) ?_
  refine lQ.push rfl ?_
  refine lQ.divI rfl (by decide) ?_
  refine lQ.stI rfl (lN2s rfl rfl) ?_
  refine lQ.loadI rfl rfl ?_
  refine lQ.loadN rfl rfl ?_
  refine lQ.get hR rfl (tf_4_2 hn) ?_
  refine lQ.loadI rfl rfl ?_
  obtain ⟨x1, hx, h⟩ := bindC h
  refine lQ.ald hR rfl (ta_126 hn hx) ?_
  obtain ⟨v14, hy1, h1⟩ := bindC h
  have hJ1 : lQ R E 0 cd_820 14 [(0, .ref (adr ad 4)), (1, .int v1), (2, .int ((s.1 414) - (s.1 414) / (1440 : Int32) * (1440 : Int32)))] [.int v14] (tp ad s A0) Z := by
    refine lQ.stI rfl (lN2s rfl rfl) ?_
    refine lQ.loadI rfl rfl ?_
    refine lQ.loadN rfl rfl ?_
    refine lQ.get hR rfl (tf_4_3 hn) ?_
    refine lQ.loadI rfl rfl ?_
    obtain ⟨x2, hx, h1⟩ := bindC h1
    refine lQ.ald hR rfl (ta_127 hn hx) ?_
    obtain ⟨v24, hy2, h2⟩ := bindC h1
    have hJ2 : lQ R E 0 cd_820 24 [(0, .ref (adr ad 4)), (1, .int v1), (3, .int v14)] [.int v24] (tp ad s A0) Z := by
      refine lQ.stI rfl (lN2s rfl rfl) ?_
      refine lQ.loadN rfl rfl ?_
      refine lQ.get hR rfl (tf_4_2 hn) ?_
      refine lQ.loadI rfl rfl ?_
      obtain ⟨x3, hx, h2⟩ := bindC h2
      refine lQ.ald hR rfl (ta_126 hn hx) ?_
      refine lQ.loadN rfl rfl ?_
      refine lQ.get hR rfl (tf_4_3 hn) ?_
      refine lQ.loadI rfl rfl ?_
      obtain ⟨x4, hx, h2⟩ := bindC h2
      refine lQ.ald hR rfl (ta_127 hn hx) ?_
      rcases iteC h2 with ⟨hc, h2⟩ | ⟨hc, h2⟩
      · refine lQ.cmpT rfl (decide_eq_true hc) ?_
        refine lQ.loadI rfl rfl ?_
        rcases iteC h2 with ⟨hc, h2⟩ | ⟨hc, h2⟩
        · refine lQ.ifF rfl (decide_eq_false (fun z => z hc)) ?_
          refine lQ.loadI rfl rfl ?_
          rcases iteC h2 with ⟨hc, h2⟩ | ⟨hc, h2⟩
          · refine lQ.ifT rfl (decide_eq_true hc) ?_
            refine lQ.push rfl ?_
            obtain rfl := Option.some.inj h2
            exact lQ.retI rfl rfl hz
          · refine lQ.ifF rfl (decide_eq_false hc) ?_
            refine lQ.push rfl ?_
            refine lQ.goto rfl ?_
            obtain rfl := Option.some.inj h2
            exact lQ.retI rfl rfl hz
        · refine lQ.ifT rfl (decide_eq_true hc) ?_
          refine lQ.push rfl ?_
          refine lQ.goto rfl ?_
          obtain rfl := Option.some.inj h2
          exact lQ.retI rfl rfl hz
      · refine lQ.cmpF rfl (decide_eq_false hc) ?_
        refine lQ.loadI rfl rfl ?_
        rcases iteC h2 with ⟨hc, h2⟩ | ⟨hc, h2⟩
        · refine lQ.ifT rfl (decide_eq_true hc) ?_
          refine lQ.push rfl ?_
          obtain rfl := Option.some.inj h2
          exact lQ.retI rfl rfl hz
        · refine lQ.ifF rfl (decide_eq_false hc) ?_
          refine lQ.loadI rfl rfl ?_
          rcases iteC h2 with ⟨hc, h2⟩ | ⟨hc, h2⟩
          · refine lQ.ifT rfl (decide_eq_true hc) ?_
            refine lQ.push rfl ?_
            obtain rfl := Option.some.inj h2
            exact lQ.retI rfl rfl hz
          · refine lQ.ifF rfl (decide_eq_false hc) ?_
            refine lQ.goto rfl ?_
            refine lQ.push rfl ?_
            refine lQ.goto rfl ?_
            obtain rfl := Option.some.inj h2
            exact lQ.retI rfl rfl hz
    rcases iteC hy2 with ⟨hc, hy2⟩ | ⟨hc, hy2⟩
    · refine lQ.cmpF rfl (decide_eq_false (Int32.not_le.mpr hc)) ?_
      refine lQ.push rfl ?_
      refine lQ.goto rfl ?_
      obtain rfl := Option.some.inj hy2
      exact lQ.sub (lSb rfl (lSb rfl (lSb rfl lSb0))) hJ2
    · refine lQ.cmpT rfl (decide_eq_true (Int32.not_lt.mp hc)) ?_
      refine lQ.push rfl ?_
      obtain rfl := Option.some.inj hy2
      exact lQ.sub (lSb rfl (lSb rfl (lSb rfl lSb0))) hJ2
  rcases iteC hy1 with ⟨hc, hy1⟩ | ⟨hc, hy1⟩
  · refine lQ.cmpT rfl (decide_eq_true hc) ?_
    refine lQ.push rfl ?_
    obtain rfl := Option.some.inj hy1
    exact lQ.sub (lSb rfl (lSb rfl (lSb rfl lSb0))) hJ1
  · refine lQ.cmpF rfl (decide_eq_false hc) ?_
    refine lQ.push rfl ?_
    refine lQ.goto rfl ?_
    obtain rfl := Option.some.inj hy1
    exact lQ.sub (lSb rfl (lSb rfl (lSb rfl lSb0))) hJ1
theorem ts_821 {R : lAR} (hR : lRok R) {E : lE} {ad : List Nat} (hn : tOk ad) {v1 : Int32} {v2 : Int32} {s : TS} {A0 : lMem} {x : Int32 × TS} (h : t_821 v1 v2 s = some x) {Z : lZ} (hz : Z (.inl (some (.int x.1))) (tp ad x.2 A0)) : lSQ R E 1 821 [.ref (adr ad 4), .int v1, .int v2] (tp ad s A0) Z := by
  refine lQ.sq pg_821 (Nat.le_of_ble_eq_true rfl) rfl ?_
  unfold t_821 at h
  refine lQ.loadI rfl rfl ?_
  obtain ⟨v15, hy1, h1⟩ := bindC h
  have hJ1 : lQ R E 0 cd_821 15 [(0, .ref (adr ad 4)), (1, .int v1), (2, .int v2)] [] (tp ad v15 A0) Z := by
    refine lQ.loadN rfl rfl ?_
    refine lQ.get hR rfl (tf_4_9 hn) ?_
    refine lQ.loadI rfl rfl ?_
    refine lQ.loadI rfl rfl ?_
    obtain ⟨s4, hx, h1⟩ := bindC h1
    refine lQ.ast hR rfl (tw_133 hn hx) ?_
    rintro _ rfl
    refine lQ.loadN rfl rfl ?_
    refine lQ.get hR rfl (tf_4_8 hn) ?_
    refine lQ.loadI rfl rfl ?_
    obtain ⟨x5, hx, h1⟩ := bindC h1
    refine lQ.ald hR rfl (ta_132 hn hx) ?_
    rcases iteC h1 with ⟨hc, h1⟩ | ⟨hc, h1⟩
    · refine lQ.ifT rfl (decide_eq_true hc) ?_
      refine lQ.loadN rfl rfl ?_
      refine lQ.get hR rfl (tf_4_8 hn) ?_
      refine lQ.loadI rfl rfl ?_
      refine lQ.dup2 rfl rfl rfl ?_
      obtain ⟨x6, hx, h1⟩ := bindC h1
      refine lQ.ald hR rfl (ta_132 hn hx) ?_
      refine lQ.push rfl ?_
      refine lQ.binI rfl ?_
      obtain ⟨s7, hx, h1⟩ := bindC h1
      refine lQ.ast hR rfl (tw_132 hn hx) ?_
      rintro _ rfl
      refine lQ.push rfl ?_
      obtain rfl := Option.some.inj h1
      exact lQ.retI rfl rfl hz
    · refine lQ.ifF rfl (decide_eq_false hc) ?_
      refine lQ.push rfl ?_
      obtain rfl := Option.some.inj h1
      exact lQ.retI rfl rfl hz
  rcases iteC hy1 with ⟨hc, hy1⟩ | ⟨hc, hy1⟩
  · refine lQ.ifT rfl (decide_eq_true hc) ?_
    obtain rfl := Option.some.inj hy1
    exact lQ.sub (lSb rfl (lSb rfl (lSb rfl lSb0))) hJ1
  · refine lQ.ifF rfl (decide_eq_false hc) ?_
    refine lQ.loadN rfl rfl ?_
    refine lQ.get hR rfl (tf_4_9 hn) ?_
    refine lQ.loadI rfl rfl ?_
    obtain ⟨x1, hx, hy1⟩ := bindC hy1
    refine lQ.ald hR rfl (ta_133 hn hx) ?_
    rcases iteC hy1 with ⟨hc, hy1⟩ | ⟨hc, hy1⟩
    · refine lQ.ifF rfl (decide_eq_false (fun z => z hc)) ?_
      refine lQ.loadN rfl rfl ?_
      refine lQ.get hR rfl (tf_4_8 hn) ?_
      refine lQ.loadI rfl rfl ?_
      refine lQ.loadN rfl rfl ?_
      refine lQ.get hR rfl (tf_4_2 hn) ?_
      refine lQ.loadI rfl rfl ?_
      obtain ⟨x2, hx, hy1⟩ := bindC hy1
      refine lQ.ald hR rfl (ta_126 hn hx) ?_
      obtain ⟨s3, hx, hy1⟩ := bindC hy1
      refine lQ.ast hR rfl (tw_132 hn hx) ?_
      rintro _ rfl
      obtain rfl := Option.some.inj hy1
      exact lQ.sub (lSb rfl (lSb rfl (lSb rfl lSb0))) hJ1
    · refine lQ.ifT rfl (decide_eq_true hc) ?_
      obtain rfl := Option.some.inj hy1
      exact lQ.sub (lSb rfl (lSb rfl (lSb rfl lSb0))) hJ1
theorem ts_817 {R : lAR} (hR : lRok R) {E : lE} {ad : List Nat} (hn : tOk ad) {v1 : Int32} {v2 : Int32} {v3 : Int32} {s : TS} {A0 : lMem} {x : Int32 × TS} (h : t_817 v1 v2 v3 s = some x) {Z : lZ} (hz : Z (.inl (some (.int x.1))) (tp ad x.2 A0)) : lSQ R E 2 817 [.ref (adr ad 4), .int v1, .int v2, .int v3] (tp ad s A0) Z := by
  refine lQ.sq pg_817 (Nat.le_of_ble_eq_true rfl) rfl ?_
  unfold t_817 at h
  refine lQ.loadN rfl rfl ?_
  refine lQ.get hR rfl (tf_4_1 hn) ?_
  refine lQ.loadI rfl rfl ?_
  obtain ⟨x1, hx, h⟩ := bindC h
  refine lQ.ald hR rfl (ta_125 hn hx) ?_
  rcases iteC h with ⟨hc, h⟩ | ⟨hc, h⟩
  · refine lQ.sw (j := 5) rfl (by unfold swT; rw [hc]; rfl) ?_
    refine lQ.loadN rfl rfl ?_
    refine lQ.get hR rfl (tf_4_8 hn) ?_
    refine lQ.loadI rfl rfl ?_
    obtain ⟨x22, hx, h⟩ := bindC h
    refine lQ.ald hR rfl (ta_132 hn hx) ?_
    obtain rfl := Option.some.inj h
    exact lQ.retI rfl rfl hz
  · have e0 := hc
    rcases iteC h with ⟨hc, h⟩ | ⟨hc, h⟩
    · refine lQ.sw (j := 10) rfl (by unfold swT; rw [hc]; rfl) ?_
      refine lQ.loadN rfl rfl ?_
      refine lQ.loadI rfl rfl ?_
      refine lQ.loadI rfl rfl ?_
      obtain ⟨x21, hx, h⟩ := bindC h
      refine lQ.callVI (F := (fun y A => x21 = y ∧ A = tp ad s A0)) (G := fun _ _ => False) (args := [.ref (adr ad 4), .int v1, .int v2]) (r := []) hR rfl rfl rfl (Nat.le_of_ble_eq_true rfl) (Nat.le_of_ble_eq_true rfl) rfl (tk_4 hn rfl) (ts_818 hR hn hx (cI_mk ⟨rfl, rfl⟩)) ?_ (fun _ _ _ z => z.elim)
      rintro _ _ ⟨rfl, rfl⟩
      obtain rfl := Option.some.inj h
      exact lQ.retI rfl rfl hz
    · have e1 := hc
      rcases iteC h with ⟨hc, h⟩ | ⟨hc, h⟩
      · refine lQ.sw (j := 15) rfl (by unfold swT; rw [hc]; rfl) ?_
        refine lQ.loadN rfl rfl ?_
        refine lQ.loadI rfl rfl ?_
        refine lQ.loadI rfl rfl ?_
        refine lQ.loadI rfl rfl ?_
        obtain ⟨x20, hx, h⟩ := bindC h
        refine lQ.callVI (F := (fun y A => x20.1 = y ∧ A = tp ad x20.2 A0)) (G := fun _ _ => False) (args := [.ref (adr ad 4), .int v1, .int v2, .int v3]) (r := []) hR rfl rfl rfl (Nat.le_of_ble_eq_true rfl) (Nat.le_of_ble_eq_true rfl) rfl (tk_4 hn rfl) (ts_819 hR hn hx (cI_mk ⟨rfl, rfl⟩)) ?_ (fun _ _ _ z => z.elim)
        rintro _ _ ⟨rfl, rfl⟩
        obtain rfl := Option.some.inj h
        exact lQ.retI rfl rfl hz
      · have e2 := hc
        rcases iteC h with ⟨hc, h⟩ | ⟨hc, h⟩
        · refine lQ.sw (j := 21) rfl (by unfold swT; rw [hc]; rfl) ?_
          refine lQ.loadN rfl rfl ?_
          refine lQ.get hR rfl (tf_4_8 hn) ?_
          refine lQ.loadI rfl rfl ?_
          refine lQ.loadI rfl rfl ?_
          obtain ⟨v36, hy1, h1⟩ := bindC h
          have hJ1 : lQ R E 1 cd_817 36 [(0, .ref (adr ad 4)), (1, .int v1)] [.int v36, .int v1, .ref (adr ad 132)] (tp ad s A0) Z := by
            obtain ⟨s18, hx, h1⟩ := bindC h1
            refine lQ.ast hR rfl (tw_132 hn hx) ?_
            rintro _ rfl
            refine lQ.loadN rfl rfl ?_
            refine lQ.get hR rfl (tf_4_8 hn) ?_
            refine lQ.loadI rfl rfl ?_
            obtain ⟨x19, hx, h1⟩ := bindC h1
            refine lQ.ald hR rfl (ta_132 hn hx) ?_
            obtain rfl := Option.some.inj h1
            exact lQ.retI rfl rfl hz
          rcases iteC hy1 with ⟨hc, hy1⟩ | ⟨hc, hy1⟩
          · refine lQ.ifT rfl (decide_eq_true hc) ?_
            refine lQ.loadI rfl rfl ?_
            rcases iteC hy1 with ⟨hc, hy1⟩ | ⟨hc, hy1⟩
            · refine lQ.ifT rfl (decide_eq_true hc) ?_
              refine lQ.loadN rfl rfl ?_
              refine lQ.get hR rfl (tf_4_8 hn) ?_
              refine lQ.loadI rfl rfl ?_
              obtain ⟨x17, hx, hy1⟩ := bindC hy1
              refine lQ.ald hR rfl (ta_132 hn hx) ?_
              obtain rfl := Option.some.inj hy1
              exact lQ.sub (lSb rfl (lSb rfl lSb0)) hJ1
            · refine lQ.ifF rfl (decide_eq_false hc) ?_
              refine lQ.push rfl ?_
              refine lQ.goto rfl ?_
              obtain rfl := Option.some.inj hy1
              exact lQ.sub (lSb rfl (lSb rfl lSb0)) hJ1
          · refine lQ.ifF rfl (decide_eq_false hc) ?_
            refine lQ.push rfl ?_
            refine lQ.goto rfl ?_
            obtain rfl := Option.some.inj hy1
            exact lQ.sub (lSb rfl (lSb rfl lSb0)) hJ1
        · have e3 := hc
          rcases iteC h with ⟨hc, h⟩ | ⟨hc, h⟩
          · refine lQ.sw (j := 42) rfl (by unfold swT; rw [hc]; rfl) ?_
            refine lQ.loadN rfl rfl ?_
            refine lQ.loadI rfl rfl ?_
            obtain ⟨x16, hx, h⟩ := bindC h
            refine lQ.callVI (F := (fun y A => x16 = y ∧ A = tp ad s A0)) (G := fun _ _ => False) (args := [.ref (adr ad 4), .int v1]) (r := []) hR rfl rfl rfl (Nat.le_of_ble_eq_true rfl) (Nat.le_of_ble_eq_true rfl) rfl (tk_4 hn rfl) (ts_820 hR hn hx (cI_mk ⟨rfl, rfl⟩)) ?_ (fun _ _ _ z => z.elim)
            rintro _ _ ⟨rfl, rfl⟩
            obtain rfl := Option.some.inj h
            exact lQ.retI rfl rfl hz
          · have e4 := hc
            rcases iteC h with ⟨hc, h⟩ | ⟨hc, h⟩
            · refine lQ.sw (j := 46) rfl (by unfold swT; rw [hc]; rfl) ?_
              refine lQ.loadN rfl rfl ?_
              refine lQ.loadI rfl rfl ?_
              refine lQ.loadI rfl rfl ?_
              obtain ⟨x15, hx, h⟩ := bindC h
              refine lQ.callVI (F := (fun y A => x15.1 = y ∧ A = tp ad x15.2 A0)) (G := fun _ _ => False) (args := [.ref (adr ad 4), .int v1, .int v2]) (r := []) hR rfl rfl rfl (Nat.le_of_ble_eq_true rfl) (Nat.le_of_ble_eq_true rfl) rfl (tk_4 hn rfl) (ts_821 hR hn hx (cI_mk ⟨rfl, rfl⟩)) ?_ (fun _ _ _ z => z.elim)
              rintro _ _ ⟨rfl, rfl⟩
              obtain rfl := Option.some.inj h
              exact lQ.retI rfl rfl hz
            · have e5 := hc
              rcases iteC h with ⟨hc, h⟩ | ⟨hc, h⟩
              · refine lQ.sw (j := 51) rfl (by unfold swT; rw [hc]; rfl) ?_
                refine lQ.loadI rfl rfl ?_
                refine lQ.loadN rfl rfl ?_
                refine lQ.get hR rfl (tf_4_2 hn) ?_
                refine lQ.loadI rfl rfl ?_
                obtain ⟨x11, hx, h⟩ := bindC h
                refine lQ.ald hR rfl (ta_126 hn hx) ?_
                rcases iteC h with ⟨hc, h⟩ | ⟨hc, h⟩
                · refine lQ.cmpF rfl (decide_eq_false (Int32.not_le.mpr hc)) ?_
                  refine lQ.loadN rfl rfl ?_
                  refine lQ.get hR rfl (tf_4_2 hn) ?_
                  refine lQ.loadI rfl rfl ?_
                  obtain ⟨x14, hx, h⟩ := bindC h
                  refine lQ.ald hR rfl (ta_126 hn hx) ?_
                  refine lQ.goto rfl ?_
                  obtain rfl := Option.some.inj h
                  exact lQ.retI rfl rfl hz
                · refine lQ.cmpT rfl (decide_eq_true (Int32.not_lt.mp hc)) ?_
                  refine lQ.loadI rfl rfl ?_
                  refine lQ.loadN rfl rfl ?_
                  refine lQ.get hR rfl (tf_4_3 hn) ?_
                  refine lQ.loadI rfl rfl ?_
                  obtain ⟨x12, hx, h⟩ := bindC h
                  refine lQ.ald hR rfl (ta_127 hn hx) ?_
                  rcases iteC h with ⟨hc, h⟩ | ⟨hc, h⟩
                  · refine lQ.cmpF rfl (decide_eq_false (Int32.not_le.mpr hc)) ?_
                    refine lQ.loadN rfl rfl ?_
                    refine lQ.get hR rfl (tf_4_3 hn) ?_
                    refine lQ.loadI rfl rfl ?_
                    obtain ⟨x13, hx, h⟩ := bindC h
                    refine lQ.ald hR rfl (ta_127 hn hx) ?_
                    refine lQ.goto rfl ?_
                    obtain rfl := Option.some.inj h
                    exact lQ.retI rfl rfl hz
                  · refine lQ.cmpT rfl (decide_eq_true (Int32.not_lt.mp hc)) ?_
                    refine lQ.loadI rfl rfl ?_
                    obtain rfl := Option.some.inj h
                    exact lQ.retI rfl rfl hz
              · have e6 := hc
                rcases iteC h with ⟨hc, h⟩ | ⟨hc, h⟩
                · refine lQ.sw (j := 75) rfl (by unfold swT; rw [hc]; rfl) ?_
                  refine lQ.loadI rfl rfl ?_
                  rcases iteC h with ⟨hc, h⟩ | ⟨hc, h⟩
                  · refine lQ.ifT rfl (decide_eq_true hc) ?_
                    refine lQ.loadI rfl rfl ?_
                    obtain rfl := Option.some.inj h
                    exact lQ.retI rfl rfl hz
                  · refine lQ.ifF rfl (decide_eq_false hc) ?_
                    refine lQ.loadN rfl rfl ?_
                    refine lQ.get hR rfl (tf_4_7 hn) ?_
                    refine lQ.loadI rfl rfl ?_
                    obtain ⟨x10, hx, h⟩ := bindC h
                    refine lQ.ald hR rfl (ta_131 hn hx) ?_
                    refine lQ.goto rfl ?_
                    obtain rfl := Option.some.inj h
                    exact lQ.retI rfl rfl hz
                · have e7 := hc
                  rcases iteC h with ⟨hc, h⟩ | ⟨hc, h⟩
                  · refine lQ.sw (j := 84) rfl (by unfold swT; rw [hc]; rfl) ?_
                    refine lQ.loadN rfl rfl ?_
                    refine lQ.get hR rfl (tf_4_8 hn) ?_
                    refine lQ.loadI rfl rfl ?_
                    refine lQ.loadI rfl rfl ?_
                    obtain ⟨v97, hy2, h2⟩ := bindC h
                    have hJ2 : lQ R E 1 cd_817 97 [(0, .ref (adr ad 4)), (1, .int v1)] [.int v97, .int v1, .ref (adr ad 132)] (tp ad s A0) Z := by
                      obtain ⟨s8, hx, h2⟩ := bindC h2
                      refine lQ.ast hR rfl (tw_132 hn hx) ?_
                      rintro _ rfl
                      refine lQ.loadN rfl rfl ?_
                      refine lQ.get hR rfl (tf_4_8 hn) ?_
                      refine lQ.loadI rfl rfl ?_
                      obtain ⟨x9, hx, h2⟩ := bindC h2
                      refine lQ.ald hR rfl (ta_132 hn hx) ?_
                      obtain rfl := Option.some.inj h2
                      exact lQ.retI rfl rfl hz
                    rcases iteC hy2 with ⟨hc, hy2⟩ | ⟨hc, hy2⟩
                    · refine lQ.ifT rfl (decide_eq_true hc) ?_
                      refine lQ.loadN rfl rfl ?_
                      refine lQ.get hR rfl (tf_4_8 hn) ?_
                      refine lQ.loadI rfl rfl ?_
                      obtain ⟨x7, hx, hy2⟩ := bindC hy2
                      refine lQ.ald hR rfl (ta_132 hn hx) ?_
                      refine lQ.loadI rfl rfl ?_
                      refine lQ.binI rfl ?_
                      obtain rfl := Option.some.inj hy2
                      exact lQ.sub (lSb rfl (lSb rfl lSb0)) hJ2
                    · refine lQ.ifF rfl (decide_eq_false hc) ?_
                      refine lQ.push rfl ?_
                      refine lQ.goto rfl ?_
                      obtain rfl := Option.some.inj hy2
                      exact lQ.sub (lSb rfl (lSb rfl lSb0)) hJ2
                  · have e8 := hc
                    refine lQ.sw (j := 103) rfl (swT_all ⟨Or.inr e0, ⟨Or.inr e1, ⟨Or.inr e2, ⟨Or.inr e3, ⟨Or.inr e4, ⟨Or.inr e5, ⟨Or.inr e6, ⟨Or.inr e7, ⟨Or.inr e8, trivial⟩⟩⟩⟩⟩⟩⟩⟩⟩) ?_
                    refine lQ.loadI rfl rfl ?_
                    obtain ⟨v113, hy3, h3⟩ := bindC h
                    have hJ3 : lQ R E 1 cd_817 113 [(0, .ref (adr ad 4)), (1, .int v1)] [.int v113] (tp ad s A0) Z := by
                      refine lQ.stI rfl (lN2n rfl) ?_
                      refine lQ.loadN rfl rfl ?_
                      refine lQ.get hR rfl (tf_4_8 hn) ?_
                      refine lQ.loadI rfl rfl ?_
                      refine lQ.loadI rfl rfl ?_
                      refine lQ.loadN rfl rfl ?_
                      refine lQ.get hR rfl (tf_4_2 hn) ?_
                      refine lQ.loadI rfl rfl ?_
                      obtain ⟨x3, hx, h3⟩ := bindC h3
                      refine lQ.ald hR rfl (ta_126 hn hx) ?_
                      obtain ⟨v129, hy4, h4⟩ := bindC h3
                      have hJ4 : lQ R E 1 cd_817 129 [(0, .ref (adr ad 4)), (1, .int v1)] [.int v129, .int v1, .ref (adr ad 132)] (tp ad s A0) Z := by
                        obtain ⟨s5, hx, h4⟩ := bindC h4
                        refine lQ.ast hR rfl (tw_132 hn hx) ?_
                        rintro _ rfl
                        refine lQ.loadN rfl rfl ?_
                        refine lQ.get hR rfl (tf_4_8 hn) ?_
                        refine lQ.loadI rfl rfl ?_
                        obtain ⟨x6, hx, h4⟩ := bindC h4
                        refine lQ.ald hR rfl (ta_132 hn hx) ?_
                        obtain rfl := Option.some.inj h4
                        exact lQ.retI rfl rfl hz
                      rcases iteC hy4 with ⟨hc, hy4⟩ | ⟨hc, hy4⟩
                      · refine lQ.cmpF rfl (decide_eq_false (Int32.not_le.mpr hc)) ?_
                        refine lQ.loadI rfl rfl ?_
                        refine lQ.goto rfl ?_
                        obtain rfl := Option.some.inj hy4
                        exact lQ.sub (lSb rfl (lSb rfl lSb0)) hJ4
                      · refine lQ.cmpT rfl (decide_eq_true (Int32.not_lt.mp hc)) ?_
                        refine lQ.loadN rfl rfl ?_
                        refine lQ.get hR rfl (tf_4_2 hn) ?_
                        refine lQ.loadI rfl rfl ?_
                        obtain ⟨x4, hx, hy4⟩ := bindC hy4
                        refine lQ.ald hR rfl (ta_126 hn hx) ?_
                        obtain rfl := Option.some.inj hy4
                        exact lQ.sub (lSb rfl (lSb rfl lSb0)) hJ4
                    rcases iteC hy3 with ⟨hc, hy3⟩ | ⟨hc, hy3⟩
                    · refine lQ.ifF rfl (decide_eq_false (fun z => z hc)) ?_
                      refine lQ.push rfl ?_
                      refine lQ.goto rfl ?_
                      obtain rfl := Option.some.inj hy3
                      exact lQ.sub (lSb rfl (lSb rfl lSb0)) hJ3
                    · refine lQ.ifT rfl (decide_eq_true hc) ?_
                      refine lQ.loadN rfl rfl ?_
                      refine lQ.get hR rfl (tf_4_8 hn) ?_
                      refine lQ.loadI rfl rfl ?_
                      obtain ⟨x2, hx, hy3⟩ := bindC hy3
                      refine lQ.ald hR rfl (ta_132 hn hx) ?_
                      refine lQ.push rfl ?_
                      refine lQ.binI rfl ?_
                      obtain rfl := Option.some.inj hy3
                      exact lQ.sub (lSb rfl (lSb rfl lSb0)) hJ3
theorem ts_812 {R : lAR} (hR : lRok R) {E : lE} {ad : List Nat} (hn : tOk ad) {v1 : Int32} {s : TS} {A0 : lMem} {x : TS} (h : t_812 v1 s = some x) {Z : lZ} (hz : Z (.inl none) (tp ad x A0)) : lSQ R E 3 812 [.ref (adr ad 4), .int v1] (tp ad s A0) Z := by
  refine lQ.sq pg_812 (Nat.le_of_ble_eq_true rfl) rfl ?_
  unfold t_812 at h
  refine lQ.loadN rfl rfl ?_
  refine lQ.loadI rfl rfl ?_
  obtain ⟨x1, hx, h⟩ := bindC h
  refine lQ.callVI (F := (fun y A => x1 = y ∧ A = tp ad s A0)) (G := fun _ _ => False) (args := [.ref (adr ad 4), .int v1]) (r := []) hR rfl rfl rfl (Nat.le_of_ble_eq_true rfl) (Nat.le_of_ble_eq_true rfl) rfl (tk_4 hn rfl) (ts_813 hR hn hx (cI_mk ⟨rfl, rfl⟩)) ?_ (fun _ _ _ z => z.elim)
  rintro _ _ ⟨rfl, rfl⟩
  refine lQ.stI rfl (lN2s rfl rfl) ?_
  refine lQ.loadI rfl rfl ?_
  obtain ⟨v65, hy1, h1⟩ := bindC h
  have hJ1 : lQ R E 2 cd_812 65 [(0, .ref (adr ad 4)), (1, .int v1)] [] (tp ad v65 A0) Z := by
    refine lQ.loadN rfl rfl ?_
    refine lQ.get hR rfl (tf_4_7 hn) ?_
    refine lQ.loadI rfl rfl ?_
    refine lQ.loadN rfl rfl ?_
    refine lQ.get hR rfl (tf_4_10 hn) ?_
    refine lQ.loadI rfl rfl ?_
    obtain ⟨x12, hx, h1⟩ := bindC h1
    refine lQ.ald hR rfl (ta_134 hn hx) ?_
    obtain ⟨v82, hy2, h2⟩ := bindC h1
    have hJ2 : lQ R E 2 cd_812 82 [] [.int v82, .int v1, .ref (adr ad 131)] (tp ad v65 A0) Z := by
      obtain ⟨s15, hx, h2⟩ := bindC h2
      refine lQ.ast hR rfl (tw_131 hn hx) ?_
      rintro _ rfl
      obtain rfl := Option.some.inj h2
      exact lQ.retV rfl hz
    rcases iteC hy2 with ⟨hc, hy2⟩ | ⟨hc, hy2⟩
    · refine lQ.ifT rfl (decide_eq_true hc) ?_
      refine lQ.loadN rfl rfl ?_
      refine lQ.get hR rfl (tf_4_7 hn) ?_
      refine lQ.loadI rfl rfl ?_
      obtain ⟨x13, hx, hy2⟩ := bindC hy2
      refine lQ.ald hR rfl (ta_131 hn hx) ?_
      obtain rfl := Option.some.inj hy2
      exact lQ.sub lSb0 hJ2
    · refine lQ.ifF rfl (decide_eq_false hc) ?_
      refine lQ.loadN rfl rfl ?_
      refine lQ.get hR rfl (tf_4_11 hn) ?_
      refine lQ.loadI rfl rfl ?_
      obtain ⟨x14, hx, hy2⟩ := bindC hy2
      refine lQ.ald hR rfl (ta_135 hn hx) ?_
      refine lQ.goto rfl ?_
      obtain rfl := Option.some.inj hy2
      exact lQ.sub lSb0 hJ2
  rcases iteC hy1 with ⟨hc, hy1⟩ | ⟨hc, hy1⟩
  · refine lQ.ifF rfl (decide_eq_false (Int32.not_le.mpr hc)) ?_
    refine lQ.loadN rfl rfl ?_
    refine lQ.loadI rfl rfl ?_
    refine lQ.loadI rfl rfl ?_
    obtain ⟨x11, hx, hy1⟩ := bindC hy1
    refine lQ.callVV (F := (fun A => A = tp ad x11 A0)) (G := fun _ _ => False) (args := [.ref (adr ad 4), .int v1, .int x1]) (r := []) hR rfl rfl rfl (Nat.le_of_ble_eq_true rfl) (Nat.le_of_ble_eq_true rfl) rfl (tk_4 hn rfl) (ts_815 hR hn hx (cV_mk rfl)) ?_ (fun _ _ _ z => z.elim)
    rintro _ rfl
    refine lQ.goto rfl ?_
    obtain rfl := Option.some.inj hy1
    exact lQ.sub (lSb rfl (lSb rfl lSb0)) hJ1
  · refine lQ.ifT rfl (decide_eq_true (Int32.not_lt.mp hc)) ?_
    refine lQ.loadN rfl rfl ?_
    refine lQ.get hR rfl (tf_4_1 hn) ?_
    refine lQ.loadI rfl rfl ?_
    obtain ⟨x2, hx, hy1⟩ := bindC hy1
    refine lQ.ald hR rfl (ta_125 hn hx) ?_
    refine lQ.push rfl ?_
    obtain ⟨v24, hy3, h3⟩ := bindC hy1
    have hJ3 : lQ R E 2 cd_812 24 [(0, .ref (adr ad 4)), (1, .int v1)] [.int v24] (tp ad s A0) Z := by
      refine lQ.stI rfl (lN2n rfl) ?_
      refine lQ.loadI rfl rfl ?_
      obtain ⟨v33, hy4, h4⟩ := bindC h3
      have hJ4 : lQ R E 2 cd_812 33 [(0, .ref (adr ad 4)), (1, .int v1), (3, .int v24)] [.int v33] (tp ad s A0) Z := by
        refine lQ.stI rfl (lN2s rfl rfl) ?_
        refine lQ.loadI rfl rfl ?_
        refine lQ.push rfl ?_
        obtain ⟨v43, hy5, h5⟩ := bindC h4
        have hJ5 : lQ R E 2 cd_812 43 [(0, .ref (adr ad 4)), (1, .int v1), (4, .int v33)] [.int v43] (tp ad s A0) Z := by
          refine lQ.stI rfl (lN2s rfl rfl) ?_
          refine lQ.loadN rfl rfl ?_
          refine lQ.get hR rfl (tf_4_7 hn) ?_
          refine lQ.loadI rfl rfl ?_
          refine lQ.loadN rfl rfl ?_
          refine lQ.get hR rfl (tf_4_1 hn) ?_
          refine lQ.loadI rfl rfl ?_
          obtain ⟨x7, hx, h5⟩ := bindC h5
          refine lQ.ald hR rfl (ta_125 hn hx) ?_
          refine lQ.push rfl ?_
          obtain ⟨v64, hy6, h6⟩ := bindC h5
          have hJ6 : lQ R E 2 cd_812 64 [(0, .ref (adr ad 4)), (1, .int v1)] [.int v64.2, .int v1, .ref (adr ad 131)] (tp ad v64.1 A0) Z := by
            obtain ⟨s10, hx, h6⟩ := bindC h6
            refine lQ.ast hR rfl (tw_131 hn hx) ?_
            rintro _ rfl
            obtain rfl := Option.some.inj h6
            exact lQ.sub (lSb rfl (lSb rfl lSb0)) hJ1
          rcases iteC hy6 with ⟨hc, hy6⟩ | ⟨hc, hy6⟩
          · refine lQ.cmpF rfl (decide_eq_false (Int32.not_le.mpr hc)) ?_
            refine lQ.loadN rfl rfl ?_
            refine lQ.loadI rfl rfl ?_
            refine lQ.loadI rfl rfl ?_
            refine lQ.loadI rfl rfl ?_
            obtain ⟨x9, hx, hy6⟩ := bindC hy6
            refine lQ.callVI (F := (fun y A => x9 = y ∧ A = tp ad s A0)) (G := fun _ _ => False) (args := [.ref (adr ad 4), .int v1, .int v33, .int v43]) (r := [.int v1, .ref (adr ad 131)]) hR rfl rfl rfl (Nat.le_of_ble_eq_true rfl) (Nat.le_of_ble_eq_true rfl) rfl (tk_4 hn rfl) (ts_816 hR hn hx (cI_mk ⟨rfl, rfl⟩)) ?_ (fun _ _ _ z => z.elim)
            rintro _ _ ⟨rfl, rfl⟩
            refine lQ.goto rfl ?_
            obtain rfl := Option.some.inj hy6
            exact lQ.sub (lSb rfl (lSb rfl lSb0)) hJ6
          · refine lQ.cmpT rfl (decide_eq_true (Int32.not_lt.mp hc)) ?_
            refine lQ.loadN rfl rfl ?_
            refine lQ.loadI rfl rfl ?_
            refine lQ.loadI rfl rfl ?_
            refine lQ.loadI rfl rfl ?_
            obtain ⟨x8, hx, hy6⟩ := bindC hy6
            refine lQ.callVI (F := (fun y A => x8.1 = y ∧ A = tp ad x8.2 A0)) (G := fun _ _ => False) (args := [.ref (adr ad 4), .int v1, .int v33, .int v43]) (r := [.int v1, .ref (adr ad 131)]) hR rfl rfl rfl (Nat.le_of_ble_eq_true rfl) (Nat.le_of_ble_eq_true rfl) rfl (tk_4 hn rfl) (ts_817 hR hn hx (cI_mk ⟨rfl, rfl⟩)) ?_ (fun _ _ _ z => z.elim)
            rintro _ _ ⟨rfl, rfl⟩
            obtain rfl := Option.some.inj hy6
            exact lQ.sub (lSb rfl (lSb rfl lSb0)) hJ6
        rcases iteC hy5 with ⟨hc, hy5⟩ | ⟨hc, hy5⟩
        · refine lQ.cmpF rfl (decide_eq_false (Int32.not_le.mpr hc)) ?_
          refine lQ.loadN rfl rfl ?_
          refine lQ.loadI rfl rfl ?_
          refine lQ.push rfl ?_
          obtain ⟨x6, hx, hy5⟩ := bindC hy5
          refine lQ.callVI (F := (fun y A => x6 = y ∧ A = tp ad s A0)) (G := fun _ _ => False) (args := [.ref (adr ad 4), .int v1, .int 1]) (r := []) hR rfl rfl rfl (Nat.le_of_ble_eq_true rfl) (Nat.le_of_ble_eq_true rfl) rfl (tk_4 hn rfl) (ts_814 hR hn hx (cI_mk ⟨rfl, rfl⟩)) ?_ (fun _ _ _ z => z.elim)
          rintro _ _ ⟨rfl, rfl⟩
          refine lQ.goto rfl ?_
          obtain rfl := Option.some.inj hy5
          exact lQ.sub (lSb rfl (lSb rfl (lSb rfl lSb0))) hJ5
        · refine lQ.cmpT rfl (decide_eq_true (Int32.not_lt.mp hc)) ?_
          refine lQ.push rfl ?_
          obtain rfl := Option.some.inj hy5
          exact lQ.sub (lSb rfl (lSb rfl (lSb rfl lSb0))) hJ5
      rcases iteC hy4 with ⟨hc, hy4⟩ | ⟨hc, hy4⟩
      · refine lQ.ifF rfl (decide_eq_false (Int32.not_le.mpr hc)) ?_
        refine lQ.loadN rfl rfl ?_
        refine lQ.loadI rfl rfl ?_
        refine lQ.push rfl ?_
        obtain ⟨x5, hx, hy4⟩ := bindC hy4
        refine lQ.callVI (F := (fun y A => x5 = y ∧ A = tp ad s A0)) (G := fun _ _ => False) (args := [.ref (adr ad 4), .int v1, .int 0]) (r := []) hR rfl rfl rfl (Nat.le_of_ble_eq_true rfl) (Nat.le_of_ble_eq_true rfl) rfl (tk_4 hn rfl) (ts_814 hR hn hx (cI_mk ⟨rfl, rfl⟩)) ?_ (fun _ _ _ z => z.elim)
        rintro _ _ ⟨rfl, rfl⟩
        refine lQ.goto rfl ?_
        obtain rfl := Option.some.inj hy4
        exact lQ.sub (lSb rfl (lSb rfl (lSb rfl lSb0))) hJ4
      · refine lQ.ifT rfl (decide_eq_true (Int32.not_lt.mp hc)) ?_
        refine lQ.push rfl ?_
        obtain rfl := Option.some.inj hy4
        exact lQ.sub (lSb rfl (lSb rfl (lSb rfl lSb0))) hJ4
    rcases iteC hy3 with ⟨hc, hy3⟩ | ⟨hc, hy3⟩
    · refine lQ.cmpF rfl (decide_eq_false (fun z => z hc)) ?_
      refine lQ.push rfl ?_
      refine lQ.goto rfl ?_
      obtain rfl := Option.some.inj hy3
      exact lQ.sub (lSb rfl (lSb rfl lSb0)) hJ3
    · refine lQ.cmpT rfl (decide_eq_true hc) ?_
      refine lQ.loadN rfl rfl ?_
      refine lQ.get hR rfl (tf_4_1 hn) ?_
      refine lQ.loadI rfl rfl ?_
      obtain ⟨x3, hx, hy3⟩ := bindC hy3
      refine lQ.ald hR rfl (ta_125 hn hx) ?_
      obtain ⟨x4, hx, hy3⟩ := bindC hy3
      refine lQ.callI (F := (fun y A => x4 = y ∧ A = tp ad s A0)) (G := fun _ _ => False) (args := [.int x3]) (r := []) hR rfl rfl rfl (Nat.le_of_ble_eq_true rfl) (Nat.le_of_ble_eq_true rfl) (ts_809 hR hn hx (cI_mk ⟨rfl, rfl⟩)) ?_ (fun _ _ _ z => z.elim)
      rintro _ _ ⟨rfl, rfl⟩
      obtain rfl := Option.some.inj hy3
      exact lQ.sub (lSb rfl (lSb rfl lSb0)) hJ3
theorem ts_811 {R : lAR} (hR : lRok R) {E : lE} {ad : List Nat} (hn : tOk ad) {s : TS} {A0 : lMem} {x : TS} (h : t_811 s = some x) {Z : lZ} (hz : Z (.inl none) (tp ad x A0)) : lSQ R E 4 811 [.ref (adr ad 4)] (tp ad s A0) Z := by
  refine lQ.sq pg_811 (Nat.le_of_ble_eq_true rfl) rfl ?_
  unfold t_811 at h
  refine lQ.loadN rfl rfl ?_
  obtain ⟨x1, hx, h⟩ := bindC h
  refine lQ.callVI (F := (fun y A => x1.1 = y ∧ A = tp ad x1.2 A0)) (G := fun _ _ => False) (args := [.ref (adr ad 4)]) (r := []) hR rfl rfl rfl (Nat.le_of_ble_eq_true rfl) (Nat.le_of_ble_eq_true rfl) rfl (tk_4 hn rfl) (ts_807 hR hn hx (cI_mk ⟨rfl, rfl⟩)) ?_ (fun _ _ _ z => z.elim)
  rintro _ _ ⟨rfl, rfl⟩
  refine lQ.loadN rfl rfl ?_
  refine lQ.get hR rfl (tf_4_0 hn) ?_
  rcases iteC h with ⟨hc, h⟩ | ⟨hc, h⟩
  · refine lQ.cmpT rfl (decide_eq_true hc) ?_
    obtain rfl := Option.some.inj h
    exact lQ.retV rfl hz
  · refine lQ.cmpF rfl (decide_eq_false hc) ?_
    refine lQ.loadN rfl rfl ?_
    refine lQ.get hR rfl (tf_4_18 hn) ?_
    rcases iteC h with ⟨hc, h⟩ | ⟨hc, h⟩
    · refine lQ.ifT rfl (decide_eq_true hc) ?_
      refine lQ.push rfl ?_
      refine lQ.stI rfl (lN2s rfl rfl) ?_
      obtain ⟨v23, hy1, h1⟩ := bindC h
      have hJ1 : lQ R E 3 cd_811 23 [(0, .ref (adr ad 4))] [] (tp ad v23 A0) Z := by
        refine lQ.push rfl ?_
        refine lQ.stI rfl (lN2s rfl rfl) ?_
        obtain ⟨v81, hy2, h2⟩ := bindC h1
        have hJ2 : lQ R E 3 cd_811 81 [(0, .ref (adr ad 4))] [] (tp ad v81 A0) Z := by
          refine lQ.loadN rfl rfl ?_
          refine lQ.loadN rfl rfl ?_
          refine lQ.get hR rfl (tf_4_17 hn) ?_
          refine lQ.push rfl ?_
          obtain ⟨x14, hx, h2⟩ := bindC h2
          refine lQ.ald hR rfl (ta_140 hn hx) ?_
          refine lQ.push rfl ?_
          obtain ⟨v91, hy3, h3⟩ := bindC h2
          have hJ3 : lQ R E 3 cd_811 91 [] [.int v91, .ref (adr ad 4)] (tp ad v81 A0) Z := by
            rcases iteC h3 with ⟨hg, h3⟩ | ⟨_, h3⟩
            case inr => cases h3
            obtain ⟨s15, hx, h3⟩ := bindC h3
            refine lQ.put hR rfl (fitB hg) (tq_4_18 hn hx) ?_
            rintro _ rfl
            obtain rfl := Option.some.inj h3
            exact lQ.retV rfl hz
          rcases iteC hy3 with ⟨hc, hy3⟩ | ⟨hc, hy3⟩
          · refine lQ.cmpT rfl (decide_eq_true hc) ?_
            refine lQ.push rfl ?_
            obtain rfl := Option.some.inj hy3
            exact lQ.sub lSb0 hJ3
          · refine lQ.cmpF rfl (decide_eq_false hc) ?_
            refine lQ.push rfl ?_
            refine lQ.goto rfl ?_
            obtain rfl := Option.some.inj hy3
            exact lQ.sub lSb0 hJ3
        refine lQ.sub (lSb rfl (lSb rfl lSb0)) (wh_run (P := fun p25 => lQ R E 3 cd_811 25 [(0, .ref (adr ad 4)), (1, .int p25.2)] [] (tp ad p25.1 A0) Z) hy2 ?_)
        intro p25 r4 hb4 hI4 hX4
        refine lQ.loadI rfl rfl ?_
        refine lQ.loadN rfl rfl ?_
        refine lQ.get hR rfl (tf_4_0 hn) ?_
        rcases iteC hb4 with ⟨hc, hb4⟩ | ⟨hc, hb4⟩
        · refine lQ.cmpF rfl (decide_eq_false (Int32.not_le.mpr hc)) ?_
          refine lQ.loadN rfl rfl ?_
          refine lQ.get hR rfl (tf_4_1 hn) ?_
          refine lQ.loadI rfl rfl ?_
          obtain ⟨x4, hx, hb4⟩ := bindC hb4
          refine lQ.ald hR rfl (ta_125 hn hx) ?_
          refine lQ.push rfl ?_
          obtain ⟨v79, hy5, h5⟩ := bindC hb4
          have hJ5 : lQ R E 3 cd_811 79 [(0, .ref (adr ad 4)), (1, .int p25.2)] [] (tp ad v79 A0) Z := by
            refine lQ.inc rfl rfl (lN2s rfl rfl) ?_
            refine lQ.goto rfl ?_
            obtain rfl := Option.some.inj h5
            exact lQ.sub (lSb rfl (lSb rfl lSb0)) (hI4 _ rfl)
          obtain ⟨y6, hy6, h6⟩ := bindC hy5
          have hJ6 : ∀ v65, y6 = .inl v65 → lQ R E 3 cd_811 65 [(0, .ref (adr ad 4)), (1, .int p25.2)] [] (tp ad p25.1 A0) Z := by
            rintro v65 rfl
            have h6 := elimC h6
            refine lQ.loadN rfl rfl ?_
            refine lQ.get hR rfl (tf_4_1 hn) ?_
            refine lQ.loadI rfl rfl ?_
            obtain ⟨x11, hx, h6⟩ := bindC h6
            refine lQ.ald hR rfl (ta_125 hn hx) ?_
            refine lQ.push rfl ?_
            rcases iteC h6 with ⟨hc, h6⟩ | ⟨hc, h6⟩
            · refine lQ.cmpF rfl (decide_eq_false (fun z => z hc)) ?_
              refine lQ.loadN rfl rfl ?_
              refine lQ.get hR rfl (tf_4_8 hn) ?_
              refine lQ.loadI rfl rfl ?_
              refine lQ.loadN rfl rfl ?_
              refine lQ.loadI rfl rfl ?_
              refine lQ.push rfl ?_
              obtain ⟨x12, hx, h6⟩ := bindC h6
              refine lQ.callVI (F := (fun y A => x12 = y ∧ A = tp ad p25.1 A0)) (G := fun _ _ => False) (args := [.ref (adr ad 4), .int p25.2, .int 0]) (r := [.int p25.2, .ref (adr ad 132)]) hR rfl rfl rfl (Nat.le_of_ble_eq_true rfl) (Nat.le_of_ble_eq_true rfl) rfl (tk_4 hn rfl) (ts_814 hR hn hx (cI_mk ⟨rfl, rfl⟩)) ?_ (fun _ _ _ z => z.elim)
              rintro _ _ ⟨rfl, rfl⟩
              obtain ⟨s13, hx, h6⟩ := bindC h6
              refine lQ.ast hR rfl (tw_132 hn hx) ?_
              rintro _ rfl
              obtain rfl := Option.some.inj h6
              exact lQ.sub (lSb rfl (lSb rfl lSb0)) hJ5
            · refine lQ.cmpT rfl (decide_eq_true hc) ?_
              obtain rfl := Option.some.inj h6
              exact lQ.sub (lSb rfl (lSb rfl lSb0)) hJ5
          rcases iteC hy6 with ⟨hc, hy6⟩ | ⟨hc, hy6⟩
          · refine lQ.cmpF rfl (decide_eq_false (fun z => z hc)) ?_
            refine lQ.loadN rfl rfl ?_
            refine lQ.get hR rfl (tf_4_5 hn) ?_
            refine lQ.push rfl ?_
            refine lQ.loadI rfl rfl ?_
            refine lQ.binI rfl ?_
            obtain ⟨x5, hx, hy6⟩ := bindC hy6
            refine lQ.ald hR rfl (ta_129 hn hx) ?_
            rcases iteC hy6 with ⟨hc, hy6⟩ | ⟨hc, hy6⟩
            · refine lQ.ifF rfl (decide_eq_false (Int32.not_le.mpr hc)) ?_
              refine lQ.loadN rfl rfl ?_
              refine lQ.loadI rfl rfl ?_
              refine lQ.push rfl ?_
              obtain ⟨x6, hx, hy6⟩ := bindC hy6
              refine lQ.callVV (F := (fun A => A = tp ad x6 A0)) (G := fun _ _ => False) (args := [.ref (adr ad 4), .int p25.2, .int 3]) (r := []) hR rfl rfl rfl (Nat.le_of_ble_eq_true rfl) (Nat.le_of_ble_eq_true rfl) rfl (tk_4 hn rfl) (ts_815 hR hn hx (cV_mk rfl)) ?_ (fun _ _ _ z => z.elim)
              rintro _ rfl
              refine lQ.loadN rfl rfl ?_
              refine lQ.get hR rfl (tf_4_7 hn) ?_
              refine lQ.loadI rfl rfl ?_
              refine lQ.loadN rfl rfl ?_
              refine lQ.get hR rfl (tf_4_10 hn) ?_
              refine lQ.loadI rfl rfl ?_
              obtain ⟨x7, hx, hy6⟩ := bindC hy6
              refine lQ.ald hR rfl (ta_134 hn hx) ?_
              obtain ⟨v63, hy7, h7⟩ := bindC hy6
              have hJ7 : lQ R E 3 cd_811 63 [(0, .ref (adr ad 4)), (1, .int p25.2)] [.int v63, .int p25.2, .ref (adr ad 131)] (tp ad x6 A0) Z := by
                obtain ⟨s10, hx, h7⟩ := bindC h7
                refine lQ.ast hR rfl (tw_131 hn hx) ?_
                rintro _ rfl
                refine lQ.goto rfl ?_
                obtain rfl := Option.some.inj h7
                obtain rfl := elimD h6
                exact lQ.sub (lSb rfl (lSb rfl lSb0)) hJ5
              rcases iteC hy7 with ⟨hc, hy7⟩ | ⟨hc, hy7⟩
              · refine lQ.ifT rfl (decide_eq_true hc) ?_
                refine lQ.loadN rfl rfl ?_
                refine lQ.get hR rfl (tf_4_7 hn) ?_
                refine lQ.loadI rfl rfl ?_
                obtain ⟨x8, hx, hy7⟩ := bindC hy7
                refine lQ.ald hR rfl (ta_131 hn hx) ?_
                obtain rfl := Option.some.inj hy7
                exact lQ.sub (lSb rfl (lSb rfl lSb0)) hJ7
              · refine lQ.ifF rfl (decide_eq_false hc) ?_
                refine lQ.loadN rfl rfl ?_
                refine lQ.get hR rfl (tf_4_11 hn) ?_
                refine lQ.loadI rfl rfl ?_
                obtain ⟨x9, hx, hy7⟩ := bindC hy7
                refine lQ.ald hR rfl (ta_135 hn hx) ?_
                refine lQ.goto rfl ?_
                obtain rfl := Option.some.inj hy7
                exact lQ.sub (lSb rfl (lSb rfl lSb0)) hJ7
            · refine lQ.ifT rfl (decide_eq_true (Int32.not_lt.mp hc)) ?_
              obtain rfl := Option.some.inj hy6
              exact lQ.sub (lSb rfl (lSb rfl lSb0)) (hJ6 _ rfl)
          · refine lQ.cmpT rfl (decide_eq_true hc) ?_
            obtain rfl := Option.some.inj hy6
            exact lQ.sub (lSb rfl (lSb rfl lSb0)) (hJ6 _ rfl)
        · refine lQ.cmpT rfl (decide_eq_true (Int32.not_lt.mp hc)) ?_
          obtain rfl := Option.some.inj hb4
          obtain rfl := hX4 _ rfl
          exact lQ.sub (lSb rfl lSb0) hJ2
      refine lQ.sub (lSb rfl (lSb rfl lSb0)) (wh_run (P := fun p11 => lQ R E 3 cd_811 11 [(0, .ref (adr ad 4)), (1, .int p11.2)] [] (tp ad p11.1 A0) Z) hy1 ?_)
      intro p11 r8 hb8 hI8 hX8
      refine lQ.loadI rfl rfl ?_
      refine lQ.loadN rfl rfl ?_
      refine lQ.get hR rfl (tf_4_0 hn) ?_
      rcases iteC hb8 with ⟨hc, hb8⟩ | ⟨hc, hb8⟩
      · refine lQ.cmpF rfl (decide_eq_false (Int32.not_le.mpr hc)) ?_
        refine lQ.loadN rfl rfl ?_
        refine lQ.loadN rfl rfl ?_
        refine lQ.get hR rfl (tf_4_15 hn) ?_
        refine lQ.loadI rfl rfl ?_
        obtain ⟨x2, hx, hb8⟩ := bindC hb8
        refine lQ.ald hR rfl (ta_138 hn hx) ?_
        obtain ⟨x3, hx, hb8⟩ := bindC hb8
        refine lQ.callVV (F := (fun A => A = tp ad x3 A0)) (G := fun _ _ => False) (args := [.ref (adr ad 4), .int x2]) (r := []) hR rfl rfl rfl (Nat.le_of_ble_eq_true rfl) (Nat.le_of_ble_eq_true rfl) rfl (tk_4 hn rfl) (ts_812 hR hn hx (cV_mk rfl)) ?_ (fun _ _ _ z => z.elim)
        rintro _ rfl
        refine lQ.inc rfl rfl (lN2s rfl rfl) ?_
        refine lQ.goto rfl ?_
        obtain rfl := Option.some.inj hb8
        exact lQ.sub (lSb rfl (lSb rfl lSb0)) (hI8 _ rfl)
      · refine lQ.cmpT rfl (decide_eq_true (Int32.not_lt.mp hc)) ?_
        obtain rfl := Option.some.inj hb8
        obtain rfl := hX8 _ rfl
        exact lQ.sub (lSb rfl lSb0) hJ1
    · refine lQ.ifF rfl (decide_eq_false hc) ?_
      obtain rfl := Option.some.inj h
      exact lQ.retV rfl hz
theorem ts_831 {R : lAR} (hR : lRok R) {E : lE} {ad : List Nat} (hn : tOk ad) {s : TS} {A0 : lMem} {x : Int32} (h : t_831 s = some x) {Z : lZ} (hz : Z (.inl (some (.int x))) (tp ad s A0)) : lSQ R E 1 831 [.ref (adr ad 5)] (tp ad s A0) Z := by
  refine lQ.sq pg_831 (Nat.le_of_ble_eq_true rfl) rfl ?_
  unfold t_831 at h
  refine lQ.push rfl ?_
  refine lQ.stI rfl (lN2s rfl rfl) ?_
  obtain ⟨v25, hy1, h1⟩ := bindC h
  have hJ1 : lQ R E 0 cd_831 25 [(1, .int v25)] [] (tp ad s A0) Z := by
    refine lQ.loadI rfl rfl ?_
    obtain rfl := Option.some.inj h1
    exact lQ.retI rfl rfl hz
  refine lQ.sub (lSb rfl (lSb rfl lSb0)) (wh_run (P := fun p2 => lQ R E 0 cd_831 2 [(0, .ref (adr ad 5)), (1, .int p2)] [] (tp ad s A0) Z) hy1 ?_)
  intro p2 r2 hb2 hI2 hX2
  refine lQ.loadI rfl rfl ?_
  refine lQ.push rfl ?_
  rcases iteC hb2 with ⟨hc, hb2⟩ | ⟨hc, hb2⟩
  · refine lQ.cmpF rfl (decide_eq_false (Int32.not_le.mpr hc)) ?_
    refine lQ.loadN rfl rfl ?_
    refine lQ.get hR rfl (tf_5_0 hn) ?_
    refine lQ.push rfl ?_
    refine lQ.binI rfl ?_
    refine lQ.loadI rfl rfl ?_
    refine lQ.binI rfl ?_
    refine lQ.push rfl ?_
    obtain ⟨y3, hy3, h3⟩ := bindC hb2
    have hJ3 : ∀ v23, y3 = .inl v23 → lQ R E 0 cd_831 23 [(0, .ref (adr ad 5)), (1, .int p2)] [] (tp ad s A0) Z := by
      rintro v23 rfl
      have h3 := elimC h3
      refine lQ.inc rfl rfl (lN2s rfl rfl) ?_
      refine lQ.goto rfl ?_
      obtain rfl := Option.some.inj h3
      exact lQ.sub (lSb rfl (lSb rfl lSb0)) (hI2 _ rfl)
    rcases iteC hy3 with ⟨hc, hy3⟩ | ⟨hc, hy3⟩
    · refine lQ.cmpT rfl (decide_eq_true hc) ?_
      obtain rfl := Option.some.inj hy3
      exact lQ.sub (lSb rfl (lSb rfl lSb0)) (hJ3 _ rfl)
    · refine lQ.cmpF rfl (decide_eq_false hc) ?_
      refine lQ.loadN rfl rfl ?_
      refine lQ.get hR rfl (tf_5_1 hn) ?_
      refine lQ.loadN rfl rfl ?_
      refine lQ.get hR rfl (tf_5_0 hn) ?_
      refine lQ.push rfl ?_
      refine lQ.binI rfl ?_
      refine lQ.loadI rfl rfl ?_
      refine lQ.binI rfl ?_
      obtain ⟨x1, hx, hy3⟩ := bindC hy3
      refine lQ.ald hR rfl (ta_141 hn hx) ?_
      rcases iteC hy3 with ⟨hc, hy3⟩ | ⟨hc, hy3⟩
      · refine lQ.ifT rfl (decide_eq_true hc) ?_
        obtain rfl := Option.some.inj hy3
        obtain rfl := elimD h3
        obtain rfl := hX2 _ rfl
        exact lQ.sub (lSb rfl lSb0) hJ1
      · refine lQ.ifF rfl (decide_eq_false hc) ?_
        obtain rfl := Option.some.inj hy3
        exact lQ.sub (lSb rfl (lSb rfl lSb0)) (hJ3 _ rfl)
  · refine lQ.cmpT rfl (decide_eq_true (Int32.not_lt.mp hc)) ?_
    obtain rfl := Option.some.inj hb2
    obtain rfl := hX2 _ rfl
    exact lQ.sub (lSb rfl lSb0) hJ1
theorem ts_832 {R : lAR} (hR : lRok R) {E : lE} {ad : List Nat} (hn : tOk ad) {v1 : Int32} {v2 : Int32} {s : TS} {A0 : lMem} {x : TS} (h : t_832 v1 v2 s = some x) {Z : lZ} (hz : Z (.inl none) (tp ad x A0)) : lSQ R E 1 832 [.ref (adr ad 5), .int v1, .int v2] (tp ad s A0) Z := by
  refine lQ.sq pg_832 (Nat.le_of_ble_eq_true rfl) rfl ?_
  unfold t_832 at h
  refine lQ.loadN rfl rfl ?_
  refine lQ.get hR rfl (tf_5_9 hn) ?_
  refine lQ.loadI rfl rfl ?_
  obtain ⟨x1, hx, h⟩ := bindC h
  refine lQ.ald hR rfl (ta_148 hn hx) ?_
  rcases iteC h with ⟨hc, h⟩ | ⟨hc, h⟩
  · refine lQ.ifF rfl (decide_eq_false (Int32.not_le.mpr hc)) ?_
    refine lQ.loadN rfl rfl ?_
    refine lQ.get hR rfl (tf_5_10 hn) ?_
    refine lQ.loadI rfl rfl ?_
    obtain ⟨x2, hx, h⟩ := bindC h
    refine lQ.ald hR rfl (ta_149 hn hx) ?_
    rcases iteC h with ⟨hc, h⟩ | ⟨hc, h⟩
    · refine lQ.ifF rfl (decide_eq_false (Int32.not_le.mpr hc)) ?_
      refine lQ.loadN rfl rfl ?_
      refine lQ.get hR rfl (tf_5_7 hn) ?_
      refine lQ.loadI rfl rfl ?_
      obtain ⟨x3, hx, h⟩ := bindC h
      refine lQ.ald hR rfl (ta_146 hn hx) ?_
      rcases iteC h with ⟨hc, h⟩ | ⟨hc, h⟩
      · refine lQ.ifF rfl (decide_eq_false (Int32.not_le.mpr hc)) ?_
        refine lQ.loadN rfl rfl ?_
        refine lQ.get hR rfl (tf_5_8 hn) ?_
        refine lQ.push rfl ?_
        refine lQ.loadI rfl rfl ?_
        refine lQ.binI rfl ?_
        refine lQ.push rfl ?_
        refine lQ.binI rfl ?_
        obtain ⟨x4, hx, h⟩ := bindC h
        refine lQ.ald hR rfl (ta_147 hn hx) ?_
        refine lQ.push rfl ?_
        obtain ⟨v37, hy1, h1⟩ := bindC h
        have hJ1 : lQ R E 0 cd_832 37 [(0, .ref (adr ad 5)), (1, .int v1), (2, .int v2)] [.int v37] (tp ad s A0) Z := by
          refine lQ.stI rfl (lN2s rfl rfl) ?_
          refine lQ.loadN rfl rfl ?_
          refine lQ.get hR rfl (tf_5_9 hn) ?_
          refine lQ.loadI rfl rfl ?_
          refine lQ.loadI rfl rfl ?_
          refine lQ.loadI rfl rfl ?_
          obtain ⟨v47, hy2, h2⟩ := bindC h1
          have hJ2 : lQ R E 0 cd_832 47 [] [.int v47, .int v2, .int v1, .ref (adr ad 148)] (tp ad s A0) Z := by
            obtain ⟨v51, hy3, h3⟩ := bindC h2
            have hJ3 : lQ R E 0 cd_832 51 [] [.int v51, .int v1, .ref (adr ad 148)] (tp ad s A0) Z := by
              obtain ⟨s6, hx, h3⟩ := bindC h3
              refine lQ.ast hR rfl (tw_148 hn hx) ?_
              rintro _ rfl
              obtain rfl := Option.some.inj h3
              exact lQ.retV rfl hz
            rcases iteC hy3 with ⟨hc, hy3⟩ | ⟨hc, hy3⟩
            · refine lQ.cmpT rfl (decide_eq_true hc) ?_
              refine lQ.push rfl ?_
              obtain rfl := Option.some.inj hy3
              exact lQ.sub lSb0 hJ3
            · refine lQ.cmpF rfl (decide_eq_false hc) ?_
              refine lQ.push rfl ?_
              refine lQ.goto rfl ?_
              obtain rfl := Option.some.inj hy3
              exact lQ.sub lSb0 hJ3
          rcases iteC hy2 with ⟨hc, hy2⟩ | ⟨hc, hy2⟩
          · refine lQ.ifT rfl (decide_eq_true hc) ?_
            refine lQ.push rfl ?_
            obtain rfl := Option.some.inj hy2
            exact lQ.sub lSb0 hJ2
          · refine lQ.ifF rfl (decide_eq_false hc) ?_
            refine lQ.push rfl ?_
            refine lQ.goto rfl ?_
            obtain rfl := Option.some.inj hy2
            exact lQ.sub lSb0 hJ2
        rcases iteC hy1 with ⟨hc, hy1⟩ | ⟨hc, hy1⟩
        · refine lQ.cmpF rfl (decide_eq_false (Int32.not_le.mpr hc)) ?_
          refine lQ.loadN rfl rfl ?_
          refine lQ.get hR rfl (tf_5_8 hn) ?_
          refine lQ.push rfl ?_
          refine lQ.loadI rfl rfl ?_
          refine lQ.binI rfl ?_
          refine lQ.push rfl ?_
          refine lQ.binI rfl ?_
          obtain ⟨x5, hx, hy1⟩ := bindC hy1
          refine lQ.ald hR rfl (ta_147 hn hx) ?_
          rcases iteC hy1 with ⟨hc, hy1⟩ | ⟨hc, hy1⟩
          · refine lQ.ifF rfl (decide_eq_false (fun z => z hc)) ?_
            refine lQ.push rfl ?_
            refine lQ.goto rfl ?_
            obtain rfl := Option.some.inj hy1
            exact lQ.sub (lSb rfl (lSb rfl (lSb rfl lSb0))) hJ1
          · refine lQ.ifT rfl (decide_eq_true hc) ?_
            refine lQ.push rfl ?_
            obtain rfl := Option.some.inj hy1
            exact lQ.sub (lSb rfl (lSb rfl (lSb rfl lSb0))) hJ1
        · refine lQ.cmpT rfl (decide_eq_true (Int32.not_lt.mp hc)) ?_
          refine lQ.push rfl ?_
          obtain rfl := Option.some.inj hy1
          exact lQ.sub (lSb rfl (lSb rfl (lSb rfl lSb0))) hJ1
      · refine lQ.ifT rfl (decide_eq_true (Int32.not_lt.mp hc)) ?_
        obtain rfl := Option.some.inj h
        exact lQ.retV rfl hz
    · refine lQ.ifT rfl (decide_eq_true (Int32.not_lt.mp hc)) ?_
      obtain rfl := Option.some.inj h
      exact lQ.retV rfl hz
  · refine lQ.ifT rfl (decide_eq_true (Int32.not_lt.mp hc)) ?_
    obtain rfl := Option.some.inj h
    exact lQ.retV rfl hz
theorem ts_833 {R : lAR} (hR : lRok R) {E : lE} {ad : List Nat} (hn : tOk ad) {s : TS} {A0 : lMem} {x : TS} (h : t_833 s = some x) {Z : lZ} (hz : Z (.inl none) (tp ad x A0)) : lSQ R E 1 833 [.ref (adr ad 5)] (tp ad s A0) Z := by
  refine lQ.sq pg_833 (Nat.le_of_ble_eq_true rfl) rfl ?_
  unfold t_833 at h
  refine lQ.loadN rfl rfl ?_
  refine lQ.get hR rfl (tf_5_24 hn) ?_
  rcases iteC h with ⟨hc, h⟩ | ⟨hc, h⟩
  · refine lQ.ifT rfl (decide_eq_true hc) ?_
    obtain rfl := Option.some.inj h
    exact lQ.retV rfl hz
  · refine lQ.ifF rfl (decide_eq_false hc) ?_
    refine lQ.loadN rfl rfl ?_
    refine lQ.get hR rfl (tf_5_0 hn) ?_
    refine lQ.loadN rfl rfl ?_
    refine lQ.get hR rfl (tf_5_24 hn) ?_
    refine lQ.push rfl ?_
    refine lQ.binI rfl ?_
    rcases iteC h with ⟨hc, h⟩ | ⟨hc, h⟩
    · refine lQ.cmpF rfl (decide_eq_false (fun z => z hc)) ?_
      refine lQ.loadN rfl rfl ?_
      refine lQ.get hR rfl (tf_5_25 hn) ?_
      rcases iteC h with ⟨hc, h⟩ | ⟨hc, h⟩
      · refine lQ.ifT rfl (decide_eq_true hc) ?_
        refine lQ.push rfl ?_
        refine lQ.loadN rfl rfl ?_
        refine lQ.get hR rfl (tf_5_22 hn) ?_
        refine lQ.push rfl ?_
        obtain ⟨x1, hx, h⟩ := bindC h
        refine lQ.ald hR rfl (ta_156 hn hx) ?_
        refine lQ.binI rfl ?_
        refine lQ.loadN rfl rfl ?_
        refine lQ.get hR rfl (tf_5_22 hn) ?_
        refine lQ.push rfl ?_
        obtain ⟨x2, hx, h⟩ := bindC h
        refine lQ.ald hR rfl (ta_156 hn hx) ?_
        refine lQ.binI rfl ?_
        refine lQ.stI rfl (lN2s rfl rfl) ?_
        refine lQ.push rfl ?_
        refine lQ.stI rfl (lN2s rfl rfl) ?_
        obtain ⟨v101, hy1, h1⟩ := bindC h
        have hJ1 : lQ R E 0 cd_833 101 [] [] (tp ad v101 A0) Z := by
          obtain rfl := Option.some.inj h1
          exact lQ.retV rfl hz
        refine lQ.sub (lSb rfl (lSb rfl (lSb rfl lSb0))) (wh_run (P := fun p28 => lQ R E 0 cd_833 28 [(0, .ref (adr ad 5)), (1, .int ((256 * x1) + x2)), (2, .int p28.2)] [] (tp ad p28.1 A0) Z) hy1 ?_)
        intro p28 r2 hb2 hI2 hX2
        refine lQ.loadI rfl rfl ?_
        refine lQ.push rfl ?_
        rcases iteC hb2 with ⟨hc, hb2⟩ | ⟨hc, hb2⟩
        · refine lQ.cmpF rfl (decide_eq_false (Int32.not_le.mpr hc)) ?_
          refine lQ.loadN rfl rfl ?_
          refine lQ.get hR rfl (tf_5_22 hn) ?_
          refine lQ.push rfl ?_
          obtain ⟨x3, hx, hb2⟩ := bindC hb2
          refine lQ.ald hR rfl (ta_156 hn hx) ?_
          refine lQ.push rfl ?_
          obtain ⟨v64, hy3, h3⟩ := bindC hb2
          have hJ3 : lQ R E 0 cd_833 64 [(0, .ref (adr ad 5)), (1, .int ((256 * x1) + x2)), (2, .int p28.2)] [.int v64] (tp ad p28.1 A0) Z := by
            refine lQ.stI rfl (lN2s rfl rfl) ?_
            refine lQ.loadI rfl rfl ?_
            obtain ⟨v99, hy4, h4⟩ := bindC h3
            have hJ4 : lQ R E 0 cd_833 99 [(0, .ref (adr ad 5)), (1, .int ((256 * x1) + x2)), (2, .int p28.2)] [] (tp ad v99 A0) Z := by
              refine lQ.inc rfl rfl (lN2s rfl rfl) ?_
              refine lQ.goto rfl ?_
              obtain rfl := Option.some.inj h4
              exact lQ.sub (lSb rfl (lSb rfl (lSb rfl lSb0))) (hI2 _ rfl)
            rcases iteC hy4 with ⟨hc, hy4⟩ | ⟨hc, hy4⟩
            · refine lQ.ifT rfl (decide_eq_true hc) ?_
              obtain rfl := Option.some.inj hy4
              exact lQ.sub (lSb rfl (lSb rfl (lSb rfl lSb0))) hJ4
            · refine lQ.ifF rfl (decide_eq_false hc) ?_
              refine lQ.loadN rfl rfl ?_
              refine lQ.get hR rfl (tf_5_9 hn) ?_
              refine lQ.loadI rfl rfl ?_
              obtain ⟨x6, hx, hy4⟩ := bindC hy4
              refine lQ.ald hR rfl (ta_148 hn hx) ?_
              rcases iteC hy4 with ⟨hc, hy4⟩ | ⟨hc, hy4⟩
              · refine lQ.ifF rfl (decide_eq_false (Int32.not_le.mpr hc)) ?_
                refine lQ.loadN rfl rfl ?_
                refine lQ.get hR rfl (tf_5_10 hn) ?_
                refine lQ.loadI rfl rfl ?_
                obtain ⟨x7, hx, hy4⟩ := bindC hy4
                refine lQ.ald hR rfl (ta_149 hn hx) ?_
                rcases iteC hy4 with ⟨hc, hy4⟩ | ⟨hc, hy4⟩
                · refine lQ.ifF rfl (decide_eq_false (Int32.not_le.mpr hc)) ?_
                  refine lQ.loadN rfl rfl ?_
                  refine lQ.get hR rfl (tf_5_11 hn) ?_
                  refine lQ.loadI rfl rfl ?_
                  refine lQ.loadN rfl rfl ?_
                  refine lQ.get hR rfl (tf_5_23 hn) ?_
                  obtain ⟨v93, hy5, h5⟩ := bindC hy4
                  have hJ5 : lQ R E 0 cd_833 93 [(0, .ref (adr ad 5)), (1, .int ((256 * x1) + x2)), (2, .int p28.2)] [.int v93, .int p28.2, .ref (adr ad 150)] (tp ad p28.1 A0) Z := by
                    obtain ⟨s9, hx, h5⟩ := bindC h5
                    refine lQ.ast hR rfl (tw_150 hn hx) ?_
                    rintro _ rfl
                    refine lQ.loadN rfl rfl ?_
                    refine lQ.get hR rfl (tf_5_12 hn) ?_
                    refine lQ.loadI rfl rfl ?_
                    refine lQ.push rfl ?_
                    obtain ⟨s10, hx, h5⟩ := bindC h5
                    refine lQ.ast hR rfl (tw_151 hn hx) ?_
                    rintro _ rfl
                    obtain rfl := Option.some.inj h5
                    exact lQ.sub (lSb rfl (lSb rfl (lSb rfl lSb0))) hJ4
                  rcases iteC hy5 with ⟨hc, hy5⟩ | ⟨hc, hy5⟩
                  · refine lQ.ifF rfl (decide_eq_false (fun z => z hc)) ?_
                    refine lQ.push rfl ?_
                    refine lQ.goto rfl ?_
                    obtain rfl := Option.some.inj hy5
                    exact lQ.sub (lSb rfl (lSb rfl (lSb rfl lSb0))) hJ5
                  · refine lQ.ifT rfl (decide_eq_true hc) ?_
                    refine lQ.loadN rfl rfl ?_
                    refine lQ.get hR rfl (tf_5_6 hn) ?_
                    refine lQ.loadI rfl rfl ?_
                    obtain ⟨x8, hx, hy5⟩ := bindC hy5
                    refine lQ.ald hR rfl (ta_145 hn hx) ?_
                    rcases iteC hy5 with ⟨hc, hy5⟩ | ⟨hc, hy5⟩
                    · refine lQ.ifT rfl (decide_eq_true hc) ?_
                      refine lQ.push rfl ?_
                      obtain rfl := Option.some.inj hy5
                      exact lQ.sub (lSb rfl (lSb rfl (lSb rfl lSb0))) hJ5
                    · refine lQ.ifF rfl (decide_eq_false hc) ?_
                      refine lQ.push rfl ?_
                      refine lQ.goto rfl ?_
                      obtain rfl := Option.some.inj hy5
                      exact lQ.sub (lSb rfl (lSb rfl (lSb rfl lSb0))) hJ5
                · refine lQ.ifT rfl (decide_eq_true (Int32.not_lt.mp hc)) ?_
                  obtain rfl := Option.some.inj hy4
                  exact lQ.sub (lSb rfl (lSb rfl (lSb rfl lSb0))) hJ4
              · refine lQ.ifT rfl (decide_eq_true (Int32.not_lt.mp hc)) ?_
                obtain rfl := Option.some.inj hy4
                exact lQ.sub (lSb rfl (lSb rfl (lSb rfl lSb0))) hJ4
          rcases iteC hy3 with ⟨hc, hy3⟩ | ⟨hc, hy3⟩
          · refine lQ.cmpF rfl (decide_eq_false (Int32.not_le.mpr hc)) ?_
            refine lQ.loadI rfl rfl ?_
            refine lQ.loadN rfl rfl ?_
            refine lQ.get hR rfl (tf_5_4 hn) ?_
            refine lQ.loadI rfl rfl ?_
            obtain ⟨x5, hx, hy3⟩ := bindC hy3
            refine lQ.ald hR rfl (ta_143 hn hx) ?_
            rcases iteC hy3 with ⟨hc, hy3⟩ | ⟨hc, hy3⟩
            · refine lQ.cmpF rfl (decide_eq_false (fun z => z hc)) ?_
              refine lQ.push rfl ?_
              refine lQ.goto rfl ?_
              obtain rfl := Option.some.inj hy3
              exact lQ.sub (lSb rfl (lSb rfl (lSb rfl lSb0))) hJ3
            · refine lQ.cmpT rfl (decide_eq_true hc) ?_
              refine lQ.push rfl ?_
              refine lQ.goto rfl ?_
              obtain rfl := Option.some.inj hy3
              exact lQ.sub (lSb rfl (lSb rfl (lSb rfl lSb0))) hJ3
          · refine lQ.cmpT rfl (decide_eq_true (Int32.not_lt.mp hc)) ?_
            refine lQ.loadI rfl rfl ?_
            refine lQ.push rfl ?_
            rcases iteC hy3 with ⟨hc, hy3⟩ | ⟨hc, hy3⟩
            · refine lQ.cmpF rfl (decide_eq_false (Int32.not_le.mpr hc)) ?_
              refine lQ.loadN rfl rfl ?_
              refine lQ.get hR rfl (tf_5_5 hn) ?_
              refine lQ.push rfl ?_
              refine lQ.loadI rfl rfl ?_
              refine lQ.binI rfl ?_
              refine lQ.loadI rfl rfl ?_
              refine lQ.push rfl ?_
              refine lQ.divI rfl (by decide) ?_
              refine lQ.binI rfl ?_
              obtain ⟨x4, hx, hy3⟩ := bindC hy3
              refine lQ.ald hR rfl (ta_144 hn hx) ?_
              rcases iteC hy3 with ⟨hc, hy3⟩ | ⟨hc, hy3⟩
              · refine lQ.ifT rfl (decide_eq_true hc) ?_
                refine lQ.push rfl ?_
                obtain rfl := Option.some.inj hy3
                exact lQ.sub (lSb rfl (lSb rfl (lSb rfl lSb0))) hJ3
              · refine lQ.ifF rfl (decide_eq_false hc) ?_
                refine lQ.push rfl ?_
                refine lQ.goto rfl ?_
                obtain rfl := Option.some.inj hy3
                exact lQ.sub (lSb rfl (lSb rfl (lSb rfl lSb0))) hJ3
            · refine lQ.cmpT rfl (decide_eq_true (Int32.not_lt.mp hc)) ?_
              refine lQ.push rfl ?_
              obtain rfl := Option.some.inj hy3
              exact lQ.sub (lSb rfl (lSb rfl (lSb rfl lSb0))) hJ3
        · refine lQ.cmpT rfl (decide_eq_true (Int32.not_lt.mp hc)) ?_
          obtain rfl := Option.some.inj hb2
          obtain rfl := hX2 _ rfl
          exact lQ.sub lSb0 hJ1
      · refine lQ.ifF rfl (decide_eq_false hc) ?_
        obtain rfl := Option.some.inj h
        exact lQ.retV rfl hz
    · refine lQ.cmpT rfl (decide_eq_true hc) ?_
      obtain rfl := Option.some.inj h
      exact lQ.retV rfl hz
theorem ts_837 {R : lAR} (hR : lRok R) {E : lE} {ad : List Nat} (hn : tOk ad) {v0 : Int32} {s : TS} {A0 : lMem} {x : Int32} (h : t_837 v0 s = some x) {Z : lZ} (hz : Z (.inl (some (.int x))) (tp ad s A0)) : lSQ R E 1 837 [.int v0] (tp ad s A0) Z := by
  refine lQ.sq pg_837 (Nat.le_of_ble_eq_true rfl) rfl ?_
  unfold t_837 at h
  refine lQ.push rfl ?_
  refine lQ.stI rfl (lN2s rfl rfl) ?_
  refine lQ.push rfl ?_
  refine lQ.stI rfl (lN2s rfl rfl) ?_
  obtain ⟨v17, hy1, h1⟩ := bindC h
  have hJ1 : lQ R E 0 cd_837 17 [(1, .int v17)] [] (tp ad s A0) Z := by
    refine lQ.loadI rfl rfl ?_
    obtain rfl := Option.some.inj h1
    exact lQ.retI rfl rfl hz
  refine lQ.sub (lSb rfl (lSb rfl (lSb rfl lSb0))) (wh_run (P := fun p4 => lQ R E 0 cd_837 4 [(0, .int v0), (1, .int p4.1), (2, .int p4.2)] [] (tp ad s A0) Z) hy1 ?_)
  intro p4 r2 hb2 hI2 hX2
  refine lQ.loadI rfl rfl ?_
  refine lQ.push rfl ?_
  rcases iteC hb2 with ⟨hc, hb2⟩ | ⟨hc, hb2⟩
  · refine lQ.cmpF rfl (decide_eq_false (Int32.not_le.mpr hc)) ?_
    refine lQ.loadI rfl rfl ?_
    refine lQ.loadI rfl rfl ?_
    refine lQ.loadI rfl rfl ?_
    refine lQ.binI rfl ?_
    refine lQ.push rfl ?_
    refine lQ.binI rfl ?_
    refine lQ.binI rfl ?_
    refine lQ.stI rfl (lN2s rfl rfl) ?_
    refine lQ.inc rfl rfl (lN2s rfl rfl) ?_
    refine lQ.goto rfl ?_
    obtain rfl := Option.some.inj hb2
    exact lQ.sub (lSb rfl (lSb rfl (lSb rfl lSb0))) (hI2 _ rfl)
  · refine lQ.cmpT rfl (decide_eq_true (Int32.not_lt.mp hc)) ?_
    obtain rfl := Option.some.inj hb2
    obtain rfl := hX2 _ rfl
    exact lQ.sub (lSb rfl lSb0) hJ1
theorem ts_836 {R : lAR} (hR : lRok R) {E : lE} {ad : List Nat} (hn : tOk ad) {v0 : Int32} {v1 : Int32} {s : TS} {A0 : lMem} {x : Int32} (h : t_836 v0 v1 s = some x) {Z : lZ} (hz : Z (.inl (some (.int x))) (tp ad s A0)) : lSQ R E 2 836 [.int v0, .int v1] (tp ad s A0) Z := by
  refine lQ.sq pg_836 (Nat.le_of_ble_eq_true rfl) rfl ?_
  unfold t_836 at h
  refine lQ.loadI rfl rfl ?_
  refine lQ.push rfl ?_
  rcases iteC h with ⟨hc, h⟩ | ⟨hc, h⟩
  · refine lQ.cmpF rfl (decide_eq_false (fun z => z hc)) ?_
    refine lQ.loadI rfl rfl ?_
    obtain ⟨x1, hx, h⟩ := bindC h
    refine lQ.callI (F := (fun y A => x1 = y ∧ A = tp ad s A0)) (G := fun _ _ => False) (args := [.int v0]) (r := []) hR rfl rfl rfl (Nat.le_of_ble_eq_true rfl) (Nat.le_of_ble_eq_true rfl) (ts_837 hR hn hx (cI_mk ⟨rfl, rfl⟩)) ?_ (fun _ _ _ z => z.elim)
    rintro _ _ ⟨rfl, rfl⟩
    refine lQ.push rfl ?_
    refine lQ.divI rfl (by decide) ?_
    refine lQ.push rfl ?_
    rcases iteC h with ⟨hc, h⟩ | ⟨hc, h⟩
    · refine lQ.cmpF rfl (decide_eq_false (fun z => z hc)) ?_
      refine lQ.push rfl ?_
      refine lQ.goto rfl ?_
      obtain rfl := Option.some.inj h
      exact lQ.retI rfl rfl hz
    · refine lQ.cmpT rfl (decide_eq_true hc) ?_
      refine lQ.push rfl ?_
      obtain rfl := Option.some.inj h
      exact lQ.retI rfl rfl hz
  · refine lQ.cmpT rfl (decide_eq_true hc) ?_
    refine lQ.loadI rfl rfl ?_
    rcases iteC h with ⟨hc, h⟩ | ⟨hc, h⟩
    · refine lQ.ifF rfl (decide_eq_false (Int32.not_le.mpr hc)) ?_
      refine lQ.loadI rfl rfl ?_
      refine lQ.push rfl ?_
      rcases iteC h with ⟨hc, h⟩ | ⟨hc, h⟩
      · refine lQ.cmpT rfl (decide_eq_true hc) ?_
        refine lQ.push rfl ?_
        refine lQ.goto rfl ?_
        obtain rfl := Option.some.inj h
        exact lQ.retI rfl rfl hz
      · refine lQ.cmpF rfl (decide_eq_false hc) ?_
        refine lQ.loadI rfl rfl ?_
        refine lQ.loadI rfl rfl ?_
        refine lQ.push rfl ?_
        refine lQ.binI rfl ?_
        refine lQ.binI rfl ?_
        refine lQ.push rfl ?_
        refine lQ.binI rfl ?_
        refine lQ.push rfl ?_
        rcases iteC h with ⟨hc, h⟩ | ⟨hc, h⟩
        · refine lQ.cmpF rfl (decide_eq_false (fun z => z hc)) ?_
          refine lQ.push rfl ?_
          refine lQ.goto rfl ?_
          obtain rfl := Option.some.inj h
          exact lQ.retI rfl rfl hz
        · refine lQ.cmpT rfl (decide_eq_true hc) ?_
          refine lQ.push rfl ?_
          obtain rfl := Option.some.inj h
          exact lQ.retI rfl rfl hz
    · refine lQ.ifT rfl (decide_eq_true (Int32.not_lt.mp hc)) ?_
      refine lQ.push rfl ?_
      obtain rfl := Option.some.inj h
      exact lQ.retI rfl rfl hz
theorem ts_835 {R : lAR} (hR : lRok R) {E : lE} {ad : List Nat} (hn : tOk ad) {v1 : Int32} {v2 : Int32} {s : TS} {A0 : lMem} {x : Int32} (h : t_835 v1 v2 s = some x) {Z : lZ} (hz : Z (.inl (some (.int x))) (tp ad s A0)) : lSQ R E 3 835 [.ref (adr ad 5), .int v1, .int v2] (tp ad s A0) Z := by
  refine lQ.sq pg_835 (Nat.le_of_ble_eq_true rfl) rfl ?_
  unfold t_835 at h
  refine lQ.loadI rfl rfl ?_
  refine lQ.push rfl ?_
  refine lQ.divI rfl (by decide) ?_
  refine lQ.push rfl ?_
  rcases iteC h with ⟨hc, h⟩ | ⟨hc, h⟩
  · refine lQ.cmpT rfl (decide_eq_true hc) ?_
    refine lQ.push rfl ?_
    refine lQ.goto rfl ?_
    obtain rfl := Option.some.inj h
    exact lQ.retI rfl rfl hz
  · refine lQ.cmpF rfl (decide_eq_false hc) ?_
    refine lQ.loadN rfl rfl ?_
    refine lQ.get hR rfl (tf_5_8 hn) ?_
    refine lQ.push rfl ?_
    refine lQ.loadI rfl rfl ?_
    refine lQ.binI rfl ?_
    refine lQ.loadI rfl rfl ?_
    refine lQ.push rfl ?_
    refine lQ.divI rfl (by decide) ?_
    refine lQ.binI rfl ?_
    obtain ⟨x1, hx, h⟩ := bindC h
    refine lQ.ald hR rfl (ta_147 hn hx) ?_
    refine lQ.loadI rfl rfl ?_
    refine lQ.push rfl ?_
    refine lQ.divI rfl (by decide) ?_
    obtain ⟨x2, hx, h⟩ := bindC h
    refine lQ.callI (F := (fun y A => x2 = y ∧ A = tp ad s A0)) (G := fun _ _ => False) (args := [.int x1, .int (v2 - v2 / (13 : Int32) * (13 : Int32))]) (r := []) hR rfl rfl rfl (Nat.le_of_ble_eq_true rfl) (Nat.le_of_ble_eq_true rfl) (ts_836 hR hn hx (cI_mk ⟨rfl, rfl⟩)) ?_ (fun _ _ _ z => z.elim)
    rintro _ _ ⟨rfl, rfl⟩
    rcases iteC h with ⟨hc, h⟩ | ⟨hc, h⟩
    · refine lQ.ifT rfl (decide_eq_true hc) ?_
      refine lQ.push rfl ?_
      obtain rfl := Option.some.inj h
      exact lQ.retI rfl rfl hz
    · refine lQ.ifF rfl (decide_eq_false hc) ?_
      refine lQ.push rfl ?_
      refine lQ.goto rfl ?_
      obtain rfl := Option.some.inj h
      exact lQ.retI rfl rfl hz
