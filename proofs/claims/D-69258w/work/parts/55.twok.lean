set_option maxRecDepth 100000
theorem ts_642 {R : lAR} (hR : lRok R) {E : lE} {ad : List Nat} (hn : tOk ad) {v1 : Int32} {v2 : Int32} {s : TS} {A0 : lMem} {x : Int32 × TS} (h : t_642 v1 v2 s = some x) {Z : lZ} (hz : Z (.inl (some (.int x.1))) (tp ad x.2 A0)) : lSQ R E 5 642 [.ref (adr ad 0), .int v1, .int v2] (tp ad s A0) Z := by
  refine lQ.sq pg_642 (Nat.le_of_ble_eq_true rfl) rfl ?_
  unfold t_642 at h
  refine lQ.loadN rfl rfl ?_
  refine lQ.loadI rfl rfl ?_
  refine lQ.loadN rfl rfl ?_
  refine lQ.get hR rfl (tf_0_6 hn) ?_
  refine lQ.get hR rfl (tf_4_0 hn) ?_
  obtain ⟨x1, hx, h⟩ := bindC h
  refine lQ.callI (F := (fun y A => x1 = y ∧ A = tp ad s A0)) (G := fun _ _ => False) (args := [.int v1, .int (s.1 400)]) (r := [.ref (adr ad 0)]) hR rfl rfl rfl (Nat.le_of_ble_eq_true rfl) (Nat.le_of_ble_eq_true rfl) (ts_560 hR hn hx (cI_mk ⟨rfl, rfl⟩)) ?_ (fun _ _ _ z => z.elim)
  rintro _ _ ⟨rfl, rfl⟩
  obtain ⟨v14, hy1, h1⟩ := bindC h
  have hJ1 : lQ R E 4 cd_642 14 [(0, .ref (adr ad 0)), (1, .int v1), (2, .int v2)] [.int v14, .ref (adr ad 0)] (tp ad s A0) Z := by
    refine lQ.loadN rfl rfl ?_
    refine lQ.get hR rfl (tf_0_1 hn) ?_
    obtain ⟨x3, hx, h1⟩ := bindC h1
    refine lQ.callVI (F := (fun y A => x3.1 = y ∧ A = tp ad x3.2 A0)) (G := fun _ _ => False) (args := [.ref (adr ad 0), .int v14, .int (s.1 1)]) (r := []) hR rfl rfl rfl (Nat.le_of_ble_eq_true rfl) (Nat.le_of_ble_eq_true rfl) rfl (tk_0 hn rfl) (ts_558 hR hn hx (cI_mk ⟨rfl, rfl⟩)) ?_ (fun _ _ _ z => z.elim)
    rintro _ _ ⟨rfl, rfl⟩
    rcases iteC h1 with ⟨hc, h1⟩ | ⟨hc, h1⟩
    · refine lQ.ifF rfl (decide_eq_false (fun z => z hc)) ?_
      refine lQ.push rfl ?_
      obtain rfl := Option.some.inj h1
      exact lQ.retI rfl rfl hz
    · refine lQ.ifT rfl (decide_eq_true hc) ?_
      refine lQ.loadI rfl rfl ?_
      rcases iteC h1 with ⟨hc, h1⟩ | ⟨hc, h1⟩
      · refine lQ.ifF rfl (decide_eq_false (fun z => z hc)) ?_
        refine lQ.loadN rfl rfl ?_
        refine lQ.get hR rfl (tf_0_6 hn) ?_
        refine lQ.get hR rfl (tf_4_7 hn) ?_
        refine lQ.loadI rfl rfl ?_
        obtain ⟨x7, hx, h1⟩ := bindC h1
        refine lQ.ald hR rfl (ta_131 hn hx) ?_
        refine lQ.goto rfl ?_
        obtain rfl := Option.some.inj h1
        exact lQ.retI rfl rfl hz
      · refine lQ.ifT rfl (decide_eq_true hc) ?_
        refine lQ.loadI rfl rfl ?_
        refine lQ.push rfl ?_
        rcases iteC h1 with ⟨hc, h1⟩ | ⟨hc, h1⟩
        · refine lQ.cmpF rfl (decide_eq_false (fun z => z hc)) ?_
          refine lQ.loadN rfl rfl ?_
          refine lQ.get hR rfl (tf_0_6 hn) ?_
          refine lQ.get hR rfl (tf_4_8 hn) ?_
          refine lQ.loadI rfl rfl ?_
          obtain ⟨x6, hx, h1⟩ := bindC h1
          refine lQ.ald hR rfl (ta_132 hn hx) ?_
          refine lQ.goto rfl ?_
          obtain rfl := Option.some.inj h1
          exact lQ.retI rfl rfl hz
        · refine lQ.cmpT rfl (decide_eq_true hc) ?_
          refine lQ.loadI rfl rfl ?_
          refine lQ.push rfl ?_
          rcases iteC h1 with ⟨hc, h1⟩ | ⟨hc, h1⟩
          · refine lQ.cmpF rfl (decide_eq_false (fun z => z hc)) ?_
            refine lQ.loadN rfl rfl ?_
            refine lQ.get hR rfl (tf_0_6 hn) ?_
            refine lQ.get hR rfl (tf_4_9 hn) ?_
            refine lQ.loadI rfl rfl ?_
            obtain ⟨x5, hx, h1⟩ := bindC h1
            refine lQ.ald hR rfl (ta_133 hn hx) ?_
            refine lQ.goto rfl ?_
            obtain rfl := Option.some.inj h1
            exact lQ.retI rfl rfl hz
          · refine lQ.cmpT rfl (decide_eq_true hc) ?_
            refine lQ.loadN rfl rfl ?_
            refine lQ.get hR rfl (tf_0_6 hn) ?_
            refine lQ.loadI rfl rfl ?_
            obtain ⟨x4, hx, h1⟩ := bindC h1
            refine lQ.callVI (F := (fun y A => x4.1 = y ∧ A = tp ad x4.2 A0)) (G := fun _ _ => False) (args := [.ref (adr ad 4), .int v1]) (r := []) hR rfl rfl rfl (Nat.le_of_ble_eq_true rfl) (Nat.le_of_ble_eq_true rfl) rfl (tk_4 hn rfl) (ts_810 hR hn hx (cI_mk ⟨rfl, rfl⟩)) ?_ (fun _ _ _ z => z.elim)
            rintro _ _ ⟨rfl, rfl⟩
            obtain rfl := Option.some.inj h1
            exact lQ.retI rfl rfl hz
  rcases iteC hy1 with ⟨hc, hy1⟩ | ⟨hc, hy1⟩
  · refine lQ.ifT rfl (decide_eq_true hc) ?_
    refine lQ.push rfl ?_
    obtain rfl := Option.some.inj hy1
    exact lQ.sub (lSb rfl (lSb rfl (lSb rfl lSb0))) hJ1
  · refine lQ.ifF rfl (decide_eq_false hc) ?_
    refine lQ.loadI rfl rfl ?_
    refine lQ.push rfl ?_
    obtain ⟨x2, hx, hy1⟩ := bindC hy1
    refine lQ.callI (F := (fun y A => x2 = y ∧ A = tp ad s A0)) (G := fun _ _ => False) (args := [.int v2, .int 4]) (r := [.ref (adr ad 0)]) hR rfl rfl rfl (Nat.le_of_ble_eq_true rfl) (Nat.le_of_ble_eq_true rfl) (ts_560 hR hn hx (cI_mk ⟨rfl, rfl⟩)) ?_ (fun _ _ _ z => z.elim)
    rintro _ _ ⟨rfl, rfl⟩
    rcases iteC hy1 with ⟨hc, hy1⟩ | ⟨hc, hy1⟩
    · refine lQ.ifT rfl (decide_eq_true hc) ?_
      refine lQ.push rfl ?_
      obtain rfl := Option.some.inj hy1
      exact lQ.sub (lSb rfl (lSb rfl (lSb rfl lSb0))) hJ1
    · refine lQ.ifF rfl (decide_eq_false hc) ?_
      refine lQ.push rfl ?_
      refine lQ.goto rfl ?_
      obtain rfl := Option.some.inj hy1
      exact lQ.sub (lSb rfl (lSb rfl (lSb rfl lSb0))) hJ1
theorem ts_643 {R : lAR} (hR : lRok R) {E : lE} {ad : List Nat} (hn : tOk ad) {v1 : Int32} {s : TS} {A0 : lMem} {x : Int32 × TS} (h : t_643 v1 s = some x) {Z : lZ} (hz : Z (.inl (some (.int x.1))) (tp ad x.2 A0)) : lSQ R E 2 643 [.ref (adr ad 0), .int v1] (tp ad s A0) Z := by
  refine lQ.sq pg_643 (Nat.le_of_ble_eq_true rfl) rfl ?_
  unfold t_643 at h
  refine lQ.loadN rfl rfl ?_
  refine lQ.loadI rfl rfl ?_
  refine lQ.push rfl ?_
  obtain ⟨x1, hx, h⟩ := bindC h
  refine lQ.callI (F := (fun y A => x1 = y ∧ A = tp ad s A0)) (G := fun _ _ => False) (args := [.int v1, .int 4]) (r := [.ref (adr ad 0)]) hR rfl rfl rfl (Nat.le_of_ble_eq_true rfl) (Nat.le_of_ble_eq_true rfl) (ts_560 hR hn hx (cI_mk ⟨rfl, rfl⟩)) ?_ (fun _ _ _ z => z.elim)
  rintro _ _ ⟨rfl, rfl⟩
  refine lQ.loadN rfl rfl ?_
  refine lQ.get hR rfl (tf_0_1 hn) ?_
  obtain ⟨x2, hx, h⟩ := bindC h
  refine lQ.callVI (F := (fun y A => x2.1 = y ∧ A = tp ad x2.2 A0)) (G := fun _ _ => False) (args := [.ref (adr ad 0), .int x1, .int (s.1 1)]) (r := []) hR rfl rfl rfl (Nat.le_of_ble_eq_true rfl) (Nat.le_of_ble_eq_true rfl) rfl (tk_0 hn rfl) (ts_558 hR hn hx (cI_mk ⟨rfl, rfl⟩)) ?_ (fun _ _ _ z => z.elim)
  rintro _ _ ⟨rfl, rfl⟩
  rcases iteC h with ⟨hc, h⟩ | ⟨hc, h⟩
  · refine lQ.ifT rfl (decide_eq_true hc) ?_
    refine lQ.push rfl ?_
    obtain rfl := Option.some.inj h
    exact lQ.retI rfl rfl hz
  · refine lQ.ifF rfl (decide_eq_false hc) ?_
    refine lQ.loadN rfl rfl ?_
    refine lQ.get hR rfl (tf_0_6 hn) ?_
    refine lQ.get hR rfl (tf_4_17 hn) ?_
    refine lQ.loadI rfl rfl ?_
    obtain ⟨x3, hx, h⟩ := bindC h
    refine lQ.ald hR rfl (ta_140 hn hx) ?_
    refine lQ.goto rfl ?_
    obtain rfl := Option.some.inj h
    exact lQ.retI rfl rfl hz
theorem ts_644 {R : lAR} (hR : lRok R) {E : lE} {ad : List Nat} (hn : tOk ad) {v1 : Int32} {v2 : Int32} {s : TS} {A0 : lMem} {x : Int32 × TS} (h : t_644 v1 v2 s = some x) {Z : lZ} (hz : Z (.inl (some (.int x.1))) (tp ad x.2 A0)) : lSQ R E 2 644 [.ref (adr ad 0), .int v1, .int v2] (tp ad s A0) Z := by
  refine lQ.sq pg_644 (Nat.le_of_ble_eq_true rfl) rfl ?_
  unfold t_644 at h
  refine lQ.loadN rfl rfl ?_
  refine lQ.loadI rfl rfl ?_
  refine lQ.push rfl ?_
  obtain ⟨x1, hx, h⟩ := bindC h
  refine lQ.callI (F := (fun y A => x1 = y ∧ A = tp ad s A0)) (G := fun _ _ => False) (args := [.int v1, .int 8]) (r := [.ref (adr ad 0)]) hR rfl rfl rfl (Nat.le_of_ble_eq_true rfl) (Nat.le_of_ble_eq_true rfl) (ts_560 hR hn hx (cI_mk ⟨rfl, rfl⟩)) ?_ (fun _ _ _ z => z.elim)
  rintro _ _ ⟨rfl, rfl⟩
  obtain ⟨v12, hy1, h1⟩ := bindC h
  have hJ1 : lQ R E 1 cd_644 12 [(0, .ref (adr ad 0)), (1, .int v1), (2, .int v2)] [.int v12, .ref (adr ad 0)] (tp ad s A0) Z := by
    refine lQ.loadN rfl rfl ?_
    refine lQ.get hR rfl (tf_0_1 hn) ?_
    obtain ⟨x3, hx, h1⟩ := bindC h1
    refine lQ.callVI (F := (fun y A => x3.1 = y ∧ A = tp ad x3.2 A0)) (G := fun _ _ => False) (args := [.ref (adr ad 0), .int v12, .int (s.1 1)]) (r := []) hR rfl rfl rfl (Nat.le_of_ble_eq_true rfl) (Nat.le_of_ble_eq_true rfl) rfl (tk_0 hn rfl) (ts_558 hR hn hx (cI_mk ⟨rfl, rfl⟩)) ?_ (fun _ _ _ z => z.elim)
    rintro _ _ ⟨rfl, rfl⟩
    rcases iteC h1 with ⟨hc, h1⟩ | ⟨hc, h1⟩
    · refine lQ.ifF rfl (decide_eq_false (fun z => z hc)) ?_
      refine lQ.push rfl ?_
      obtain rfl := Option.some.inj h1
      exact lQ.retI rfl rfl hz
    · refine lQ.ifT rfl (decide_eq_true hc) ?_
      refine lQ.loadN rfl rfl ?_
      refine lQ.get hR rfl (tf_0_7 hn) ?_
      refine lQ.get hR rfl (tf_5_4 hn) ?_
      refine lQ.loadI rfl rfl ?_
      obtain ⟨x4, hx, h1⟩ := bindC h1
      refine lQ.ald hR rfl (ta_143 hn hx) ?_
      refine lQ.stI rfl (lN2s rfl rfl) ?_
      refine lQ.loadN rfl rfl ?_
      refine lQ.get hR rfl (tf_0_7 hn) ?_
      refine lQ.get hR rfl (tf_5_4 hn) ?_
      refine lQ.loadI rfl rfl ?_
      refine lQ.loadI rfl rfl ?_
      obtain ⟨s5, hx, h1⟩ := bindC h1
      refine lQ.ast hR rfl (tw_143 hn hx) ?_
      rintro _ rfl
      refine lQ.loadI rfl rfl ?_
      obtain rfl := Option.some.inj h1
      exact lQ.retI rfl rfl hz
  rcases iteC hy1 with ⟨hc, hy1⟩ | ⟨hc, hy1⟩
  · refine lQ.ifT rfl (decide_eq_true hc) ?_
    refine lQ.push rfl ?_
    obtain rfl := Option.some.inj hy1
    exact lQ.sub (lSb rfl (lSb rfl (lSb rfl lSb0))) hJ1
  · refine lQ.ifF rfl (decide_eq_false hc) ?_
    refine lQ.loadI rfl rfl ?_
    refine lQ.push rfl ?_
    obtain ⟨x2, hx, hy1⟩ := bindC hy1
    refine lQ.callI (F := (fun y A => x2 = y ∧ A = tp ad s A0)) (G := fun _ _ => False) (args := [.int v2, .int 65536]) (r := [.ref (adr ad 0)]) hR rfl rfl rfl (Nat.le_of_ble_eq_true rfl) (Nat.le_of_ble_eq_true rfl) (ts_560 hR hn hx (cI_mk ⟨rfl, rfl⟩)) ?_ (fun _ _ _ z => z.elim)
    rintro _ _ ⟨rfl, rfl⟩
    rcases iteC hy1 with ⟨hc, hy1⟩ | ⟨hc, hy1⟩
    · refine lQ.ifT rfl (decide_eq_true hc) ?_
      refine lQ.push rfl ?_
      obtain rfl := Option.some.inj hy1
      exact lQ.sub (lSb rfl (lSb rfl (lSb rfl lSb0))) hJ1
    · refine lQ.ifF rfl (decide_eq_false hc) ?_
      refine lQ.push rfl ?_
      refine lQ.goto rfl ?_
      obtain rfl := Option.some.inj hy1
      exact lQ.sub (lSb rfl (lSb rfl (lSb rfl lSb0))) hJ1
theorem ts_645 {R : lAR} (hR : lRok R) {E : lE} {ad : List Nat} (hn : tOk ad) {v1 : Int32} {v2 : Int32} {v3 : Int32} {s : TS} {A0 : lMem} {x : Int32 × TS} (h : t_645 v1 v2 v3 s = some x) {Z : lZ} (hz : Z (.inl (some (.int x.1))) (tp ad x.2 A0)) : lSQ R E 2 645 [.ref (adr ad 0), .int v1, .int v2, .int v3] (tp ad s A0) Z := by
  refine lQ.sq pg_645 (Nat.le_of_ble_eq_true rfl) rfl ?_
  unfold t_645 at h
  refine lQ.loadN rfl rfl ?_
  refine lQ.loadI rfl rfl ?_
  refine lQ.push rfl ?_
  obtain ⟨x1, hx, h⟩ := bindC h
  refine lQ.callI (F := (fun y A => x1 = y ∧ A = tp ad s A0)) (G := fun _ _ => False) (args := [.int v1, .int 8]) (r := [.ref (adr ad 0)]) hR rfl rfl rfl (Nat.le_of_ble_eq_true rfl) (Nat.le_of_ble_eq_true rfl) (ts_560 hR hn hx (cI_mk ⟨rfl, rfl⟩)) ?_ (fun _ _ _ z => z.elim)
  rintro _ _ ⟨rfl, rfl⟩
  obtain ⟨v12, hy1, h1⟩ := bindC h
  have hJ1 : lQ R E 1 cd_645 12 [(0, .ref (adr ad 0)), (1, .int v1), (2, .int v2), (3, .int v3)] [.int v12, .ref (adr ad 0)] (tp ad s A0) Z := by
    refine lQ.loadN rfl rfl ?_
    refine lQ.get hR rfl (tf_0_1 hn) ?_
    obtain ⟨x3, hx, h1⟩ := bindC h1
    refine lQ.callVI (F := (fun y A => x3.1 = y ∧ A = tp ad x3.2 A0)) (G := fun _ _ => False) (args := [.ref (adr ad 0), .int v12, .int (s.1 1)]) (r := []) hR rfl rfl rfl (Nat.le_of_ble_eq_true rfl) (Nat.le_of_ble_eq_true rfl) rfl (tk_0 hn rfl) (ts_558 hR hn hx (cI_mk ⟨rfl, rfl⟩)) ?_ (fun _ _ _ z => z.elim)
    rintro _ _ ⟨rfl, rfl⟩
    rcases iteC h1 with ⟨hc, h1⟩ | ⟨hc, h1⟩
    · refine lQ.ifF rfl (decide_eq_false (fun z => z hc)) ?_
      refine lQ.push rfl ?_
      obtain rfl := Option.some.inj h1
      exact lQ.retI rfl rfl hz
    · refine lQ.ifT rfl (decide_eq_true hc) ?_
      refine lQ.loadN rfl rfl ?_
      refine lQ.get hR rfl (tf_0_7 hn) ?_
      refine lQ.get hR rfl (tf_5_5 hn) ?_
      refine lQ.push rfl ?_
      refine lQ.loadI rfl rfl ?_
      refine lQ.binI rfl ?_
      refine lQ.loadI rfl rfl ?_
      refine lQ.binI rfl ?_
      obtain ⟨x4, hx, h1⟩ := bindC h1
      refine lQ.ald hR rfl (ta_144 hn hx) ?_
      refine lQ.stI rfl (lN2s rfl rfl) ?_
      refine lQ.loadN rfl rfl ?_
      refine lQ.get hR rfl (tf_0_7 hn) ?_
      refine lQ.get hR rfl (tf_5_5 hn) ?_
      refine lQ.push rfl ?_
      refine lQ.loadI rfl rfl ?_
      refine lQ.binI rfl ?_
      refine lQ.loadI rfl rfl ?_
      refine lQ.binI rfl ?_
      refine lQ.loadI rfl rfl ?_
      obtain ⟨s5, hx, h1⟩ := bindC h1
      refine lQ.bst hR rfl (tw_144 hn hx) ?_
      rintro _ rfl
      refine lQ.loadI rfl rfl ?_
      rcases iteC h1 with ⟨hg, h1⟩ | ⟨_, h1⟩
      case inr => cases h1
      have hb := hg
      obtain rfl := Option.some.inj h1
      exact lQ.retI rfl (fitB hb) hz
  rcases iteC hy1 with ⟨hc, hy1⟩ | ⟨hc, hy1⟩
  · refine lQ.ifT rfl (decide_eq_true hc) ?_
    refine lQ.push rfl ?_
    obtain rfl := Option.some.inj hy1
    exact lQ.sub (lSb rfl (lSb rfl (lSb rfl (lSb rfl lSb0)))) hJ1
  · refine lQ.ifF rfl (decide_eq_false hc) ?_
    refine lQ.loadI rfl rfl ?_
    refine lQ.push rfl ?_
    obtain ⟨x2, hx, hy1⟩ := bindC hy1
    refine lQ.callI (F := (fun y A => x2 = y ∧ A = tp ad s A0)) (G := fun _ _ => False) (args := [.int v2, .int 256]) (r := [.ref (adr ad 0)]) hR rfl rfl rfl (Nat.le_of_ble_eq_true rfl) (Nat.le_of_ble_eq_true rfl) (ts_560 hR hn hx (cI_mk ⟨rfl, rfl⟩)) ?_ (fun _ _ _ z => z.elim)
    rintro _ _ ⟨rfl, rfl⟩
    rcases iteC hy1 with ⟨hc, hy1⟩ | ⟨hc, hy1⟩
    · refine lQ.ifT rfl (decide_eq_true hc) ?_
      refine lQ.push rfl ?_
      obtain rfl := Option.some.inj hy1
      exact lQ.sub (lSb rfl (lSb rfl (lSb rfl (lSb rfl lSb0)))) hJ1
    · refine lQ.ifF rfl (decide_eq_false hc) ?_
      refine lQ.push rfl ?_
      refine lQ.goto rfl ?_
      obtain rfl := Option.some.inj hy1
      exact lQ.sub (lSb rfl (lSb rfl (lSb rfl (lSb rfl lSb0)))) hJ1
theorem ts_646 {R : lAR} (hR : lRok R) {E : lE} {ad : List Nat} (hn : tOk ad) {v1 : Int32} {v2 : Int32} {s : TS} {A0 : lMem} {x : Int32 × TS} (h : t_646 v1 v2 s = some x) {Z : lZ} (hz : Z (.inl (some (.int x.1))) (tp ad x.2 A0)) : lSQ R E 2 646 [.ref (adr ad 0), .int v1, .int v2] (tp ad s A0) Z := by
  refine lQ.sq pg_646 (Nat.le_of_ble_eq_true rfl) rfl ?_
  unfold t_646 at h
  refine lQ.loadN rfl rfl ?_
  refine lQ.loadI rfl rfl ?_
  refine lQ.push rfl ?_
  obtain ⟨x1, hx, h⟩ := bindC h
  refine lQ.callI (F := (fun y A => x1 = y ∧ A = tp ad s A0)) (G := fun _ _ => False) (args := [.int v1, .int 8]) (r := [.ref (adr ad 0)]) hR rfl rfl rfl (Nat.le_of_ble_eq_true rfl) (Nat.le_of_ble_eq_true rfl) (ts_560 hR hn hx (cI_mk ⟨rfl, rfl⟩)) ?_ (fun _ _ _ z => z.elim)
  rintro _ _ ⟨rfl, rfl⟩
  refine lQ.loadN rfl rfl ?_
  refine lQ.get hR rfl (tf_0_1 hn) ?_
  obtain ⟨x2, hx, h⟩ := bindC h
  refine lQ.callVI (F := (fun y A => x2.1 = y ∧ A = tp ad x2.2 A0)) (G := fun _ _ => False) (args := [.ref (adr ad 0), .int x1, .int (s.1 1)]) (r := []) hR rfl rfl rfl (Nat.le_of_ble_eq_true rfl) (Nat.le_of_ble_eq_true rfl) rfl (tk_0 hn rfl) (ts_558 hR hn hx (cI_mk ⟨rfl, rfl⟩)) ?_ (fun _ _ _ z => z.elim)
  rintro _ _ ⟨rfl, rfl⟩
  rcases iteC h with ⟨hc, h⟩ | ⟨hc, h⟩
  · refine lQ.ifF rfl (decide_eq_false (fun z => z hc)) ?_
    refine lQ.push rfl ?_
    obtain rfl := Option.some.inj h
    exact lQ.retI rfl rfl hz
  · refine lQ.ifT rfl (decide_eq_true hc) ?_
    refine lQ.loadN rfl rfl ?_
    refine lQ.get hR rfl (tf_0_7 hn) ?_
    refine lQ.get hR rfl (tf_5_6 hn) ?_
    refine lQ.loadI rfl rfl ?_
    obtain ⟨x3, hx, h⟩ := bindC h
    refine lQ.ald hR rfl (ta_145 hn hx) ?_
    refine lQ.stI rfl (lN2s rfl rfl) ?_
    refine lQ.loadN rfl rfl ?_
    refine lQ.get hR rfl (tf_0_7 hn) ?_
    refine lQ.get hR rfl (tf_5_6 hn) ?_
    refine lQ.loadI rfl rfl ?_
    refine lQ.loadI rfl rfl ?_
    obtain ⟨s4, hx, h⟩ := bindC h
    refine lQ.bst hR rfl (tw_145 hn hx) ?_
    rintro _ rfl
    refine lQ.loadI rfl rfl ?_
    rcases iteC h with ⟨hg, h⟩ | ⟨_, h⟩
    case inr => cases h
    have hb := hg
    obtain rfl := Option.some.inj h
    exact lQ.retI rfl (fitB hb) hz
theorem ts_647 {R : lAR} (hR : lRok R) {E : lE} {ad : List Nat} (hn : tOk ad) {v1 : Int32} {v2 : Int32} {v3 : Int32} {v4 : Int32} {v5 : Int32} {v6 : Int32} {s : TS} {A0 : lMem} {x : Int32 × TS} (h : t_647 v1 v2 v3 v4 v5 v6 s = some x) {Z : lZ} (hz : Z (.inl (some (.int x.1))) (tp ad x.2 A0)) : lSQ R E 3 647 [.ref (adr ad 0), .int v1, .int v2, .int v3, .int v4, .int v5, .int v6] (tp ad s A0) Z := by
  refine lQ.sq pg_647 (Nat.le_of_ble_eq_true rfl) rfl ?_
  unfold t_647 at h
  refine lQ.loadI rfl rfl ?_
  refine lQ.push rfl ?_
  obtain ⟨x1, hx, h⟩ := bindC h
  refine lQ.callI (F := (fun y A => x1 = y ∧ A = tp ad s A0)) (G := fun _ _ => False) (args := [.int v1, .int 8]) (r := []) hR rfl rfl rfl (Nat.le_of_ble_eq_true rfl) (Nat.le_of_ble_eq_true rfl) (ts_560 hR hn hx (cI_mk ⟨rfl, rfl⟩)) ?_ (fun _ _ _ z => z.elim)
  rintro _ _ ⟨rfl, rfl⟩
  obtain ⟨v29, hy1, h1⟩ := bindC h
  have hJ1 : lQ R E 2 cd_647 29 [(0, .ref (adr ad 0)), (1, .int v1), (2, .int v2), (3, .int v3), (4, .int v4), (5, .int v5), (6, .int v6)] [.int v29] (tp ad s A0) Z := by
    refine lQ.stI rfl (lN2s rfl rfl) ?_
    refine lQ.loadN rfl rfl ?_
    refine lQ.loadI rfl rfl ?_
    refine lQ.loadN rfl rfl ?_
    refine lQ.get hR rfl (tf_0_1 hn) ?_
    obtain ⟨v47, hy2, h2⟩ := bindC h1
    have hJ2 : lQ R E 2 cd_647 47 [(0, .ref (adr ad 0)), (1, .int v1), (2, .int v2), (3, .int v3), (4, .int v4), (5, .int v5), (6, .int v6)] [.int v47, .int v29, .ref (adr ad 0)] (tp ad s A0) Z := by
      obtain ⟨x6, hx, h2⟩ := bindC h2
      refine lQ.callVI (F := (fun y A => x6.1 = y ∧ A = tp ad x6.2 A0)) (G := fun _ _ => False) (args := [.ref (adr ad 0), .int v29, .int v47]) (r := []) hR rfl rfl rfl (Nat.le_of_ble_eq_true rfl) (Nat.le_of_ble_eq_true rfl) rfl (tk_0 hn rfl) (ts_558 hR hn hx (cI_mk ⟨rfl, rfl⟩)) ?_ (fun _ _ _ z => z.elim)
      rintro _ _ ⟨rfl, rfl⟩
      rcases iteC h2 with ⟨hc, h2⟩ | ⟨hc, h2⟩
      · refine lQ.ifT rfl (decide_eq_true hc) ?_
        refine lQ.push rfl ?_
        obtain rfl := Option.some.inj h2
        exact lQ.retI rfl rfl hz
      · refine lQ.ifF rfl (decide_eq_false hc) ?_
        refine lQ.loadN rfl rfl ?_
        refine lQ.get hR rfl (tf_0_7 hn) ?_
        refine lQ.loadI rfl rfl ?_
        refine lQ.loadI rfl rfl ?_
        refine lQ.loadI rfl rfl ?_
        refine lQ.loadI rfl rfl ?_
        refine lQ.loadI rfl rfl ?_
        refine lQ.loadI rfl rfl ?_
        obtain ⟨x7, hx, h2⟩ := bindC h2
        refine lQ.callVI (F := (fun y A => x7.1 = y ∧ A = tp ad x7.2 A0)) (G := fun _ _ => False) (args := [.ref (adr ad 5), .int v1, .int v2, .int v3, .int v4, .int v5, .int v6]) (r := []) hR rfl rfl rfl (Nat.le_of_ble_eq_true rfl) (Nat.le_of_ble_eq_true rfl) rfl (tk_5 hn rfl) (ts_825 hR hn hx (cI_mk ⟨rfl, rfl⟩)) ?_ (fun _ _ _ z => z.elim)
        rintro _ _ ⟨rfl, rfl⟩
        refine lQ.goto rfl ?_
        obtain rfl := Option.some.inj h2
        exact lQ.retI rfl rfl hz
    rcases iteC hy2 with ⟨hc, hy2⟩ | ⟨hc, hy2⟩
    · refine lQ.ifT rfl (decide_eq_true hc) ?_
      refine lQ.push rfl ?_
      obtain rfl := Option.some.inj hy2
      exact lQ.sub (lSb rfl (lSb rfl (lSb rfl (lSb rfl (lSb rfl (lSb rfl (lSb rfl lSb0))))))) hJ2
    · refine lQ.ifF rfl (decide_eq_false hc) ?_
      refine lQ.loadI rfl rfl ?_
      rcases iteC hy2 with ⟨hc, hy2⟩ | ⟨hc, hy2⟩
      · refine lQ.ifT rfl (decide_eq_true hc) ?_
        refine lQ.push rfl ?_
        refine lQ.goto rfl ?_
        obtain rfl := Option.some.inj hy2
        exact lQ.sub (lSb rfl (lSb rfl (lSb rfl (lSb rfl (lSb rfl (lSb rfl (lSb rfl lSb0))))))) hJ2
      · refine lQ.ifF rfl (decide_eq_false hc) ?_
        refine lQ.loadN rfl rfl ?_
        refine lQ.get hR rfl (tf_0_7 hn) ?_
        refine lQ.get hR rfl (tf_5_7 hn) ?_
        refine lQ.loadI rfl rfl ?_
        obtain ⟨x5, hx, hy2⟩ := bindC hy2
        refine lQ.ald hR rfl (ta_146 hn hx) ?_
        refine lQ.push rfl ?_
        rcases iteC hy2 with ⟨hc, hy2⟩ | ⟨hc, hy2⟩
        · refine lQ.cmpF rfl (decide_eq_false (Int32.not_le.mpr hc)) ?_
          refine lQ.push rfl ?_
          refine lQ.goto rfl ?_
          obtain rfl := Option.some.inj hy2
          exact lQ.sub (lSb rfl (lSb rfl (lSb rfl (lSb rfl (lSb rfl (lSb rfl (lSb rfl lSb0))))))) hJ2
        · refine lQ.cmpT rfl (decide_eq_true (Int32.not_lt.mp hc)) ?_
          refine lQ.push rfl ?_
          obtain rfl := Option.some.inj hy2
          exact lQ.sub (lSb rfl (lSb rfl (lSb rfl (lSb rfl (lSb rfl (lSb rfl (lSb rfl lSb0))))))) hJ2
  rcases iteC hy1 with ⟨hc, hy1⟩ | ⟨hc, hy1⟩
  · refine lQ.ifT rfl (decide_eq_true hc) ?_
    refine lQ.push rfl ?_
    obtain rfl := Option.some.inj hy1
    exact lQ.sub (lSb rfl (lSb rfl (lSb rfl (lSb rfl (lSb rfl (lSb rfl (lSb rfl lSb0))))))) hJ1
  · refine lQ.ifF rfl (decide_eq_false hc) ?_
    refine lQ.loadI rfl rfl ?_
    refine lQ.push rfl ?_
    obtain ⟨x2, hx, hy1⟩ := bindC hy1
    refine lQ.callI (F := (fun y A => x2 = y ∧ A = tp ad s A0)) (G := fun _ _ => False) (args := [.int v2, .int 4]) (r := []) hR rfl rfl rfl (Nat.le_of_ble_eq_true rfl) (Nat.le_of_ble_eq_true rfl) (ts_560 hR hn hx (cI_mk ⟨rfl, rfl⟩)) ?_ (fun _ _ _ z => z.elim)
    rintro _ _ ⟨rfl, rfl⟩
    rcases iteC hy1 with ⟨hc, hy1⟩ | ⟨hc, hy1⟩
    · refine lQ.ifT rfl (decide_eq_true hc) ?_
      refine lQ.push rfl ?_
      obtain rfl := Option.some.inj hy1
      exact lQ.sub (lSb rfl (lSb rfl (lSb rfl (lSb rfl (lSb rfl (lSb rfl (lSb rfl lSb0))))))) hJ1
    · refine lQ.ifF rfl (decide_eq_false hc) ?_
      refine lQ.loadI rfl rfl ?_
      refine lQ.loadI rfl rfl ?_
      obtain ⟨v14, hy3, h3⟩ := bindC hy1
      have hJ3 : lQ R E 2 cd_647 14 [(0, .ref (adr ad 0)), (1, .int v1), (2, .int v2), (3, .int v3), (4, .int v4), (5, .int v5), (6, .int v6)] [.int v14, .int v3] (tp ad s A0) Z := by
        obtain ⟨x3, hx, h3⟩ := bindC h3
        refine lQ.callI (F := (fun y A => x3 = y ∧ A = tp ad s A0)) (G := fun _ _ => False) (args := [.int v3, .int v14]) (r := []) hR rfl rfl rfl (Nat.le_of_ble_eq_true rfl) (Nat.le_of_ble_eq_true rfl) (ts_560 hR hn hx (cI_mk ⟨rfl, rfl⟩)) ?_ (fun _ _ _ z => z.elim)
        rintro _ _ ⟨rfl, rfl⟩
        rcases iteC h3 with ⟨hc, h3⟩ | ⟨hc, h3⟩
        · refine lQ.ifT rfl (decide_eq_true hc) ?_
          refine lQ.push rfl ?_
          obtain rfl := Option.some.inj h3
          exact lQ.sub (lSb rfl (lSb rfl (lSb rfl (lSb rfl (lSb rfl (lSb rfl (lSb rfl lSb0))))))) hJ1
        · refine lQ.ifF rfl (decide_eq_false hc) ?_
          refine lQ.loadI rfl rfl ?_
          refine lQ.push rfl ?_
          rcases iteC h3 with ⟨hc, h3⟩ | ⟨hc, h3⟩
          · refine lQ.cmpT rfl (decide_eq_true hc) ?_
            refine lQ.push rfl ?_
            obtain rfl := Option.some.inj h3
            exact lQ.sub (lSb rfl (lSb rfl (lSb rfl (lSb rfl (lSb rfl (lSb rfl (lSb rfl lSb0))))))) hJ1
          · refine lQ.cmpF rfl (decide_eq_false hc) ?_
            refine lQ.loadI rfl rfl ?_
            refine lQ.push rfl ?_
            rcases iteC h3 with ⟨hc, h3⟩ | ⟨hc, h3⟩
            · refine lQ.cmpT rfl (decide_eq_true hc) ?_
              refine lQ.push rfl ?_
              obtain rfl := Option.some.inj h3
              exact lQ.sub (lSb rfl (lSb rfl (lSb rfl (lSb rfl (lSb rfl (lSb rfl (lSb rfl lSb0))))))) hJ1
            · refine lQ.cmpF rfl (decide_eq_false hc) ?_
              refine lQ.loadI rfl rfl ?_
              refine lQ.push rfl ?_
              obtain ⟨x4, hx, h3⟩ := bindC h3
              refine lQ.callI (F := (fun y A => x4 = y ∧ A = tp ad s A0)) (G := fun _ _ => False) (args := [.int v6, .int 256]) (r := []) hR rfl rfl rfl (Nat.le_of_ble_eq_true rfl) (Nat.le_of_ble_eq_true rfl) (ts_560 hR hn hx (cI_mk ⟨rfl, rfl⟩)) ?_ (fun _ _ _ z => z.elim)
              rintro _ _ ⟨rfl, rfl⟩
              rcases iteC h3 with ⟨hc, h3⟩ | ⟨hc, h3⟩
              · refine lQ.ifT rfl (decide_eq_true hc) ?_
                refine lQ.push rfl ?_
                obtain rfl := Option.some.inj h3
                exact lQ.sub (lSb rfl (lSb rfl (lSb rfl (lSb rfl (lSb rfl (lSb rfl (lSb rfl lSb0))))))) hJ1
              · refine lQ.ifF rfl (decide_eq_false hc) ?_
                refine lQ.push rfl ?_
                refine lQ.goto rfl ?_
                obtain rfl := Option.some.inj h3
                exact lQ.sub (lSb rfl (lSb rfl (lSb rfl (lSb rfl (lSb rfl (lSb rfl (lSb rfl lSb0))))))) hJ1
      rcases iteC hy3 with ⟨hc, hy3⟩ | ⟨hc, hy3⟩
      · refine lQ.ifT rfl (decide_eq_true hc) ?_
        refine lQ.push rfl ?_
        obtain rfl := Option.some.inj hy3
        exact lQ.sub (lSb rfl (lSb rfl (lSb rfl (lSb rfl (lSb rfl (lSb rfl (lSb rfl lSb0))))))) hJ3
      · refine lQ.ifF rfl (decide_eq_false hc) ?_
        refine lQ.push rfl ?_
        refine lQ.goto rfl ?_
        obtain rfl := Option.some.inj hy3
        exact lQ.sub (lSb rfl (lSb rfl (lSb rfl (lSb rfl (lSb rfl (lSb rfl (lSb rfl lSb0))))))) hJ3
theorem ts_827 {R : lAR} (hR : lRok R) {E : lE} {ad : List Nat} (hn : tOk ad) {s : TS} {A0 : lMem} {x : Int32} (h : t_827 s = some x) {Z : lZ} (hz : Z (.inl (some (.int x))) (tp ad s A0)) : lSQ R E 1 827 [.ref (adr ad 5)] (tp ad s A0) Z := by
  refine lQ.sq pg_827 (Nat.le_of_ble_eq_true rfl) rfl ?_
  unfold t_827 at h
  refine lQ.loadN rfl rfl ?_
  refine lQ.get hR rfl (tf_5_3 hn) ?_
  refine lQ.push rfl ?_
  rcases iteC h with ⟨hc, h⟩ | ⟨hc, h⟩
  · refine lQ.cmpF rfl (decide_eq_false (Int32.not_le.mpr hc)) ?_
    refine lQ.push rfl ?_
    refine lQ.goto rfl ?_
    obtain rfl := Option.some.inj h
    exact lQ.retI rfl rfl hz
  · refine lQ.cmpT rfl (decide_eq_true (Int32.not_lt.mp hc)) ?_
    refine lQ.push rfl ?_
    obtain rfl := Option.some.inj h
    exact lQ.retI rfl rfl hz
theorem ts_828 {R : lAR} (hR : lRok R) {E : lE} {ad : List Nat} (hn : tOk ad) {v1 : Int32} {s : TS} {A0 : lMem} {x : Int32 × TS} (h : t_828 v1 s = some x) {Z : lZ} (hz : Z (.inl (some (.int x.1))) (tp ad x.2 A0)) : lSQ R E 1 828 [.ref (adr ad 5), .int v1] (tp ad s A0) Z := by
  refine lQ.sq pg_828 (Nat.le_of_ble_eq_true rfl) rfl ?_
  unfold t_828 at h
  refine lQ.loadN rfl rfl ?_
  refine lQ.get hR rfl (tf_5_2 hn) ?_
  refine lQ.loadN rfl rfl ?_
  refine lQ.get hR rfl (tf_5_0 hn) ?_
  refine lQ.loadI rfl rfl ?_
  refine lQ.binI rfl ?_
  obtain ⟨x1, hx, h⟩ := bindC h
  refine lQ.ald hR rfl (ta_142 hn hx) ?_
  obtain ⟨v11, hy1, h1⟩ := bindC h
  have hJ1 : lQ R E 0 cd_828 11 [(0, .ref (adr ad 5)), (1, .int v1)] [.int v11] (tp ad s A0) Z := by
    refine lQ.stI rfl (lN2s rfl rfl) ?_
    refine lQ.loadN rfl rfl ?_
    refine lQ.get hR rfl (tf_5_2 hn) ?_
    refine lQ.loadN rfl rfl ?_
    refine lQ.get hR rfl (tf_5_0 hn) ?_
    refine lQ.loadI rfl rfl ?_
    refine lQ.binI rfl ?_
    refine lQ.push rfl ?_
    obtain ⟨s2, hx, h1⟩ := bindC h1
    refine lQ.bst hR rfl (tw_142 hn hx) ?_
    rintro _ rfl
    refine lQ.loadN rfl rfl ?_
    refine lQ.dupN rfl ?_
    refine lQ.get hR rfl (tf_5_3 hn) ?_
    refine lQ.loadI rfl rfl ?_
    obtain ⟨v28, hy2, h2⟩ := bindC h1
    have hJ2 : lQ R E 0 cd_828 28 [(2, .int v11)] [.int v28, .int (s2.1 503), .ref (adr ad 5)] (tp ad s2 A0) Z := by
      refine lQ.binI rfl ?_
      obtain ⟨s3, hx, h2⟩ := bindC h2
      refine lQ.put hR rfl rfl (tq_5_3 hn hx) ?_
      rintro _ rfl
      refine lQ.loadI rfl rfl ?_
      rcases iteC h2 with ⟨hg, h2⟩ | ⟨_, h2⟩
      case inr => cases h2
      have hb := hg
      obtain rfl := Option.some.inj h2
      exact lQ.retI rfl (fitB hb) hz
    rcases iteC hy2 with ⟨hc, hy2⟩ | ⟨hc, hy2⟩
    · refine lQ.ifT rfl (decide_eq_true hc) ?_
      refine lQ.push rfl ?_
      obtain rfl := Option.some.inj hy2
      exact lQ.sub (lSb rfl lSb0) hJ2
    · refine lQ.ifF rfl (decide_eq_false hc) ?_
      refine lQ.push rfl ?_
      refine lQ.goto rfl ?_
      obtain rfl := Option.some.inj hy2
      exact lQ.sub (lSb rfl lSb0) hJ2
  rcases iteC hy1 with ⟨hc, hy1⟩ | ⟨hc, hy1⟩
  · refine lQ.ifF rfl (decide_eq_false (fun z => z hc)) ?_
    refine lQ.push rfl ?_
    refine lQ.goto rfl ?_
    obtain rfl := Option.some.inj hy1
    exact lQ.sub (lSb rfl (lSb rfl lSb0)) hJ1
  · refine lQ.ifT rfl (decide_eq_true hc) ?_
    refine lQ.push rfl ?_
    obtain rfl := Option.some.inj hy1
    exact lQ.sub (lSb rfl (lSb rfl lSb0)) hJ1
theorem ts_648 {R : lAR} (hR : lRok R) {E : lE} {ad : List Nat} (hn : tOk ad) {v1 : Int32} {s : TS} {A0 : lMem} {x : Int32 × TS} (h : t_648 v1 s = some x) {Z : lZ} (hz : Z (.inl (some (.int x.1))) (tp ad x.2 A0)) : lSQ R E 2 648 [.ref (adr ad 0), .int v1] (tp ad s A0) Z := by
  refine lQ.sq pg_648 (Nat.le_of_ble_eq_true rfl) rfl ?_
  unfold t_648 at h
  refine lQ.loadN rfl rfl ?_
  refine lQ.loadI rfl rfl ?_
  refine lQ.push rfl ?_
  obtain ⟨v10, hy1, h1⟩ := bindC h
  have hJ1 : lQ R E 1 cd_648 10 [(0, .ref (adr ad 0)), (1, .int v1)] [.int v10, .ref (adr ad 0)] (tp ad s A0) Z := by
    refine lQ.loadN rfl rfl ?_
    refine lQ.get hR rfl (tf_0_1 hn) ?_
    obtain ⟨v20, hy2, h2⟩ := bindC h1
    have hJ2 : lQ R E 1 cd_648 20 [(0, .ref (adr ad 0)), (1, .int v1)] [.int v20, .int v10, .ref (adr ad 0)] (tp ad s A0) Z := by
      obtain ⟨x2, hx, h2⟩ := bindC h2
      refine lQ.callVI (F := (fun y A => x2.1 = y ∧ A = tp ad x2.2 A0)) (G := fun _ _ => False) (args := [.ref (adr ad 0), .int v10, .int v20]) (r := []) hR rfl rfl rfl (Nat.le_of_ble_eq_true rfl) (Nat.le_of_ble_eq_true rfl) rfl (tk_0 hn rfl) (ts_558 hR hn hx (cI_mk ⟨rfl, rfl⟩)) ?_ (fun _ _ _ z => z.elim)
      rintro _ _ ⟨rfl, rfl⟩
      rcases iteC h2 with ⟨hc, h2⟩ | ⟨hc, h2⟩
      · refine lQ.ifT rfl (decide_eq_true hc) ?_
        refine lQ.push rfl ?_
        obtain rfl := Option.some.inj h2
        exact lQ.retI rfl rfl hz
      · refine lQ.ifF rfl (decide_eq_false hc) ?_
        refine lQ.loadN rfl rfl ?_
        refine lQ.get hR rfl (tf_0_7 hn) ?_
        refine lQ.loadI rfl rfl ?_
        obtain ⟨x3, hx, h2⟩ := bindC h2
        refine lQ.callVI (F := (fun y A => x3.1 = y ∧ A = tp ad x3.2 A0)) (G := fun _ _ => False) (args := [.ref (adr ad 5), .int v1]) (r := []) hR rfl rfl rfl (Nat.le_of_ble_eq_true rfl) (Nat.le_of_ble_eq_true rfl) rfl (tk_5 hn rfl) (ts_828 hR hn hx (cI_mk ⟨rfl, rfl⟩)) ?_ (fun _ _ _ z => z.elim)
        rintro _ _ ⟨rfl, rfl⟩
        rcases iteC h2 with ⟨hc, h2⟩ | ⟨hc, h2⟩
        · refine lQ.ifT rfl (decide_eq_true hc) ?_
          refine lQ.push rfl ?_
          obtain rfl := Option.some.inj h2
          exact lQ.retI rfl rfl hz
        · refine lQ.ifF rfl (decide_eq_false hc) ?_
          refine lQ.push rfl ?_
          refine lQ.goto rfl ?_
          obtain rfl := Option.some.inj h2
          exact lQ.retI rfl rfl hz
    rcases iteC hy2 with ⟨hc, hy2⟩ | ⟨hc, hy2⟩
    · refine lQ.ifT rfl (decide_eq_true hc) ?_
      refine lQ.push rfl ?_
      obtain rfl := Option.some.inj hy2
      exact lQ.sub (lSb rfl (lSb rfl lSb0)) hJ2
    · refine lQ.ifF rfl (decide_eq_false hc) ?_
      refine lQ.loadN rfl rfl ?_
      refine lQ.get hR rfl (tf_0_7 hn) ?_
      obtain ⟨x1, hx, hy2⟩ := bindC hy2
      refine lQ.callVI (F := (fun y A => x1 = y ∧ A = tp ad s A0)) (G := fun _ _ => False) (args := [.ref (adr ad 5)]) (r := [.int v10, .ref (adr ad 0)]) hR rfl rfl rfl (Nat.le_of_ble_eq_true rfl) (Nat.le_of_ble_eq_true rfl) rfl (tk_5 hn rfl) (ts_827 hR hn hx (cI_mk ⟨rfl, rfl⟩)) ?_ (fun _ _ _ z => z.elim)
      rintro _ _ ⟨rfl, rfl⟩
      rcases iteC hy2 with ⟨hc, hy2⟩ | ⟨hc, hy2⟩
      · refine lQ.ifT rfl (decide_eq_true hc) ?_
        refine lQ.push rfl ?_
        obtain rfl := Option.some.inj hy2
        exact lQ.sub (lSb rfl (lSb rfl lSb0)) hJ2
      · refine lQ.ifF rfl (decide_eq_false hc) ?_
        refine lQ.push rfl ?_
        refine lQ.goto rfl ?_
        obtain rfl := Option.some.inj hy2
        exact lQ.sub (lSb rfl (lSb rfl lSb0)) hJ2
  rcases iteC hy1 with ⟨hc, hy1⟩ | ⟨hc, hy1⟩
  · refine lQ.cmpT rfl (decide_eq_true hc) ?_
    refine lQ.push rfl ?_
    obtain rfl := Option.some.inj hy1
    exact lQ.sub (lSb rfl (lSb rfl lSb0)) hJ1
  · refine lQ.cmpF rfl (decide_eq_false hc) ?_
    refine lQ.loadI rfl rfl ?_
    refine lQ.push rfl ?_
    rcases iteC hy1 with ⟨hc, hy1⟩ | ⟨hc, hy1⟩
    · refine lQ.cmpT rfl (decide_eq_true hc) ?_
      refine lQ.push rfl ?_
      obtain rfl := Option.some.inj hy1
      exact lQ.sub (lSb rfl (lSb rfl lSb0)) hJ1
    · refine lQ.cmpF rfl (decide_eq_false hc) ?_
      refine lQ.push rfl ?_
      refine lQ.goto rfl ?_
      obtain rfl := Option.some.inj hy1
      exact lQ.sub (lSb rfl (lSb rfl lSb0)) hJ1
theorem ts_829 {R : lAR} (hR : lRok R) {E : lE} {ad : List Nat} (hn : tOk ad) {v1 : Int32} {v2 : Int32} {s : TS} {A0 : lMem} {x : Int32} (h : t_829 v1 v2 s = some x) {Z : lZ} (hz : Z (.inl (some (.int x))) (tp ad s A0)) : lSQ R E 1 829 [.ref (adr ad 5), .int v1, .int v2] (tp ad s A0) Z := by
  refine lQ.sq pg_829 (Nat.le_of_ble_eq_true rfl) rfl ?_
  unfold t_829 at h
  refine lQ.loadI rfl rfl ?_
  rcases iteC h with ⟨hc, h⟩ | ⟨hc, h⟩
  · refine lQ.sw (j := 2) rfl (by unfold swT; rw [hc]; rfl) ?_
    refine lQ.loadN rfl rfl ?_
    refine lQ.get hR rfl (tf_5_7 hn) ?_
    refine lQ.loadI rfl rfl ?_
    obtain ⟨x6, hx, h⟩ := bindC h
    refine lQ.ald hR rfl (ta_146 hn hx) ?_
    obtain rfl := Option.some.inj h
    exact lQ.retI rfl rfl hz
  · have e0 := hc
    rcases iteC h with ⟨hc, h⟩ | ⟨hc, h⟩
    · refine lQ.sw (j := 7) rfl (by unfold swT; rw [hc]; rfl) ?_
      refine lQ.loadN rfl rfl ?_
      refine lQ.get hR rfl (tf_5_9 hn) ?_
      refine lQ.loadI rfl rfl ?_
      obtain ⟨x5, hx, h⟩ := bindC h
      refine lQ.ald hR rfl (ta_148 hn hx) ?_
      rcases iteC h with ⟨hc, h⟩ | ⟨hc, h⟩
      · refine lQ.ifT rfl (decide_eq_true hc) ?_
        refine lQ.push rfl ?_
        obtain rfl := Option.some.inj h
        exact lQ.retI rfl rfl hz
      · refine lQ.ifF rfl (decide_eq_false hc) ?_
        refine lQ.push rfl ?_
        refine lQ.goto rfl ?_
        obtain rfl := Option.some.inj h
        exact lQ.retI rfl rfl hz
    · have e1 := hc
      rcases iteC h with ⟨hc, h⟩ | ⟨hc, h⟩
      · refine lQ.sw (j := 16) rfl (by unfold swT; rw [hc]; rfl) ?_
        refine lQ.loadN rfl rfl ?_
        refine lQ.get hR rfl (tf_5_10 hn) ?_
        refine lQ.loadI rfl rfl ?_
        obtain ⟨x4, hx, h⟩ := bindC h
        refine lQ.ald hR rfl (ta_149 hn hx) ?_
        rcases iteC h with ⟨hc, h⟩ | ⟨hc, h⟩
        · refine lQ.ifT rfl (decide_eq_true hc) ?_
          refine lQ.push rfl ?_
          obtain rfl := Option.some.inj h
          exact lQ.retI rfl rfl hz
        · refine lQ.ifF rfl (decide_eq_false hc) ?_
          refine lQ.push rfl ?_
          refine lQ.goto rfl ?_
          obtain rfl := Option.some.inj h
          exact lQ.retI rfl rfl hz
      · have e2 := hc
        rcases iteC h with ⟨hc, h⟩ | ⟨hc, h⟩
        · refine lQ.sw (j := 25) rfl (by unfold swT; rw [hc]; rfl) ?_
          refine lQ.loadN rfl rfl ?_
          refine lQ.get hR rfl (tf_5_13 hn) ?_
          refine lQ.loadI rfl rfl ?_
          obtain ⟨x3, hx, h⟩ := bindC h
          refine lQ.ald hR rfl (ta_152 hn hx) ?_
          obtain rfl := Option.some.inj h
          exact lQ.retI rfl rfl hz
        · have e3 := hc
          rcases iteC h with ⟨hc, h⟩ | ⟨hc, h⟩
          · refine lQ.sw (j := 30) rfl (by unfold swT; rw [hc]; rfl) ?_
            refine lQ.loadN rfl rfl ?_
            refine lQ.get hR rfl (tf_5_14 hn) ?_
            refine lQ.loadI rfl rfl ?_
            obtain ⟨x2, hx, h⟩ := bindC h
            refine lQ.ald hR rfl (ta_153 hn hx) ?_
            obtain rfl := Option.some.inj h
            exact lQ.retI rfl rfl hz
          · have e4 := hc
            refine lQ.sw (j := 35) rfl (swT_all ⟨Or.inr e0, ⟨Or.inr e1, ⟨Or.inr e2, ⟨Or.inr e3, ⟨Or.inr e4, trivial⟩⟩⟩⟩⟩) ?_
            refine lQ.loadN rfl rfl ?_
            refine lQ.get hR rfl (tf_5_15 hn) ?_
            refine lQ.loadI rfl rfl ?_
            obtain ⟨x1, hx, h⟩ := bindC h
            refine lQ.ald hR rfl (ta_154 hn hx) ?_
            obtain rfl := Option.some.inj h
            exact lQ.retI rfl rfl hz
theorem ts_649 {R : lAR} (hR : lRok R) {E : lE} {ad : List Nat} (hn : tOk ad) {v1 : Int32} {v2 : Int32} {s : TS} {A0 : lMem} {x : Int32 × TS} (h : t_649 v1 v2 s = some x) {Z : lZ} (hz : Z (.inl (some (.int x.1))) (tp ad x.2 A0)) : lSQ R E 2 649 [.ref (adr ad 0), .int v1, .int v2] (tp ad s A0) Z := by
  refine lQ.sq pg_649 (Nat.le_of_ble_eq_true rfl) rfl ?_
  unfold t_649 at h
  refine lQ.loadN rfl rfl ?_
  refine lQ.loadI rfl rfl ?_
  refine lQ.push rfl ?_
  obtain ⟨x1, hx, h⟩ := bindC h
  refine lQ.callI (F := (fun y A => x1 = y ∧ A = tp ad s A0)) (G := fun _ _ => False) (args := [.int v1, .int 8]) (r := [.ref (adr ad 0)]) hR rfl rfl rfl (Nat.le_of_ble_eq_true rfl) (Nat.le_of_ble_eq_true rfl) (ts_560 hR hn hx (cI_mk ⟨rfl, rfl⟩)) ?_ (fun _ _ _ z => z.elim)
  rintro _ _ ⟨rfl, rfl⟩
  obtain ⟨v12, hy1, h1⟩ := bindC h
  have hJ1 : lQ R E 1 cd_649 12 [(0, .ref (adr ad 0)), (1, .int v1), (2, .int v2)] [.int v12, .ref (adr ad 0)] (tp ad s A0) Z := by
    refine lQ.loadN rfl rfl ?_
    refine lQ.get hR rfl (tf_0_1 hn) ?_
    obtain ⟨x3, hx, h1⟩ := bindC h1
    refine lQ.callVI (F := (fun y A => x3.1 = y ∧ A = tp ad x3.2 A0)) (G := fun _ _ => False) (args := [.ref (adr ad 0), .int v12, .int (s.1 1)]) (r := []) hR rfl rfl rfl (Nat.le_of_ble_eq_true rfl) (Nat.le_of_ble_eq_true rfl) rfl (tk_0 hn rfl) (ts_558 hR hn hx (cI_mk ⟨rfl, rfl⟩)) ?_ (fun _ _ _ z => z.elim)
    rintro _ _ ⟨rfl, rfl⟩
    rcases iteC h1 with ⟨hc, h1⟩ | ⟨hc, h1⟩
    · refine lQ.ifT rfl (decide_eq_true hc) ?_
      refine lQ.push rfl ?_
      obtain rfl := Option.some.inj h1
      exact lQ.retI rfl rfl hz
    · refine lQ.ifF rfl (decide_eq_false hc) ?_
      refine lQ.loadN rfl rfl ?_
      refine lQ.get hR rfl (tf_0_7 hn) ?_
      refine lQ.loadI rfl rfl ?_
      refine lQ.loadI rfl rfl ?_
      obtain ⟨x4, hx, h1⟩ := bindC h1
      refine lQ.callVI (F := (fun y A => x4 = y ∧ A = tp ad x3.2 A0)) (G := fun _ _ => False) (args := [.ref (adr ad 5), .int v1, .int v2]) (r := []) hR rfl rfl rfl (Nat.le_of_ble_eq_true rfl) (Nat.le_of_ble_eq_true rfl) rfl (tk_5 hn rfl) (ts_829 hR hn hx (cI_mk ⟨rfl, rfl⟩)) ?_ (fun _ _ _ z => z.elim)
      rintro _ _ ⟨rfl, rfl⟩
      refine lQ.goto rfl ?_
      obtain rfl := Option.some.inj h1
      exact lQ.retI rfl rfl hz
  rcases iteC hy1 with ⟨hc, hy1⟩ | ⟨hc, hy1⟩
  · refine lQ.ifT rfl (decide_eq_true hc) ?_
    refine lQ.push rfl ?_
    obtain rfl := Option.some.inj hy1
    exact lQ.sub (lSb rfl (lSb rfl (lSb rfl lSb0))) hJ1
  · refine lQ.ifF rfl (decide_eq_false hc) ?_
    refine lQ.loadI rfl rfl ?_
    refine lQ.push rfl ?_
    obtain ⟨x2, hx, hy1⟩ := bindC hy1
    refine lQ.callI (F := (fun y A => x2 = y ∧ A = tp ad s A0)) (G := fun _ _ => False) (args := [.int v2, .int 6]) (r := [.ref (adr ad 0)]) hR rfl rfl rfl (Nat.le_of_ble_eq_true rfl) (Nat.le_of_ble_eq_true rfl) (ts_560 hR hn hx (cI_mk ⟨rfl, rfl⟩)) ?_ (fun _ _ _ z => z.elim)
    rintro _ _ ⟨rfl, rfl⟩
    rcases iteC hy1 with ⟨hc, hy1⟩ | ⟨hc, hy1⟩
    · refine lQ.ifT rfl (decide_eq_true hc) ?_
      refine lQ.push rfl ?_
      obtain rfl := Option.some.inj hy1
      exact lQ.sub (lSb rfl (lSb rfl (lSb rfl lSb0))) hJ1
    · refine lQ.ifF rfl (decide_eq_false hc) ?_
      refine lQ.push rfl ?_
      refine lQ.goto rfl ?_
      obtain rfl := Option.some.inj hy1
      exact lQ.sub (lSb rfl (lSb rfl (lSb rfl lSb0))) hJ1
theorem ts_650 {R : lAR} (hR : lRok R) {E : lE} {ad : List Nat} (hn : tOk ad) {v1 : Int32} {s : TS} {A0 : lMem} {x : Int32 × TS} (h : t_650 v1 s = some x) {Z : lZ} (hz : Z (.inl (some (.int x.1))) (tp ad x.2 A0)) : lSQ R E 2 650 [.ref (adr ad 0), .int v1] (tp ad s A0) Z := by
  refine lQ.sq pg_650 (Nat.le_of_ble_eq_true rfl) rfl ?_
  unfold t_650 at h
  refine lQ.loadN rfl rfl ?_
  refine lQ.loadI rfl rfl ?_
  refine lQ.push rfl ?_
  obtain ⟨x1, hx, h⟩ := bindC h
  refine lQ.callI (F := (fun y A => x1 = y ∧ A = tp ad s A0)) (G := fun _ _ => False) (args := [.int v1, .int 5]) (r := [.ref (adr ad 0)]) hR rfl rfl rfl (Nat.le_of_ble_eq_true rfl) (Nat.le_of_ble_eq_true rfl) (ts_560 hR hn hx (cI_mk ⟨rfl, rfl⟩)) ?_ (fun _ _ _ z => z.elim)
  rintro _ _ ⟨rfl, rfl⟩
  refine lQ.loadN rfl rfl ?_
  refine lQ.get hR rfl (tf_0_1 hn) ?_
  obtain ⟨x2, hx, h⟩ := bindC h
  refine lQ.callVI (F := (fun y A => x2.1 = y ∧ A = tp ad x2.2 A0)) (G := fun _ _ => False) (args := [.ref (adr ad 0), .int x1, .int (s.1 1)]) (r := []) hR rfl rfl rfl (Nat.le_of_ble_eq_true rfl) (Nat.le_of_ble_eq_true rfl) rfl (tk_0 hn rfl) (ts_558 hR hn hx (cI_mk ⟨rfl, rfl⟩)) ?_ (fun _ _ _ z => z.elim)
  rintro _ _ ⟨rfl, rfl⟩
  rcases iteC h with ⟨hc, h⟩ | ⟨hc, h⟩
  · refine lQ.ifT rfl (decide_eq_true hc) ?_
    refine lQ.push rfl ?_
    obtain rfl := Option.some.inj h
    exact lQ.retI rfl rfl hz
  · refine lQ.ifF rfl (decide_eq_false hc) ?_
    refine lQ.loadN rfl rfl ?_
    refine lQ.get hR rfl (tf_0_7 hn) ?_
    refine lQ.get hR rfl (tf_5_27 hn) ?_
    refine lQ.loadI rfl rfl ?_
    obtain ⟨x3, hx, h⟩ := bindC h
    refine lQ.ald hR rfl (ta_157 hn hx) ?_
    refine lQ.goto rfl ?_
    obtain rfl := Option.some.inj h
    exact lQ.retI rfl rfl hz
theorem ts_651 {R : lAR} (hR : lRok R) {E : lE} {ad : List Nat} (hn : tOk ad) {v1 : Int32} {s : TS} {A0 : lMem} {x : Int32 × TS} (h : t_651 v1 s = some x) {Z : lZ} (hz : Z (.inl (some (.int x.1))) (tp ad x.2 A0)) : lSQ R E 2 651 [.ref (adr ad 0), .int v1] (tp ad s A0) Z := by
  refine lQ.sq pg_651 (Nat.le_of_ble_eq_true rfl) rfl ?_
  unfold t_651 at h
  refine lQ.loadN rfl rfl ?_
  refine lQ.loadI rfl rfl ?_
  refine lQ.push rfl ?_
  obtain ⟨v12, hy1, h1⟩ := bindC h
  have hJ1 : lQ R E 1 cd_651 12 [(0, .ref (adr ad 0)), (1, .int v1)] [.int v12, .ref (adr ad 0)] (tp ad s A0) Z := by
    refine lQ.loadN rfl rfl ?_
    refine lQ.get hR rfl (tf_0_1 hn) ?_
    obtain ⟨x1, hx, h1⟩ := bindC h1
    refine lQ.callVI (F := (fun y A => x1.1 = y ∧ A = tp ad x1.2 A0)) (G := fun _ _ => False) (args := [.ref (adr ad 0), .int v12, .int (s.1 1)]) (r := []) hR rfl rfl rfl (Nat.le_of_ble_eq_true rfl) (Nat.le_of_ble_eq_true rfl) rfl (tk_0 hn rfl) (ts_558 hR hn hx (cI_mk ⟨rfl, rfl⟩)) ?_ (fun _ _ _ z => z.elim)
    rintro _ _ ⟨rfl, rfl⟩
    rcases iteC h1 with ⟨hc, h1⟩ | ⟨hc, h1⟩
    · refine lQ.ifT rfl (decide_eq_true hc) ?_
      refine lQ.push rfl ?_
      obtain rfl := Option.some.inj h1
      exact lQ.retI rfl rfl hz
    · refine lQ.ifF rfl (decide_eq_false hc) ?_
      refine lQ.loadI rfl rfl ?_
      rcases iteC h1 with ⟨hc, h1⟩ | ⟨hc, h1⟩
      · refine lQ.ifF rfl (decide_eq_false (Int32.not_le.mpr hc)) ?_
        refine lQ.loadN rfl rfl ?_
        refine lQ.get hR rfl (tf_0_7 hn) ?_
        refine lQ.get hR rfl (tf_5_26 hn) ?_
        refine lQ.goto rfl ?_
        obtain rfl := Option.some.inj h1
        exact lQ.retI rfl rfl hz
      · refine lQ.ifT rfl (decide_eq_true (Int32.not_lt.mp hc)) ?_
        refine lQ.loadN rfl rfl ?_
        refine lQ.get hR rfl (tf_0_7 hn) ?_
        refine lQ.get hR rfl (tf_5_22 hn) ?_
        refine lQ.loadI rfl rfl ?_
        obtain ⟨x2, hx, h1⟩ := bindC h1
        refine lQ.ald hR rfl (ta_156 hn hx) ?_
        refine lQ.goto rfl ?_
        obtain rfl := Option.some.inj h1
        exact lQ.retI rfl rfl hz
  rcases iteC hy1 with ⟨hc, hy1⟩ | ⟨hc, hy1⟩
  · refine lQ.cmpT rfl (decide_eq_true hc) ?_
    refine lQ.push rfl ?_
    obtain rfl := Option.some.inj hy1
    exact lQ.sub (lSb rfl (lSb rfl lSb0)) hJ1
  · refine lQ.cmpF rfl (decide_eq_false hc) ?_
    refine lQ.loadI rfl rfl ?_
    refine lQ.loadN rfl rfl ?_
    refine lQ.get hR rfl (tf_0_7 hn) ?_
    refine lQ.get hR rfl (tf_5_21 hn) ?_
    rcases iteC hy1 with ⟨hc, hy1⟩ | ⟨hc, hy1⟩
    · refine lQ.cmpF rfl (decide_eq_false (Int32.not_le.mpr hc)) ?_
      refine lQ.push rfl ?_
      refine lQ.goto rfl ?_
      obtain rfl := Option.some.inj hy1
      exact lQ.sub (lSb rfl (lSb rfl lSb0)) hJ1
    · refine lQ.cmpT rfl (decide_eq_true (Int32.not_lt.mp hc)) ?_
      refine lQ.push rfl ?_
      obtain rfl := Option.some.inj hy1
      exact lQ.sub (lSb rfl (lSb rfl lSb0)) hJ1
theorem ts_844 {R : lAR} (hR : lRok R) {E : lE} {ad : List Nat} (hn : tOk ad) {v0 : Int32} {s : TS} {A0 : lMem} {x : Int32} (h : t_844 v0 s = some x) {Z : lZ} (hz : Z (.inl (some (.int x))) (tp ad s A0)) : lSQ R E 1 844 [.int v0] (tp ad s A0) Z := by
  refine lQ.sq pg_844 (Nat.le_of_ble_eq_true rfl) rfl ?_
  unfold t_844 at h
  refine lQ.loadI rfl rfl ?_
  rcases iteC h with ⟨hc, h⟩ | ⟨hc, h⟩
  · refine lQ.ifT rfl (decide_eq_true hc) ?_
    refine lQ.push rfl ?_
    obtain rfl := Option.some.inj h
    exact lQ.retI rfl rfl hz
  · refine lQ.ifF rfl (decide_eq_false hc) ?_
    refine lQ.loadI rfl rfl ?_
    refine lQ.push rfl ?_
    rcases iteC h with ⟨hc, h⟩ | ⟨hc, h⟩
    · refine lQ.cmpF rfl (decide_eq_false (Int32.not_le.mpr hc)) ?_
      refine lQ.push rfl ?_
      refine lQ.goto rfl ?_
      obtain rfl := Option.some.inj h
      exact lQ.retI rfl rfl hz
    · refine lQ.cmpT rfl (decide_eq_true (Int32.not_lt.mp hc)) ?_
      refine lQ.push rfl ?_
      obtain rfl := Option.some.inj h
      exact lQ.retI rfl rfl hz
theorem ts_845 {R : lAR} (hR : lRok R) {E : lE} {ad : List Nat} (hn : tOk ad) {v1 : Int32} {v2 : Int32} {s : TS} {A0 : lMem} {x : Int32 × TS} (h : t_845 v1 v2 s = some x) {Z : lZ} (hz : Z (.inl (some (.int x.1))) (tp ad x.2 A0)) : lSQ R E 1 845 [.ref (adr ad 6), .int v1, .int v2] (tp ad s A0) Z := by
  refine lQ.sq pg_845 (Nat.le_of_ble_eq_true rfl) rfl ?_
  unfold t_845 at h
  refine lQ.loadN rfl rfl ?_
  refine lQ.get hR rfl (tf_6_1 hn) ?_
  refine lQ.loadN rfl rfl ?_
  refine lQ.get hR rfl (tf_6_0 hn) ?_
  refine lQ.loadI rfl rfl ?_
  obtain ⟨s1, hx, h⟩ := bindC h
  refine lQ.ast hR rfl (tw_158 hn hx) ?_
  rintro _ rfl
  refine lQ.loadN rfl rfl ?_
  refine lQ.get hR rfl (tf_6_2 hn) ?_
  refine lQ.loadN rfl rfl ?_
  refine lQ.get hR rfl (tf_6_0 hn) ?_
  refine lQ.loadI rfl rfl ?_
  obtain ⟨s2, hx, h⟩ := bindC h
  refine lQ.ast hR rfl (tw_159 hn hx) ?_
  rintro _ rfl
  refine lQ.loadN rfl rfl ?_
  refine lQ.get hR rfl (tf_6_3 hn) ?_
  refine lQ.loadN rfl rfl ?_
  refine lQ.get hR rfl (tf_6_0 hn) ?_
  refine lQ.push rfl ?_
  obtain ⟨s3, hx, h⟩ := bindC h
  refine lQ.ast hR rfl (tw_160 hn hx) ?_
  rintro _ rfl
  refine lQ.loadN rfl rfl ?_
  refine lQ.get hR rfl (tf_6_4 hn) ?_
  refine lQ.loadN rfl rfl ?_
  refine lQ.get hR rfl (tf_6_0 hn) ?_
  refine lQ.push rfl ?_
  obtain ⟨s4, hx, h⟩ := bindC h
  refine lQ.ast hR rfl (tw_161 hn hx) ?_
  rintro _ rfl
  refine lQ.loadN rfl rfl ?_
  refine lQ.get hR rfl (tf_6_5 hn) ?_
  refine lQ.loadN rfl rfl ?_
  refine lQ.get hR rfl (tf_6_0 hn) ?_
  refine lQ.push rfl ?_
  obtain ⟨s5, hx, h⟩ := bindC h
  refine lQ.ast hR rfl (tw_162 hn hx) ?_
  rintro _ rfl
  refine lQ.loadN rfl rfl ?_
  refine lQ.dupN rfl ?_
  refine lQ.get hR rfl (tf_6_0 hn) ?_
  refine lQ.push rfl ?_
  refine lQ.binI rfl ?_
  obtain ⟨s6, hx, h⟩ := bindC h
  refine lQ.put hR rfl rfl (tq_6_0 hn hx) ?_
  rintro _ rfl
  refine lQ.loadN rfl rfl ?_
  refine lQ.get hR rfl (tf_6_0 hn) ?_
  refine lQ.push rfl ?_
  refine lQ.binI rfl ?_
  obtain rfl := Option.some.inj h
  exact lQ.retI rfl rfl hz
theorem ts_652 {R : lAR} (hR : lRok R) {E : lE} {ad : List Nat} (hn : tOk ad) {v1 : Int32} {v2 : Int32} {s : TS} {A0 : lMem} {x : Int32 × TS} (h : t_652 v1 v2 s = some x) {Z : lZ} (hz : Z (.inl (some (.int x.1))) (tp ad x.2 A0)) : lSQ R E 2 652 [.ref (adr ad 0), .int v1, .int v2] (tp ad s A0) Z := by
  refine lQ.sq pg_652 (Nat.le_of_ble_eq_true rfl) rfl ?_
  unfold t_652 at h
  refine lQ.loadN rfl rfl ?_
  refine lQ.loadI rfl rfl ?_
  obtain ⟨x1, hx, h⟩ := bindC h
  refine lQ.callI (F := (fun y A => x1 = y ∧ A = tp ad s A0)) (G := fun _ _ => False) (args := [.int v1]) (r := [.ref (adr ad 0)]) hR rfl rfl rfl (Nat.le_of_ble_eq_true rfl) (Nat.le_of_ble_eq_true rfl) (ts_844 hR hn hx (cI_mk ⟨rfl, rfl⟩)) ?_ (fun _ _ _ z => z.elim)
  rintro _ _ ⟨rfl, rfl⟩
  obtain ⟨v13, hy1, h1⟩ := bindC h
  have hJ1 : lQ R E 1 cd_652 13 [(0, .ref (adr ad 0)), (1, .int v1), (2, .int v2)] [.int v13, .ref (adr ad 0)] (tp ad s A0) Z := by
    refine lQ.loadN rfl rfl ?_
    refine lQ.get hR rfl (tf_0_1 hn) ?_
    obtain ⟨v24, hy2, h2⟩ := bindC h1
    have hJ2 : lQ R E 1 cd_652 24 [(0, .ref (adr ad 0)), (1, .int v1), (2, .int v2)] [.int v24, .int v13, .ref (adr ad 0)] (tp ad s A0) Z := by
      obtain ⟨x2, hx, h2⟩ := bindC h2
      refine lQ.callVI (F := (fun y A => x2.1 = y ∧ A = tp ad x2.2 A0)) (G := fun _ _ => False) (args := [.ref (adr ad 0), .int v13, .int v24]) (r := []) hR rfl rfl rfl (Nat.le_of_ble_eq_true rfl) (Nat.le_of_ble_eq_true rfl) rfl (tk_0 hn rfl) (ts_558 hR hn hx (cI_mk ⟨rfl, rfl⟩)) ?_ (fun _ _ _ z => z.elim)
      rintro _ _ ⟨rfl, rfl⟩
      rcases iteC h2 with ⟨hc, h2⟩ | ⟨hc, h2⟩
      · refine lQ.ifT rfl (decide_eq_true hc) ?_
        refine lQ.push rfl ?_
        obtain rfl := Option.some.inj h2
        exact lQ.retI rfl rfl hz
      · refine lQ.ifF rfl (decide_eq_false hc) ?_
        refine lQ.loadN rfl rfl ?_
        refine lQ.get hR rfl (tf_0_8 hn) ?_
        refine lQ.loadI rfl rfl ?_
        refine lQ.loadI rfl rfl ?_
        obtain ⟨x3, hx, h2⟩ := bindC h2
        refine lQ.callVI (F := (fun y A => x3.1 = y ∧ A = tp ad x3.2 A0)) (G := fun _ _ => False) (args := [.ref (adr ad 6), .int v1, .int v2]) (r := []) hR rfl rfl rfl (Nat.le_of_ble_eq_true rfl) (Nat.le_of_ble_eq_true rfl) rfl (tk_6 hn rfl) (ts_845 hR hn hx (cI_mk ⟨rfl, rfl⟩)) ?_ (fun _ _ _ z => z.elim)
        rintro _ _ ⟨rfl, rfl⟩
        refine lQ.goto rfl ?_
        obtain rfl := Option.some.inj h2
        exact lQ.retI rfl rfl hz
    rcases iteC hy2 with ⟨hc, hy2⟩ | ⟨hc, hy2⟩
    · refine lQ.ifT rfl (decide_eq_true hc) ?_
      refine lQ.push rfl ?_
      obtain rfl := Option.some.inj hy2
      exact lQ.sub (lSb rfl (lSb rfl (lSb rfl lSb0))) hJ2
    · refine lQ.ifF rfl (decide_eq_false hc) ?_
      refine lQ.loadN rfl rfl ?_
      refine lQ.get hR rfl (tf_0_8 hn) ?_
      refine lQ.get hR rfl (tf_6_0 hn) ?_
      refine lQ.push rfl ?_
      rcases iteC hy2 with ⟨hc, hy2⟩ | ⟨hc, hy2⟩
      · refine lQ.cmpF rfl (decide_eq_false (Int32.not_le.mpr hc)) ?_
        refine lQ.push rfl ?_
        refine lQ.goto rfl ?_
        obtain rfl := Option.some.inj hy2
        exact lQ.sub (lSb rfl (lSb rfl (lSb rfl lSb0))) hJ2
      · refine lQ.cmpT rfl (decide_eq_true (Int32.not_lt.mp hc)) ?_
        refine lQ.push rfl ?_
        obtain rfl := Option.some.inj hy2
        exact lQ.sub (lSb rfl (lSb rfl (lSb rfl lSb0))) hJ2
  rcases iteC hy1 with ⟨hc, hy1⟩ | ⟨hc, hy1⟩
  · refine lQ.ifT rfl (decide_eq_true hc) ?_
    refine lQ.push rfl ?_
    obtain rfl := Option.some.inj hy1
    exact lQ.sub (lSb rfl (lSb rfl (lSb rfl lSb0))) hJ1
  · refine lQ.ifF rfl (decide_eq_false hc) ?_
    refine lQ.loadI rfl rfl ?_
    refine lQ.push rfl ?_
    rcases iteC hy1 with ⟨hc, hy1⟩ | ⟨hc, hy1⟩
    · refine lQ.cmpT rfl (decide_eq_true hc) ?_
      refine lQ.push rfl ?_
      obtain rfl := Option.some.inj hy1
      exact lQ.sub (lSb rfl (lSb rfl (lSb rfl lSb0))) hJ1
    · refine lQ.cmpF rfl (decide_eq_false hc) ?_
      refine lQ.loadI rfl rfl ?_
      refine lQ.push rfl ?_
      rcases iteC hy1 with ⟨hc, hy1⟩ | ⟨hc, hy1⟩
      · refine lQ.cmpT rfl (decide_eq_true hc) ?_
        refine lQ.push rfl ?_
        obtain rfl := Option.some.inj hy1
        exact lQ.sub (lSb rfl (lSb rfl (lSb rfl lSb0))) hJ1
      · refine lQ.cmpF rfl (decide_eq_false hc) ?_
        refine lQ.push rfl ?_
        refine lQ.goto rfl ?_
        obtain rfl := Option.some.inj hy1
        exact lQ.sub (lSb rfl (lSb rfl (lSb rfl lSb0))) hJ1
theorem ts_653 {R : lAR} (hR : lRok R) {E : lE} {ad : List Nat} (hn : tOk ad) {v1 : Int32} {v2 : Int32} {v3 : Int32} {s : TS} {A0 : lMem} {x : TS} (h : t_653 v1 v2 v3 s = some x) {Z : lZ} (hz : Z (.inl none) (tp ad x A0)) : lSQ R E 2 653 [.ref (adr ad 0), .int v1, .int v2, .int v3] (tp ad s A0) Z := by
  refine lQ.sq pg_653 (Nat.le_of_ble_eq_true rfl) rfl ?_
  unfold t_653 at h
  refine lQ.loadN rfl rfl ?_
  refine lQ.loadI rfl rfl ?_
  refine lQ.loadN rfl rfl ?_
  refine lQ.get hR rfl (tf_0_8 hn) ?_
  refine lQ.get hR rfl (tf_6_0 hn) ?_
  obtain ⟨x1, hx, h⟩ := bindC h
  refine lQ.callI (F := (fun y A => x1 = y ∧ A = tp ad s A0)) (G := fun _ _ => False) (args := [.int v1, .int (s.1 600)]) (r := [.ref (adr ad 0)]) hR rfl rfl rfl (Nat.le_of_ble_eq_true rfl) (Nat.le_of_ble_eq_true rfl) (ts_560 hR hn hx (cI_mk ⟨rfl, rfl⟩)) ?_ (fun _ _ _ z => z.elim)
  rintro _ _ ⟨rfl, rfl⟩
  obtain ⟨v18, hy1, h1⟩ := bindC h
  have hJ1 : lQ R E 1 cd_653 18 [(0, .ref (adr ad 0)), (1, .int v1), (2, .int v2), (3, .int v3)] [.int v18, .ref (adr ad 0)] (tp ad s A0) Z := by
    refine lQ.loadN rfl rfl ?_
    refine lQ.get hR rfl (tf_0_1 hn) ?_
    obtain ⟨x3, hx, h1⟩ := bindC h1
    refine lQ.callVI (F := (fun y A => x3.1 = y ∧ A = tp ad x3.2 A0)) (G := fun _ _ => False) (args := [.ref (adr ad 0), .int v18, .int (s.1 1)]) (r := []) hR rfl rfl rfl (Nat.le_of_ble_eq_true rfl) (Nat.le_of_ble_eq_true rfl) rfl (tk_0 hn rfl) (ts_558 hR hn hx (cI_mk ⟨rfl, rfl⟩)) ?_ (fun _ _ _ z => z.elim)
    rintro _ _ ⟨rfl, rfl⟩
    rcases iteC h1 with ⟨hc, h1⟩ | ⟨hc, h1⟩
    · refine lQ.ifT rfl (decide_eq_true hc) ?_
      obtain rfl := Option.some.inj h1
      exact lQ.retV rfl hz
    · refine lQ.ifF rfl (decide_eq_false hc) ?_
      refine lQ.loadN rfl rfl ?_
      refine lQ.get hR rfl (tf_0_8 hn) ?_
      refine lQ.get hR rfl (tf_6_2 hn) ?_
      refine lQ.loadI rfl rfl ?_
      refine lQ.loadI rfl rfl ?_
      obtain ⟨s4, hx, h1⟩ := bindC h1
      refine lQ.ast hR rfl (tw_159 hn hx) ?_
      rintro _ rfl
      refine lQ.loadN rfl rfl ?_
      refine lQ.get hR rfl (tf_0_8 hn) ?_
      refine lQ.get hR rfl (tf_6_3 hn) ?_
      refine lQ.loadI rfl rfl ?_
      refine lQ.loadI rfl rfl ?_
      obtain ⟨s5, hx, h1⟩ := bindC h1
      refine lQ.ast hR rfl (tw_160 hn hx) ?_
      rintro _ rfl
      obtain rfl := Option.some.inj h1
      exact lQ.retV rfl hz
  rcases iteC hy1 with ⟨hc, hy1⟩ | ⟨hc, hy1⟩
  · refine lQ.ifT rfl (decide_eq_true hc) ?_
    refine lQ.push rfl ?_
    obtain rfl := Option.some.inj hy1
    exact lQ.sub (lSb rfl (lSb rfl (lSb rfl (lSb rfl lSb0)))) hJ1
  · refine lQ.ifF rfl (decide_eq_false hc) ?_
    refine lQ.loadI rfl rfl ?_
    obtain ⟨x2, hx, hy1⟩ := bindC hy1
    refine lQ.callI (F := (fun y A => x2 = y ∧ A = tp ad s A0)) (G := fun _ _ => False) (args := [.int v2]) (r := [.ref (adr ad 0)]) hR rfl rfl rfl (Nat.le_of_ble_eq_true rfl) (Nat.le_of_ble_eq_true rfl) (ts_844 hR hn hx (cI_mk ⟨rfl, rfl⟩)) ?_ (fun _ _ _ z => z.elim)
    rintro _ _ ⟨rfl, rfl⟩
    rcases iteC hy1 with ⟨hc, hy1⟩ | ⟨hc, hy1⟩
    · refine lQ.ifT rfl (decide_eq_true hc) ?_
      refine lQ.push rfl ?_
      obtain rfl := Option.some.inj hy1
      exact lQ.sub (lSb rfl (lSb rfl (lSb rfl (lSb rfl lSb0)))) hJ1
    · refine lQ.ifF rfl (decide_eq_false hc) ?_
      refine lQ.loadI rfl rfl ?_
      rcases iteC hy1 with ⟨hc, hy1⟩ | ⟨hc, hy1⟩
      · refine lQ.ifT rfl (decide_eq_true hc) ?_
        refine lQ.push rfl ?_
        obtain rfl := Option.some.inj hy1
        exact lQ.sub (lSb rfl (lSb rfl (lSb rfl (lSb rfl lSb0)))) hJ1
      · refine lQ.ifF rfl (decide_eq_false hc) ?_
        refine lQ.loadI rfl rfl ?_
        refine lQ.push rfl ?_
        rcases iteC hy1 with ⟨hc, hy1⟩ | ⟨hc, hy1⟩
        · refine lQ.cmpT rfl (decide_eq_true hc) ?_
          refine lQ.push rfl ?_
          obtain rfl := Option.some.inj hy1
          exact lQ.sub (lSb rfl (lSb rfl (lSb rfl (lSb rfl lSb0)))) hJ1
        · refine lQ.cmpF rfl (decide_eq_false hc) ?_
          refine lQ.push rfl ?_
          refine lQ.goto rfl ?_
          obtain rfl := Option.some.inj hy1
          exact lQ.sub (lSb rfl (lSb rfl (lSb rfl (lSb rfl lSb0)))) hJ1
theorem ts_654 {R : lAR} (hR : lRok R) {E : lE} {ad : List Nat} (hn : tOk ad) {v1 : Int32} {v2 : Int32} {v3 : Int32} {s : TS} {A0 : lMem} {x : TS} (h : t_654 v1 v2 v3 s = some x) {Z : lZ} (hz : Z (.inl none) (tp ad x A0)) : lSQ R E 2 654 [.ref (adr ad 0), .int v1, .int v2, .int v3] (tp ad s A0) Z := by
  refine lQ.sq pg_654 (Nat.le_of_ble_eq_true rfl) rfl ?_
  unfold t_654 at h
  refine lQ.loadN rfl rfl ?_
  refine lQ.loadI rfl rfl ?_
  refine lQ.loadN rfl rfl ?_
  refine lQ.get hR rfl (tf_0_8 hn) ?_
  refine lQ.get hR rfl (tf_6_0 hn) ?_
  obtain ⟨x1, hx, h⟩ := bindC h
  refine lQ.callI (F := (fun y A => x1 = y ∧ A = tp ad s A0)) (G := fun _ _ => False) (args := [.int v1, .int (s.1 600)]) (r := [.ref (adr ad 0)]) hR rfl rfl rfl (Nat.le_of_ble_eq_true rfl) (Nat.le_of_ble_eq_true rfl) (ts_560 hR hn hx (cI_mk ⟨rfl, rfl⟩)) ?_ (fun _ _ _ z => z.elim)
  rintro _ _ ⟨rfl, rfl⟩
  obtain ⟨v19, hy1, h1⟩ := bindC h
  have hJ1 : lQ R E 1 cd_654 19 [(0, .ref (adr ad 0)), (1, .int v1), (2, .int v2), (3, .int v3)] [.int v19, .ref (adr ad 0)] (tp ad s A0) Z := by
    refine lQ.loadN rfl rfl ?_
    refine lQ.get hR rfl (tf_0_1 hn) ?_
    obtain ⟨x4, hx, h1⟩ := bindC h1
    refine lQ.callVI (F := (fun y A => x4.1 = y ∧ A = tp ad x4.2 A0)) (G := fun _ _ => False) (args := [.ref (adr ad 0), .int v19, .int (s.1 1)]) (r := []) hR rfl rfl rfl (Nat.le_of_ble_eq_true rfl) (Nat.le_of_ble_eq_true rfl) rfl (tk_0 hn rfl) (ts_558 hR hn hx (cI_mk ⟨rfl, rfl⟩)) ?_ (fun _ _ _ z => z.elim)
    rintro _ _ ⟨rfl, rfl⟩
    rcases iteC h1 with ⟨hc, h1⟩ | ⟨hc, h1⟩
    · refine lQ.ifT rfl (decide_eq_true hc) ?_
      obtain rfl := Option.some.inj h1
      exact lQ.retV rfl hz
    · refine lQ.ifF rfl (decide_eq_false hc) ?_
      refine lQ.loadN rfl rfl ?_
      refine lQ.get hR rfl (tf_0_8 hn) ?_
      refine lQ.get hR rfl (tf_6_4 hn) ?_
      refine lQ.loadI rfl rfl ?_
      refine lQ.loadI rfl rfl ?_
      obtain ⟨s5, hx, h1⟩ := bindC h1
      refine lQ.ast hR rfl (tw_161 hn hx) ?_
      rintro _ rfl
      refine lQ.loadN rfl rfl ?_
      refine lQ.get hR rfl (tf_0_8 hn) ?_
      refine lQ.get hR rfl (tf_6_5 hn) ?_
      refine lQ.loadI rfl rfl ?_
      refine lQ.loadI rfl rfl ?_
      obtain ⟨s6, hx, h1⟩ := bindC h1
      refine lQ.ast hR rfl (tw_162 hn hx) ?_
      rintro _ rfl
      obtain rfl := Option.some.inj h1
      exact lQ.retV rfl hz
  rcases iteC hy1 with ⟨hc, hy1⟩ | ⟨hc, hy1⟩
  · refine lQ.ifT rfl (decide_eq_true hc) ?_
    refine lQ.push rfl ?_
    obtain rfl := Option.some.inj hy1
    exact lQ.sub (lSb rfl (lSb rfl (lSb rfl (lSb rfl lSb0)))) hJ1
  · refine lQ.ifF rfl (decide_eq_false hc) ?_
    refine lQ.loadI rfl rfl ?_
    obtain ⟨x2, hx, hy1⟩ := bindC hy1
    refine lQ.callI (F := (fun y A => x2 = y ∧ A = tp ad s A0)) (G := fun _ _ => False) (args := [.int v2]) (r := [.ref (adr ad 0)]) hR rfl rfl rfl (Nat.le_of_ble_eq_true rfl) (Nat.le_of_ble_eq_true rfl) (ts_844 hR hn hx (cI_mk ⟨rfl, rfl⟩)) ?_ (fun _ _ _ z => z.elim)
    rintro _ _ ⟨rfl, rfl⟩
    rcases iteC hy1 with ⟨hc, hy1⟩ | ⟨hc, hy1⟩
    · refine lQ.ifT rfl (decide_eq_true hc) ?_
      refine lQ.push rfl ?_
      obtain rfl := Option.some.inj hy1
      exact lQ.sub (lSb rfl (lSb rfl (lSb rfl (lSb rfl lSb0)))) hJ1
    · refine lQ.ifF rfl (decide_eq_false hc) ?_
      refine lQ.loadI rfl rfl ?_
      obtain ⟨x3, hx, hy1⟩ := bindC hy1
      refine lQ.callI (F := (fun y A => x3 = y ∧ A = tp ad s A0)) (G := fun _ _ => False) (args := [.int v3]) (r := [.ref (adr ad 0)]) hR rfl rfl rfl (Nat.le_of_ble_eq_true rfl) (Nat.le_of_ble_eq_true rfl) (ts_844 hR hn hx (cI_mk ⟨rfl, rfl⟩)) ?_ (fun _ _ _ z => z.elim)
      rintro _ _ ⟨rfl, rfl⟩
      rcases iteC hy1 with ⟨hc, hy1⟩ | ⟨hc, hy1⟩
      · refine lQ.ifT rfl (decide_eq_true hc) ?_
        refine lQ.push rfl ?_
        obtain rfl := Option.some.inj hy1
        exact lQ.sub (lSb rfl (lSb rfl (lSb rfl (lSb rfl lSb0)))) hJ1
      · refine lQ.ifF rfl (decide_eq_false hc) ?_
        refine lQ.loadI rfl rfl ?_
        refine lQ.loadI rfl rfl ?_
        rcases iteC hy1 with ⟨hc, hy1⟩ | ⟨hc, hy1⟩
        · refine lQ.cmpT rfl (decide_eq_true hc) ?_
          refine lQ.push rfl ?_
          obtain rfl := Option.some.inj hy1
          exact lQ.sub (lSb rfl (lSb rfl (lSb rfl (lSb rfl lSb0)))) hJ1
        · refine lQ.cmpF rfl (decide_eq_false hc) ?_
          refine lQ.push rfl ?_
          refine lQ.goto rfl ?_
          obtain rfl := Option.some.inj hy1
          exact lQ.sub (lSb rfl (lSb rfl (lSb rfl (lSb rfl lSb0)))) hJ1
theorem ts_846 {R : lAR} (hR : lRok R) {E : lE} {ad : List Nat} (hn : tOk ad) {s : TS} {A0 : lMem} {x : Int32} (h : t_846 s = some x) {Z : lZ} (hz : Z (.inl (some (.int x))) (tp ad s A0)) : lSQ R E 1 846 [.ref (adr ad 6)] (tp ad s A0) Z := by
  refine lQ.sq pg_846 (Nat.le_of_ble_eq_true rfl) rfl ?_
  unfold t_846 at h
  refine lQ.push rfl ?_
  refine lQ.stI rfl (lN2s rfl rfl) ?_
  refine lQ.push rfl ?_
  refine lQ.stI rfl (lN2s rfl rfl) ?_
  obtain ⟨v21, hy1, h1⟩ := bindC h
  have hJ1 : lQ R E 0 cd_846 21 [(1, .int v21)] [] (tp ad s A0) Z := by
    refine lQ.loadI rfl rfl ?_
    obtain rfl := Option.some.inj h1
    exact lQ.retI rfl rfl hz
  refine lQ.sub (lSb rfl (lSb rfl (lSb rfl lSb0))) (wh_run (P := fun p4 => lQ R E 0 cd_846 4 [(0, .ref (adr ad 6)), (1, .int p4.1), (2, .int p4.2)] [] (tp ad s A0) Z) hy1 ?_)
  intro p4 r2 hb2 hI2 hX2
  refine lQ.loadI rfl rfl ?_
  refine lQ.loadN rfl rfl ?_
  refine lQ.get hR rfl (tf_6_6 hn) ?_
  rcases iteC hb2 with ⟨hc, hb2⟩ | ⟨hc, hb2⟩
  · refine lQ.cmpF rfl (decide_eq_false (Int32.not_le.mpr hc)) ?_
    refine lQ.loadI rfl rfl ?_
    refine lQ.loadN rfl rfl ?_
    refine lQ.get hR rfl (tf_6_10 hn) ?_
    refine lQ.loadI rfl rfl ?_
    obtain ⟨x1, hx, hb2⟩ := bindC hb2
    refine lQ.ald hR rfl (ta_166 hn hx) ?_
    obtain ⟨v17, hy3, h3⟩ := bindC hb2
    have hJ3 : lQ R E 0 cd_846 17 [(0, .ref (adr ad 6)), (2, .int p4.2)] [.int v17, .int p4.1] (tp ad s A0) Z := by
      refine lQ.binI rfl ?_
      refine lQ.stI rfl (lN2s rfl rfl) ?_
      refine lQ.inc rfl rfl (lN2s rfl rfl) ?_
      refine lQ.goto rfl ?_
      obtain rfl := Option.some.inj h3
      exact lQ.sub (lSb rfl (lSb rfl (lSb rfl lSb0))) (hI2 _ rfl)
    rcases iteC hy3 with ⟨hc, hy3⟩ | ⟨hc, hy3⟩
    · refine lQ.ifT rfl (decide_eq_true hc) ?_
      refine lQ.push rfl ?_
      obtain rfl := Option.some.inj hy3
      exact lQ.sub (lSb rfl (lSb rfl lSb0)) hJ3
    · refine lQ.ifF rfl (decide_eq_false hc) ?_
      refine lQ.push rfl ?_
      refine lQ.goto rfl ?_
      obtain rfl := Option.some.inj hy3
      exact lQ.sub (lSb rfl (lSb rfl lSb0)) hJ3
  · refine lQ.cmpT rfl (decide_eq_true (Int32.not_lt.mp hc)) ?_
    obtain rfl := Option.some.inj hb2
    obtain rfl := hX2 _ rfl
    exact lQ.sub (lSb rfl lSb0) hJ1
theorem ts_847 {R : lAR} (hR : lRok R) {E : lE} {ad : List Nat} (hn : tOk ad) {v1 : Int32} {v2 : Int32} {s : TS} {A0 : lMem} {x : Int32 × TS} (h : t_847 v1 v2 s = some x) {Z : lZ} (hz : Z (.inl (some (.int x.1))) (tp ad x.2 A0)) : lSQ R E 1 847 [.ref (adr ad 6), .int v1, .int v2] (tp ad s A0) Z := by
  refine lQ.sq pg_847 (Nat.le_of_ble_eq_true rfl) rfl ?_
  unfold t_847 at h
  refine lQ.loadN rfl rfl ?_
  refine lQ.get hR rfl (tf_6_7 hn) ?_
  refine lQ.loadN rfl rfl ?_
  refine lQ.get hR rfl (tf_6_6 hn) ?_
  refine lQ.loadI rfl rfl ?_
  obtain ⟨s1, hx, h⟩ := bindC h
  refine lQ.ast hR rfl (tw_163 hn hx) ?_
  rintro _ rfl
  refine lQ.loadN rfl rfl ?_
  refine lQ.get hR rfl (tf_6_8 hn) ?_
  refine lQ.loadN rfl rfl ?_
  refine lQ.get hR rfl (tf_6_6 hn) ?_
  refine lQ.loadI rfl rfl ?_
  obtain ⟨s2, hx, h⟩ := bindC h
  refine lQ.ast hR rfl (tw_164 hn hx) ?_
  rintro _ rfl
  refine lQ.loadN rfl rfl ?_
  refine lQ.get hR rfl (tf_6_9 hn) ?_
  refine lQ.loadN rfl rfl ?_
  refine lQ.get hR rfl (tf_6_6 hn) ?_
  refine lQ.loadN rfl rfl ?_
  refine lQ.get hR rfl (tf_6_12 hn) ?_
  obtain ⟨s3, hx, h⟩ := bindC h
  refine lQ.ast hR rfl (tw_165 hn hx) ?_
  rintro _ rfl
  refine lQ.loadN rfl rfl ?_
  refine lQ.get hR rfl (tf_6_10 hn) ?_
  refine lQ.loadN rfl rfl ?_
  refine lQ.get hR rfl (tf_6_6 hn) ?_
  refine lQ.push rfl ?_
  obtain ⟨s4, hx, h⟩ := bindC h
  refine lQ.bst hR rfl (tw_166 hn hx) ?_
  rintro _ rfl
  refine lQ.loadN rfl rfl ?_
  refine lQ.get hR rfl (tf_6_11 hn) ?_
  refine lQ.loadN rfl rfl ?_
  refine lQ.get hR rfl (tf_6_6 hn) ?_
  refine lQ.push rfl ?_
  obtain ⟨s5, hx, h⟩ := bindC h
  refine lQ.ast hR rfl (tw_167 hn hx) ?_
  rintro _ rfl
  refine lQ.loadN rfl rfl ?_
  refine lQ.dupN rfl ?_
  refine lQ.get hR rfl (tf_6_6 hn) ?_
  refine lQ.push rfl ?_
  refine lQ.binI rfl ?_
  obtain ⟨s6, hx, h⟩ := bindC h
  refine lQ.put hR rfl rfl (tq_6_6 hn hx) ?_
  rintro _ rfl
  refine lQ.loadN rfl rfl ?_
  refine lQ.get hR rfl (tf_6_6 hn) ?_
  refine lQ.push rfl ?_
  refine lQ.binI rfl ?_
  obtain rfl := Option.some.inj h
  exact lQ.retI rfl rfl hz
theorem ts_655 {R : lAR} (hR : lRok R) {E : lE} {ad : List Nat} (hn : tOk ad) {v1 : Int32} {v2 : Int32} {s : TS} {A0 : lMem} {x : Int32 × TS} (h : t_655 v1 v2 s = some x) {Z : lZ} (hz : Z (.inl (some (.int x.1))) (tp ad x.2 A0)) : lSQ R E 2 655 [.ref (adr ad 0), .int v1, .int v2] (tp ad s A0) Z := by
  refine lQ.sq pg_655 (Nat.le_of_ble_eq_true rfl) rfl ?_
  unfold t_655 at h
  refine lQ.loadN rfl rfl ?_
  refine lQ.loadI rfl rfl ?_
  obtain ⟨x1, hx, h⟩ := bindC h
  refine lQ.callI (F := (fun y A => x1 = y ∧ A = tp ad s A0)) (G := fun _ _ => False) (args := [.int v1]) (r := [.ref (adr ad 0)]) hR rfl rfl rfl (Nat.le_of_ble_eq_true rfl) (Nat.le_of_ble_eq_true rfl) (ts_844 hR hn hx (cI_mk ⟨rfl, rfl⟩)) ?_ (fun _ _ _ z => z.elim)
  rintro _ _ ⟨rfl, rfl⟩
  obtain ⟨v13, hy1, h1⟩ := bindC h
  have hJ1 : lQ R E 1 cd_655 13 [(0, .ref (adr ad 0)), (1, .int v1), (2, .int v2)] [.int v13, .ref (adr ad 0)] (tp ad s A0) Z := by
    refine lQ.loadN rfl rfl ?_
    refine lQ.get hR rfl (tf_0_1 hn) ?_
    obtain ⟨v29, hy2, h2⟩ := bindC h1
    have hJ2 : lQ R E 1 cd_655 29 [(0, .ref (adr ad 0)), (1, .int v1), (2, .int v2)] [.int v29, .int v13, .ref (adr ad 0)] (tp ad s A0) Z := by
      obtain ⟨x4, hx, h2⟩ := bindC h2
      refine lQ.callVI (F := (fun y A => x4.1 = y ∧ A = tp ad x4.2 A0)) (G := fun _ _ => False) (args := [.ref (adr ad 0), .int v13, .int v29]) (r := []) hR rfl rfl rfl (Nat.le_of_ble_eq_true rfl) (Nat.le_of_ble_eq_true rfl) rfl (tk_0 hn rfl) (ts_558 hR hn hx (cI_mk ⟨rfl, rfl⟩)) ?_ (fun _ _ _ z => z.elim)
      rintro _ _ ⟨rfl, rfl⟩
      rcases iteC h2 with ⟨hc, h2⟩ | ⟨hc, h2⟩
      · refine lQ.ifT rfl (decide_eq_true hc) ?_
        refine lQ.push rfl ?_
        obtain rfl := Option.some.inj h2
        exact lQ.retI rfl rfl hz
      · refine lQ.ifF rfl (decide_eq_false hc) ?_
        refine lQ.loadN rfl rfl ?_
        refine lQ.get hR rfl (tf_0_8 hn) ?_
        refine lQ.loadI rfl rfl ?_
        refine lQ.loadI rfl rfl ?_
        obtain ⟨x5, hx, h2⟩ := bindC h2
        refine lQ.callVI (F := (fun y A => x5.1 = y ∧ A = tp ad x5.2 A0)) (G := fun _ _ => False) (args := [.ref (adr ad 6), .int v1, .int v2]) (r := []) hR rfl rfl rfl (Nat.le_of_ble_eq_true rfl) (Nat.le_of_ble_eq_true rfl) rfl (tk_6 hn rfl) (ts_847 hR hn hx (cI_mk ⟨rfl, rfl⟩)) ?_ (fun _ _ _ z => z.elim)
        rintro _ _ ⟨rfl, rfl⟩
        refine lQ.goto rfl ?_
        obtain rfl := Option.some.inj h2
        exact lQ.retI rfl rfl hz
    rcases iteC hy2 with ⟨hc, hy2⟩ | ⟨hc, hy2⟩
    · refine lQ.ifT rfl (decide_eq_true hc) ?_
      refine lQ.push rfl ?_
      obtain rfl := Option.some.inj hy2
      exact lQ.sub (lSb rfl (lSb rfl (lSb rfl lSb0))) hJ2
    · refine lQ.ifF rfl (decide_eq_false hc) ?_
      refine lQ.loadN rfl rfl ?_
      refine lQ.get hR rfl (tf_0_8 hn) ?_
      obtain ⟨x3, hx, hy2⟩ := bindC hy2
      refine lQ.callVI (F := (fun y A => x3 = y ∧ A = tp ad s A0)) (G := fun _ _ => False) (args := [.ref (adr ad 6)]) (r := [.int v13, .ref (adr ad 0)]) hR rfl rfl rfl (Nat.le_of_ble_eq_true rfl) (Nat.le_of_ble_eq_true rfl) rfl (tk_6 hn rfl) (ts_846 hR hn hx (cI_mk ⟨rfl, rfl⟩)) ?_ (fun _ _ _ z => z.elim)
      rintro _ _ ⟨rfl, rfl⟩
      refine lQ.push rfl ?_
      rcases iteC hy2 with ⟨hc, hy2⟩ | ⟨hc, hy2⟩
      · refine lQ.cmpF rfl (decide_eq_false (Int32.not_le.mpr hc)) ?_
        refine lQ.loadN rfl rfl ?_
        refine lQ.get hR rfl (tf_0_8 hn) ?_
        refine lQ.get hR rfl (tf_6_6 hn) ?_
        refine lQ.push rfl ?_
        rcases iteC hy2 with ⟨hc, hy2⟩ | ⟨hc, hy2⟩
        · refine lQ.cmpF rfl (decide_eq_false (Int32.not_le.mpr hc)) ?_
          refine lQ.push rfl ?_
          refine lQ.goto rfl ?_
          obtain rfl := Option.some.inj hy2
          exact lQ.sub (lSb rfl (lSb rfl (lSb rfl lSb0))) hJ2
        · refine lQ.cmpT rfl (decide_eq_true (Int32.not_lt.mp hc)) ?_
          refine lQ.push rfl ?_
          obtain rfl := Option.some.inj hy2
          exact lQ.sub (lSb rfl (lSb rfl (lSb rfl lSb0))) hJ2
      · refine lQ.cmpT rfl (decide_eq_true (Int32.not_lt.mp hc)) ?_
        refine lQ.push rfl ?_
        obtain rfl := Option.some.inj hy2
        exact lQ.sub (lSb rfl (lSb rfl (lSb rfl lSb0))) hJ2
  rcases iteC hy1 with ⟨hc, hy1⟩ | ⟨hc, hy1⟩
  · refine lQ.ifT rfl (decide_eq_true hc) ?_
    refine lQ.push rfl ?_
    obtain rfl := Option.some.inj hy1
    exact lQ.sub (lSb rfl (lSb rfl (lSb rfl lSb0))) hJ1
  · refine lQ.ifF rfl (decide_eq_false hc) ?_
    refine lQ.loadI rfl rfl ?_
    obtain ⟨x2, hx, hy1⟩ := bindC hy1
    refine lQ.callI (F := (fun y A => x2 = y ∧ A = tp ad s A0)) (G := fun _ _ => False) (args := [.int v2]) (r := [.ref (adr ad 0)]) hR rfl rfl rfl (Nat.le_of_ble_eq_true rfl) (Nat.le_of_ble_eq_true rfl) (ts_844 hR hn hx (cI_mk ⟨rfl, rfl⟩)) ?_ (fun _ _ _ z => z.elim)
    rintro _ _ ⟨rfl, rfl⟩
    rcases iteC hy1 with ⟨hc, hy1⟩ | ⟨hc, hy1⟩
    · refine lQ.ifT rfl (decide_eq_true hc) ?_
      refine lQ.push rfl ?_
      obtain rfl := Option.some.inj hy1
      exact lQ.sub (lSb rfl (lSb rfl (lSb rfl lSb0))) hJ1
    · refine lQ.ifF rfl (decide_eq_false hc) ?_
      refine lQ.loadI rfl rfl ?_
      refine lQ.loadI rfl rfl ?_
      rcases iteC hy1 with ⟨hc, hy1⟩ | ⟨hc, hy1⟩
      · refine lQ.cmpT rfl (decide_eq_true hc) ?_
        refine lQ.push rfl ?_
        obtain rfl := Option.some.inj hy1
        exact lQ.sub (lSb rfl (lSb rfl (lSb rfl lSb0))) hJ1
      · refine lQ.cmpF rfl (decide_eq_false hc) ?_
        refine lQ.push rfl ?_
        refine lQ.goto rfl ?_
        obtain rfl := Option.some.inj hy1
        exact lQ.sub (lSb rfl (lSb rfl (lSb rfl lSb0))) hJ1
theorem ts_848 {R : lAR} (hR : lRok R) {E : lE} {ad : List Nat} (hn : tOk ad) {v1 : Int32} {s : TS} {A0 : lMem} {x : Int32} (h : t_848 v1 s = some x) {Z : lZ} (hz : Z (.inl (some (.int x))) (tp ad s A0)) : lSQ R E 1 848 [.ref (adr ad 6), .int v1] (tp ad s A0) Z := by
  refine lQ.sq pg_848 (Nat.le_of_ble_eq_true rfl) rfl ?_
  unfold t_848 at h
  refine lQ.loadI rfl rfl ?_
  rcases iteC h with ⟨hc, h⟩ | ⟨hc, h⟩
  · refine lQ.ifT rfl (decide_eq_true hc) ?_
    refine lQ.push rfl ?_
    obtain rfl := Option.some.inj h
    exact lQ.retI rfl rfl hz
  · refine lQ.ifF rfl (decide_eq_false hc) ?_
    refine lQ.loadI rfl rfl ?_
    refine lQ.loadN rfl rfl ?_
    refine lQ.get hR rfl (tf_6_6 hn) ?_
    rcases iteC h with ⟨hc, h⟩ | ⟨hc, h⟩
    · refine lQ.cmpF rfl (decide_eq_false (Int32.not_le.mpr hc)) ?_
      refine lQ.loadN rfl rfl ?_
      refine lQ.get hR rfl (tf_6_10 hn) ?_
      refine lQ.loadI rfl rfl ?_
      obtain ⟨x1, hx, h⟩ := bindC h
      refine lQ.ald hR rfl (ta_166 hn hx) ?_
      rcases iteC h with ⟨hc, h⟩ | ⟨hc, h⟩
      · refine lQ.ifT rfl (decide_eq_true hc) ?_
        refine lQ.push rfl ?_
        obtain rfl := Option.some.inj h
        exact lQ.retI rfl rfl hz
      · refine lQ.ifF rfl (decide_eq_false hc) ?_
        refine lQ.push rfl ?_
        refine lQ.goto rfl ?_
        obtain rfl := Option.some.inj h
        exact lQ.retI rfl rfl hz
    · refine lQ.cmpT rfl (decide_eq_true (Int32.not_lt.mp hc)) ?_
      refine lQ.push rfl ?_
      obtain rfl := Option.some.inj h
      exact lQ.retI rfl rfl hz
theorem ts_850 {R : lAR} (hR : lRok R) {E : lE} {ad : List Nat} (hn : tOk ad) {v1 : Int32} {v2 : Int32} {s : TS} {A0 : lMem} {x : Int32} (h : t_850 v1 v2 s = some x) {Z : lZ} (hz : Z (.inl (some (.int x))) (tp ad s A0)) : lSQ R E 1 850 [.ref (adr ad 6), .int v1, .int v2] (tp ad s A0) Z := by
  refine lQ.sq pg_850 (Nat.le_of_ble_eq_true rfl) rfl ?_
  unfold t_850 at h
  refine lQ.loadN rfl rfl ?_
  refine lQ.get hR rfl (tf_6_7 hn) ?_
  refine lQ.loadI rfl rfl ?_
  obtain ⟨x1, hx, h⟩ := bindC h
  refine lQ.ald hR rfl (ta_163 hn hx) ?_
  refine lQ.loadN rfl rfl ?_
  refine lQ.get hR rfl (tf_6_4 hn) ?_
  refine lQ.loadI rfl rfl ?_
  obtain ⟨x2, hx, h⟩ := bindC h
  refine lQ.ald hR rfl (ta_161 hn hx) ?_
  rcases iteC h with ⟨hc, h⟩ | ⟨hc, h⟩
  · refine lQ.cmpT rfl (decide_eq_true hc) ?_
    refine lQ.push rfl ?_
    obtain rfl := Option.some.inj h
    exact lQ.retI rfl rfl hz
  · refine lQ.cmpF rfl (decide_eq_false hc) ?_
    refine lQ.loadN rfl rfl ?_
    refine lQ.get hR rfl (tf_6_7 hn) ?_
    refine lQ.loadI rfl rfl ?_
    obtain ⟨x3, hx, h⟩ := bindC h
    refine lQ.ald hR rfl (ta_163 hn hx) ?_
    refine lQ.loadN rfl rfl ?_
    refine lQ.get hR rfl (tf_6_5 hn) ?_
    refine lQ.loadI rfl rfl ?_
    obtain ⟨x4, hx, h⟩ := bindC h
    refine lQ.ald hR rfl (ta_162 hn hx) ?_
    rcases iteC h with ⟨hc, h⟩ | ⟨hc, h⟩
    · refine lQ.cmpT rfl (decide_eq_true hc) ?_
      refine lQ.push rfl ?_
      obtain rfl := Option.some.inj h
      exact lQ.retI rfl rfl hz
    · refine lQ.cmpF rfl (decide_eq_false hc) ?_
      refine lQ.loadN rfl rfl ?_
      refine lQ.get hR rfl (tf_6_8 hn) ?_
      refine lQ.loadI rfl rfl ?_
      obtain ⟨x5, hx, h⟩ := bindC h
      refine lQ.ald hR rfl (ta_164 hn hx) ?_
      refine lQ.loadN rfl rfl ?_
      refine lQ.get hR rfl (tf_6_4 hn) ?_
      refine lQ.loadI rfl rfl ?_
      obtain ⟨x6, hx, h⟩ := bindC h
      refine lQ.ald hR rfl (ta_161 hn hx) ?_
      rcases iteC h with ⟨hc, h⟩ | ⟨hc, h⟩
      · refine lQ.cmpT rfl (decide_eq_true hc) ?_
        refine lQ.push rfl ?_
        obtain rfl := Option.some.inj h
        exact lQ.retI rfl rfl hz
      · refine lQ.cmpF rfl (decide_eq_false hc) ?_
        refine lQ.loadN rfl rfl ?_
        refine lQ.get hR rfl (tf_6_8 hn) ?_
        refine lQ.loadI rfl rfl ?_
        obtain ⟨x7, hx, h⟩ := bindC h
        refine lQ.ald hR rfl (ta_164 hn hx) ?_
        refine lQ.loadN rfl rfl ?_
        refine lQ.get hR rfl (tf_6_5 hn) ?_
        refine lQ.loadI rfl rfl ?_
        obtain ⟨x8, hx, h⟩ := bindC h
        refine lQ.ald hR rfl (ta_162 hn hx) ?_
        rcases iteC h with ⟨hc, h⟩ | ⟨hc, h⟩
        · refine lQ.cmpT rfl (decide_eq_true hc) ?_
          refine lQ.push rfl ?_
          obtain rfl := Option.some.inj h
          exact lQ.retI rfl rfl hz
        · refine lQ.cmpF rfl (decide_eq_false hc) ?_
          refine lQ.push rfl ?_
          refine lQ.goto rfl ?_
          obtain rfl := Option.some.inj h
          exact lQ.retI rfl rfl hz
theorem ts_849 {R : lAR} (hR : lRok R) {E : lE} {ad : List Nat} (hn : tOk ad) {v1 : Int32} {v2 : Int32} {s : TS} {A0 : lMem} {x : Int32 × TS} (h : t_849 v1 v2 s = some x) {Z : lZ} (hz : Z (.inl (some (.int x.1))) (tp ad x.2 A0)) : lSQ R E 2 849 [.ref (adr ad 6), .int v1, .int v2] (tp ad s A0) Z := by
  refine lQ.sq pg_849 (Nat.le_of_ble_eq_true rfl) rfl ?_
  unfold t_849 at h
  refine lQ.loadI rfl rfl ?_
  obtain ⟨v10, hy1, h1⟩ := bindC h
  have hJ1 : lQ R E 1 cd_849 10 [(0, .ref (adr ad 6)), (1, .int v1), (2, .int v2)] [.int v10] (tp ad s A0) Z := by
    refine lQ.stI rfl (lN2s rfl rfl) ?_
    refine lQ.push rfl ?_
    refine lQ.stI rfl (lN2s rfl rfl) ?_
    obtain ⟨v41, hy2, h2⟩ := bindC h1
    have hJ2 : lQ R E 1 cd_849 41 [(0, .ref (adr ad 6)), (1, .int v1), (2, .int v2), (3, .int v41)] [] (tp ad s A0) Z := by
      refine lQ.loadN rfl rfl ?_
      refine lQ.get hR rfl (tf_6_11 hn) ?_
      refine lQ.loadI rfl rfl ?_
      refine lQ.loadI rfl rfl ?_
      obtain ⟨v52, hy3, h3⟩ := bindC h2
      have hJ3 : lQ R E 1 cd_849 52 [(3, .int v41)] [.int v52, .int v1, .ref (adr ad 167)] (tp ad s A0) Z := by
        obtain ⟨s5, hx, h3⟩ := bindC h3
        refine lQ.ast hR rfl (tw_167 hn hx) ?_
        rintro _ rfl
        refine lQ.loadI rfl rfl ?_
        rcases iteC h3 with ⟨hg, h3⟩ | ⟨_, h3⟩
        case inr => cases h3
        have hb := hg
        obtain rfl := Option.some.inj h3
        exact lQ.retI rfl (fitB hb) hz
      rcases iteC hy3 with ⟨hc, hy3⟩ | ⟨hc, hy3⟩
      · refine lQ.ifT rfl (decide_eq_true hc) ?_
        refine lQ.loadN rfl rfl ?_
        refine lQ.get hR rfl (tf_6_11 hn) ?_
        refine lQ.loadI rfl rfl ?_
        obtain ⟨x4, hx, hy3⟩ := bindC hy3
        refine lQ.ald hR rfl (ta_167 hn hx) ?_
        obtain rfl := Option.some.inj hy3
        exact lQ.sub (lSb rfl lSb0) hJ3
      · refine lQ.ifF rfl (decide_eq_false hc) ?_
        refine lQ.loadI rfl rfl ?_
        refine lQ.goto rfl ?_
        obtain rfl := Option.some.inj hy3
        exact lQ.sub (lSb rfl lSb0) hJ3
    refine lQ.sub (lSb rfl (lSb rfl (lSb rfl (lSb rfl (lSb rfl lSb0))))) (wh_run (P := fun p13 => lQ R E 1 cd_849 13 [(0, .ref (adr ad 6)), (1, .int v1), (2, .int v2), (3, .int p13.1), (4, .int p13.2)] [] (tp ad s A0) Z) hy2 ?_)
    intro p13 r4 hb4 hI4 hX4
    refine lQ.loadI rfl rfl ?_
    refine lQ.loadN rfl rfl ?_
    refine lQ.get hR rfl (tf_6_6 hn) ?_
    rcases iteC hb4 with ⟨hc, hb4⟩ | ⟨hc, hb4⟩
    · refine lQ.cmpF rfl (decide_eq_false (Int32.not_le.mpr hc)) ?_
      refine lQ.loadI rfl rfl ?_
      obtain ⟨v38, hy5, h5⟩ := bindC hb4
      have hJ5 : lQ R E 1 cd_849 38 [(0, .ref (adr ad 6)), (1, .int v1), (2, .int v2), (4, .int p13.2)] [.int v38] (tp ad s A0) Z := by
        refine lQ.stI rfl (lN2s rfl rfl) ?_
        refine lQ.inc rfl rfl (lN2s rfl rfl) ?_
        refine lQ.goto rfl ?_
        obtain rfl := Option.some.inj h5
        exact lQ.sub (lSb rfl (lSb rfl (lSb rfl (lSb rfl (lSb rfl lSb0))))) (hI4 _ rfl)
      rcases iteC hy5 with ⟨hc, hy5⟩ | ⟨hc, hy5⟩
      · refine lQ.ifT rfl (decide_eq_true hc) ?_
        refine lQ.push rfl ?_
        obtain rfl := Option.some.inj hy5
        exact lQ.sub (lSb rfl (lSb rfl (lSb rfl (lSb rfl lSb0)))) hJ5
      · refine lQ.ifF rfl (decide_eq_false hc) ?_
        refine lQ.loadI rfl rfl ?_
        rcases iteC hy5 with ⟨hc, hy5⟩ | ⟨hc, hy5⟩
        · refine lQ.ifT rfl (decide_eq_true hc) ?_
          refine lQ.push rfl ?_
          refine lQ.goto rfl ?_
          obtain rfl := Option.some.inj hy5
          exact lQ.sub (lSb rfl (lSb rfl (lSb rfl (lSb rfl lSb0)))) hJ5
        · refine lQ.ifF rfl (decide_eq_false hc) ?_
          refine lQ.loadI rfl rfl ?_
          refine lQ.loadI rfl rfl ?_
          rcases iteC hy5 with ⟨hc, hy5⟩ | ⟨hc, hy5⟩
          · refine lQ.cmpT rfl (decide_eq_true hc) ?_
            refine lQ.push rfl ?_
            refine lQ.goto rfl ?_
            obtain rfl := Option.some.inj hy5
            exact lQ.sub (lSb rfl (lSb rfl (lSb rfl (lSb rfl lSb0)))) hJ5
          · refine lQ.cmpF rfl (decide_eq_false hc) ?_
            refine lQ.loadN rfl rfl ?_
            refine lQ.get hR rfl (tf_6_10 hn) ?_
            refine lQ.loadI rfl rfl ?_
            obtain ⟨x2, hx, hy5⟩ := bindC hy5
            refine lQ.ald hR rfl (ta_166 hn hx) ?_
            rcases iteC hy5 with ⟨hc, hy5⟩ | ⟨hc, hy5⟩
            · refine lQ.ifT rfl (decide_eq_true hc) ?_
              refine lQ.push rfl ?_
              refine lQ.goto rfl ?_
              obtain rfl := Option.some.inj hy5
              exact lQ.sub (lSb rfl (lSb rfl (lSb rfl (lSb rfl lSb0)))) hJ5
            · refine lQ.ifF rfl (decide_eq_false hc) ?_
              refine lQ.loadN rfl rfl ?_
              refine lQ.get hR rfl (tf_6_11 hn) ?_
              refine lQ.loadI rfl rfl ?_
              obtain ⟨x3, hx, hy5⟩ := bindC hy5
              refine lQ.ald hR rfl (ta_167 hn hx) ?_
              refine lQ.loadI rfl rfl ?_
              rcases iteC hy5 with ⟨hc, hy5⟩ | ⟨hc, hy5⟩
              · refine lQ.cmpT rfl (decide_eq_true hc) ?_
                refine lQ.push rfl ?_
                obtain rfl := Option.some.inj hy5
                exact lQ.sub (lSb rfl (lSb rfl (lSb rfl (lSb rfl lSb0)))) hJ5
              · refine lQ.cmpF rfl (decide_eq_false hc) ?_
                refine lQ.push rfl ?_
                refine lQ.goto rfl ?_
                obtain rfl := Option.some.inj hy5
                exact lQ.sub (lSb rfl (lSb rfl (lSb rfl (lSb rfl lSb0)))) hJ5
    · refine lQ.cmpT rfl (decide_eq_true (Int32.not_lt.mp hc)) ?_
      obtain rfl := Option.some.inj hb4
      obtain rfl := hX4 _ rfl
      exact lQ.sub (lSb rfl (lSb rfl (lSb rfl (lSb rfl lSb0)))) hJ2
  rcases iteC hy1 with ⟨hc, hy1⟩ | ⟨hc, hy1⟩
  · refine lQ.ifT rfl (decide_eq_true hc) ?_
    refine lQ.push rfl ?_
    refine lQ.goto rfl ?_
    obtain rfl := Option.some.inj hy1
    exact lQ.sub (lSb rfl (lSb rfl (lSb rfl lSb0))) hJ1
  · refine lQ.ifF rfl (decide_eq_false hc) ?_
    refine lQ.loadN rfl rfl ?_
    refine lQ.loadI rfl rfl ?_
    refine lQ.loadI rfl rfl ?_
    obtain ⟨x1, hx, hy1⟩ := bindC hy1
    refine lQ.callVI (F := (fun y A => x1 = y ∧ A = tp ad s A0)) (G := fun _ _ => False) (args := [.ref (adr ad 6), .int v2, .int v1]) (r := []) hR rfl rfl rfl (Nat.le_of_ble_eq_true rfl) (Nat.le_of_ble_eq_true rfl) rfl (tk_6 hn rfl) (ts_850 hR hn hx (cI_mk ⟨rfl, rfl⟩)) ?_ (fun _ _ _ z => z.elim)
    rintro _ _ ⟨rfl, rfl⟩
    rcases iteC hy1 with ⟨hc, hy1⟩ | ⟨hc, hy1⟩
    · refine lQ.ifT rfl (decide_eq_true hc) ?_
      refine lQ.push rfl ?_
      obtain rfl := Option.some.inj hy1
      exact lQ.sub (lSb rfl (lSb rfl (lSb rfl lSb0))) hJ1
    · refine lQ.ifF rfl (decide_eq_false hc) ?_
      refine lQ.push rfl ?_
      refine lQ.goto rfl ?_
      obtain rfl := Option.some.inj hy1
      exact lQ.sub (lSb rfl (lSb rfl (lSb rfl lSb0))) hJ1
theorem ts_656 {R : lAR} (hR : lRok R) {E : lE} {ad : List Nat} (hn : tOk ad) {v1 : Int32} {v2 : Int32} {s : TS} {A0 : lMem} {x : Int32 × TS} (h : t_656 v1 v2 s = some x) {Z : lZ} (hz : Z (.inl (some (.int x.1))) (tp ad x.2 A0)) : lSQ R E 3 656 [.ref (adr ad 0), .int v1, .int v2] (tp ad s A0) Z := by
  refine lQ.sq pg_656 (Nat.le_of_ble_eq_true rfl) rfl ?_
  unfold t_656 at h
  refine lQ.loadN rfl rfl ?_
  refine lQ.loadN rfl rfl ?_
  refine lQ.get hR rfl (tf_0_8 hn) ?_
  refine lQ.loadI rfl rfl ?_
  obtain ⟨x1, hx, h⟩ := bindC h
  refine lQ.callVI (F := (fun y A => x1 = y ∧ A = tp ad s A0)) (G := fun _ _ => False) (args := [.ref (adr ad 6), .int v1]) (r := [.ref (adr ad 0)]) hR rfl rfl rfl (Nat.le_of_ble_eq_true rfl) (Nat.le_of_ble_eq_true rfl) rfl (tk_6 hn rfl) (ts_848 hR hn hx (cI_mk ⟨rfl, rfl⟩)) ?_ (fun _ _ _ z => z.elim)
  rintro _ _ ⟨rfl, rfl⟩
  obtain ⟨v18, hy1, h1⟩ := bindC h
  have hJ1 : lQ R E 2 cd_656 18 [(0, .ref (adr ad 0)), (1, .int v1), (2, .int v2)] [.int v18, .ref (adr ad 0)] (tp ad s A0) Z := by
    refine lQ.loadN rfl rfl ?_
    refine lQ.get hR rfl (tf_0_1 hn) ?_
    obtain ⟨x3, hx, h1⟩ := bindC h1
    refine lQ.callVI (F := (fun y A => x3.1 = y ∧ A = tp ad x3.2 A0)) (G := fun _ _ => False) (args := [.ref (adr ad 0), .int v18, .int (s.1 1)]) (r := []) hR rfl rfl rfl (Nat.le_of_ble_eq_true rfl) (Nat.le_of_ble_eq_true rfl) rfl (tk_0 hn rfl) (ts_558 hR hn hx (cI_mk ⟨rfl, rfl⟩)) ?_ (fun _ _ _ z => z.elim)
    rintro _ _ ⟨rfl, rfl⟩
    rcases iteC h1 with ⟨hc, h1⟩ | ⟨hc, h1⟩
    · refine lQ.ifT rfl (decide_eq_true hc) ?_
      refine lQ.push rfl ?_
      obtain rfl := Option.some.inj h1
      exact lQ.retI rfl rfl hz
    · refine lQ.ifF rfl (decide_eq_false hc) ?_
      refine lQ.loadN rfl rfl ?_
      refine lQ.get hR rfl (tf_0_8 hn) ?_
      refine lQ.loadI rfl rfl ?_
      refine lQ.loadI rfl rfl ?_
      obtain ⟨x4, hx, h1⟩ := bindC h1
      refine lQ.callVI (F := (fun y A => x4.1 = y ∧ A = tp ad x4.2 A0)) (G := fun _ _ => False) (args := [.ref (adr ad 6), .int v1, .int v2]) (r := []) hR rfl rfl rfl (Nat.le_of_ble_eq_true rfl) (Nat.le_of_ble_eq_true rfl) rfl (tk_6 hn rfl) (ts_849 hR hn hx (cI_mk ⟨rfl, rfl⟩)) ?_ (fun _ _ _ z => z.elim)
      rintro _ _ ⟨rfl, rfl⟩
      rcases iteC h1 with ⟨hc, h1⟩ | ⟨hc, h1⟩
      · refine lQ.ifT rfl (decide_eq_true hc) ?_
        refine lQ.push rfl ?_
        obtain rfl := Option.some.inj h1
        exact lQ.retI rfl rfl hz
      · refine lQ.ifF rfl (decide_eq_false hc) ?_
        refine lQ.push rfl ?_
        refine lQ.goto rfl ?_
        obtain rfl := Option.some.inj h1
        exact lQ.retI rfl rfl hz
  rcases iteC hy1 with ⟨hc, hy1⟩ | ⟨hc, hy1⟩
  · refine lQ.ifT rfl (decide_eq_true hc) ?_
    refine lQ.push rfl ?_
    obtain rfl := Option.some.inj hy1
    exact lQ.sub (lSb rfl (lSb rfl (lSb rfl lSb0))) hJ1
  · refine lQ.ifF rfl (decide_eq_false hc) ?_
    refine lQ.loadI rfl rfl ?_
    refine lQ.push rfl ?_
    rcases iteC hy1 with ⟨hc, hy1⟩ | ⟨hc, hy1⟩
    · refine lQ.cmpT rfl (decide_eq_true hc) ?_
      refine lQ.push rfl ?_
      refine lQ.goto rfl ?_
      obtain rfl := Option.some.inj hy1
      exact lQ.sub (lSb rfl (lSb rfl (lSb rfl lSb0))) hJ1
    · refine lQ.cmpF rfl (decide_eq_false hc) ?_
      refine lQ.loadI rfl rfl ?_
      refine lQ.loadN rfl rfl ?_
      refine lQ.get hR rfl (tf_0_8 hn) ?_
      refine lQ.get hR rfl (tf_6_0 hn) ?_
      obtain ⟨x2, hx, hy1⟩ := bindC hy1
      refine lQ.callI (F := (fun y A => x2 = y ∧ A = tp ad s A0)) (G := fun _ _ => False) (args := [.int v2, .int (s.1 600)]) (r := [.ref (adr ad 0)]) hR rfl rfl rfl (Nat.le_of_ble_eq_true rfl) (Nat.le_of_ble_eq_true rfl) (ts_560 hR hn hx (cI_mk ⟨rfl, rfl⟩)) ?_ (fun _ _ _ z => z.elim)
      rintro _ _ ⟨rfl, rfl⟩
      rcases iteC hy1 with ⟨hc, hy1⟩ | ⟨hc, hy1⟩
      · refine lQ.ifT rfl (decide_eq_true hc) ?_
        refine lQ.push rfl ?_
        obtain rfl := Option.some.inj hy1
        exact lQ.sub (lSb rfl (lSb rfl (lSb rfl lSb0))) hJ1
      · refine lQ.ifF rfl (decide_eq_false hc) ?_
        refine lQ.push rfl ?_
        refine lQ.goto rfl ?_
        obtain rfl := Option.some.inj hy1
        exact lQ.sub (lSb rfl (lSb rfl (lSb rfl lSb0))) hJ1
theorem ts_657 {R : lAR} (hR : lRok R) {E : lE} {ad : List Nat} (hn : tOk ad) {v1 : Int32} {s : TS} {A0 : lMem} {x : TS} (h : t_657 v1 s = some x) {Z : lZ} (hz : Z (.inl none) (tp ad x A0)) : lSQ R E 2 657 [.ref (adr ad 0), .int v1] (tp ad s A0) Z := by
  refine lQ.sq pg_657 (Nat.le_of_ble_eq_true rfl) rfl ?_
  unfold t_657 at h
  refine lQ.loadN rfl rfl ?_
  refine lQ.loadN rfl rfl ?_
  refine lQ.get hR rfl (tf_0_8 hn) ?_
  refine lQ.loadI rfl rfl ?_
  obtain ⟨x1, hx, h⟩ := bindC h
  refine lQ.callVI (F := (fun y A => x1 = y ∧ A = tp ad s A0)) (G := fun _ _ => False) (args := [.ref (adr ad 6), .int v1]) (r := [.ref (adr ad 0)]) hR rfl rfl rfl (Nat.le_of_ble_eq_true rfl) (Nat.le_of_ble_eq_true rfl) rfl (tk_6 hn rfl) (ts_848 hR hn hx (cI_mk ⟨rfl, rfl⟩)) ?_ (fun _ _ _ z => z.elim)
  rintro _ _ ⟨rfl, rfl⟩
  refine lQ.loadN rfl rfl ?_
  refine lQ.get hR rfl (tf_0_1 hn) ?_
  obtain ⟨x2, hx, h⟩ := bindC h
  refine lQ.callVI (F := (fun y A => x2.1 = y ∧ A = tp ad x2.2 A0)) (G := fun _ _ => False) (args := [.ref (adr ad 0), .int x1, .int (s.1 1)]) (r := []) hR rfl rfl rfl (Nat.le_of_ble_eq_true rfl) (Nat.le_of_ble_eq_true rfl) rfl (tk_0 hn rfl) (ts_558 hR hn hx (cI_mk ⟨rfl, rfl⟩)) ?_ (fun _ _ _ z => z.elim)
  rintro _ _ ⟨rfl, rfl⟩
  rcases iteC h with ⟨hc, h⟩ | ⟨hc, h⟩
  · refine lQ.ifT rfl (decide_eq_true hc) ?_
    obtain rfl := Option.some.inj h
    exact lQ.retV rfl hz
  · refine lQ.ifF rfl (decide_eq_false hc) ?_
    refine lQ.loadN rfl rfl ?_
    refine lQ.get hR rfl (tf_0_8 hn) ?_
    refine lQ.get hR rfl (tf_6_10 hn) ?_
    refine lQ.loadI rfl rfl ?_
    refine lQ.push rfl ?_
    obtain ⟨s3, hx, h⟩ := bindC h
    refine lQ.bst hR rfl (tw_166 hn hx) ?_
    rintro _ rfl
    obtain rfl := Option.some.inj h
    exact lQ.retV rfl hz
theorem ts_853 {R : lAR} (hR : lRok R) {E : lE} {ad : List Nat} (hn : tOk ad) {v1 : Int32} {s : TS} {A0 : lMem} {x : Int32} (h : t_853 v1 s = some x) {Z : lZ} (hz : Z (.inl (some (.int x))) (tp ad s A0)) : lSQ R E 2 853 [.ref (adr ad 6), .int v1] (tp ad s A0) Z := by
  refine lQ.sq pg_853 (Nat.le_of_ble_eq_true rfl) rfl ?_
  unfold t_853 at h
  refine lQ.push rfl ?_
  refine lQ.stI rfl (lN2s rfl rfl) ?_
  refine lQ.push rfl ?_
  refine lQ.stI rfl (lN2s rfl rfl) ?_
  obtain ⟨v37, hy1, h1⟩ := bindC h
  have hJ1 : lQ R E 1 cd_853 37 [(2, .int v37)] [] (tp ad s A0) Z := by
    refine lQ.loadI rfl rfl ?_
    obtain rfl := Option.some.inj h1
    exact lQ.retI rfl rfl hz
  refine lQ.sub (lSb rfl (lSb rfl (lSb rfl (lSb rfl lSb0)))) (wh_run (P := fun p4 => lQ R E 1 cd_853 4 [(0, .ref (adr ad 6)), (1, .int v1), (2, .int p4.1), (3, .int p4.2)] [] (tp ad s A0) Z) hy1 ?_)
  intro p4 r2 hb2 hI2 hX2
  refine lQ.loadI rfl rfl ?_
  refine lQ.loadN rfl rfl ?_
  refine lQ.get hR rfl (tf_6_0 hn) ?_
  rcases iteC hb2 with ⟨hc, hb2⟩ | ⟨hc, hb2⟩
  · refine lQ.cmpF rfl (decide_eq_false (Int32.not_le.mpr hc)) ?_
    refine lQ.loadN rfl rfl ?_
    refine lQ.get hR rfl (tf_6_13 hn) ?_
    rcases iteC hb2 with ⟨hc, hb2⟩ | ⟨hc, hb2⟩
    · refine lQ.ifF rfl (decide_eq_false (fun z => z hc)) ?_
      refine lQ.loadI rfl rfl ?_
      refine lQ.loadN rfl rfl ?_
      refine lQ.loadI rfl rfl ?_
      refine lQ.loadI rfl rfl ?_
      obtain ⟨x1, hx, hb2⟩ := bindC hb2
      refine lQ.callVI (F := (fun y A => x1 = y ∧ A = tp ad s A0)) (G := fun _ _ => False) (args := [.ref (adr ad 6), .int p4.2, .int v1]) (r := [.int p4.1]) hR rfl rfl rfl (Nat.le_of_ble_eq_true rfl) (Nat.le_of_ble_eq_true rfl) rfl (tk_6 hn rfl) (ts_850 hR hn hx (cI_mk ⟨rfl, rfl⟩)) ?_ (fun _ _ _ z => z.elim)
      rintro _ _ ⟨rfl, rfl⟩
      obtain ⟨v33, hy3, h3⟩ := bindC hb2
      have hJ3 : lQ R E 1 cd_853 33 [(0, .ref (adr ad 6)), (1, .int v1), (3, .int p4.2)] [.int v33, .int p4.1] (tp ad s A0) Z := by
        refine lQ.binI rfl ?_
        refine lQ.stI rfl (lN2s rfl rfl) ?_
        refine lQ.inc rfl rfl (lN2s rfl rfl) ?_
        refine lQ.goto rfl ?_
        obtain rfl := Option.some.inj h3
        exact lQ.sub (lSb rfl (lSb rfl (lSb rfl (lSb rfl lSb0)))) (hI2 _ rfl)
      rcases iteC hy3 with ⟨hc, hy3⟩ | ⟨hc, hy3⟩
      · refine lQ.ifT rfl (decide_eq_true hc) ?_
        refine lQ.push rfl ?_
        obtain rfl := Option.some.inj hy3
        exact lQ.sub (lSb rfl (lSb rfl (lSb rfl lSb0))) hJ3
      · refine lQ.ifF rfl (decide_eq_false hc) ?_
        refine lQ.loadN rfl rfl ?_
        refine lQ.get hR rfl (tf_6_11 hn) ?_
        refine lQ.loadI rfl rfl ?_
        obtain ⟨x2, hx, hy3⟩ := bindC hy3
        refine lQ.ald hR rfl (ta_167 hn hx) ?_
        obtain ⟨y4, hy4, h4⟩ := bindC hy3
        have hJ4 : ∀ v28, y4 = .inl v28 → lQ R E 1 cd_853 28 [(0, .ref (adr ad 6)), (1, .int v1), (3, .int p4.2)] [.int p4.1] (tp ad s A0) Z := by
          rintro v28 rfl
          have h4 := elimC h4
          refine lQ.push rfl ?_
          refine lQ.loadI rfl rfl ?_
          refine lQ.binI rfl ?_
          refine lQ.goto rfl ?_
          obtain rfl := Option.some.inj h4
          exact lQ.sub (lSb rfl (lSb rfl (lSb rfl lSb0))) hJ3
        rcases iteC hy4 with ⟨hc, hy4⟩ | ⟨hc, hy4⟩
        · refine lQ.ifT rfl (decide_eq_true hc) ?_
          obtain rfl := Option.some.inj hy4
          exact lQ.sub (lSb rfl (lSb rfl (lSb rfl lSb0))) (hJ4 _ rfl)
        · refine lQ.ifF rfl (decide_eq_false hc) ?_
          refine lQ.loadN rfl rfl ?_
          refine lQ.get hR rfl (tf_6_11 hn) ?_
          refine lQ.loadI rfl rfl ?_
          obtain ⟨x3, hx, hy4⟩ := bindC hy4
          refine lQ.ald hR rfl (ta_167 hn hx) ?_
          refine lQ.loadI rfl rfl ?_
          rcases iteC hy4 with ⟨hc, hy4⟩ | ⟨hc, hy4⟩
          · refine lQ.cmpF rfl (decide_eq_false (fun z => z hc)) ?_
            obtain rfl := Option.some.inj hy4
            exact lQ.sub (lSb rfl (lSb rfl (lSb rfl lSb0))) (hJ4 _ rfl)
          · refine lQ.cmpT rfl (decide_eq_true hc) ?_
            refine lQ.push rfl ?_
            obtain rfl := Option.some.inj hy4
            obtain rfl := elimD h4
            exact lQ.sub (lSb rfl (lSb rfl (lSb rfl lSb0))) hJ3
    · refine lQ.ifT rfl (decide_eq_true hc) ?_
      obtain rfl := Option.some.inj hb2
      obtain rfl := hX2 _ rfl
      exact lQ.sub (lSb rfl lSb0) hJ1
  · refine lQ.cmpT rfl (decide_eq_true (Int32.not_lt.mp hc)) ?_
    obtain rfl := Option.some.inj hb2
    obtain rfl := hX2 _ rfl
    exact lQ.sub (lSb rfl lSb0) hJ1
theorem ts_852 {R : lAR} (hR : lRok R) {E : lE} {ad : List Nat} (hn : tOk ad) {s : TS} {A0 : lMem} {x : TS} (h : t_852 s = some x) {Z : lZ} (hz : Z (.inl none) (tp ad x A0)) : lSQ R E 3 852 [.ref (adr ad 6)] (tp ad s A0) Z := by
  refine lQ.sq pg_852 (Nat.le_of_ble_eq_true rfl) rfl ?_
  unfold t_852 at h
  refine lQ.loadN rfl rfl ?_
  refine lQ.push rfl ?_
  obtain ⟨s1, hx, h⟩ := bindC h
  refine lQ.put hR rfl rfl (tq_6_14 hn hx) ?_
  rintro _ rfl
  refine lQ.push rfl ?_
  refine lQ.stI rfl (lN2s rfl rfl) ?_
  obtain ⟨v32, hy1, h1⟩ := bindC h
  have hJ1 : lQ R E 2 cd_852 32 [] [] (tp ad v32 A0) Z := by
    obtain rfl := Option.some.inj h1
    exact lQ.retV rfl hz
  refine lQ.sub (lSb rfl (lSb rfl lSb0)) (wh_run (P := fun p5 => lQ R E 2 cd_852 5 [(0, .ref (adr ad 6)), (1, .int p5.2)] [] (tp ad p5.1 A0) Z) hy1 ?_)
  intro p5 r2 hb2 hI2 hX2
  refine lQ.loadI rfl rfl ?_
  refine lQ.loadN rfl rfl ?_
  refine lQ.get hR rfl (tf_6_6 hn) ?_
  rcases iteC hb2 with ⟨hc, hb2⟩ | ⟨hc, hb2⟩
  · refine lQ.cmpF rfl (decide_eq_false (Int32.not_le.mpr hc)) ?_
    refine lQ.loadN rfl rfl ?_
    refine lQ.get hR rfl (tf_6_10 hn) ?_
    refine lQ.loadI rfl rfl ?_
    obtain ⟨x2, hx, hb2⟩ := bindC hb2
    refine lQ.ald hR rfl (ta_166 hn hx) ?_
    obtain ⟨v30, hy3, h3⟩ := bindC hb2
    have hJ3 : lQ R E 2 cd_852 30 [(0, .ref (adr ad 6)), (1, .int p5.2)] [] (tp ad v30 A0) Z := by
      refine lQ.inc rfl rfl (lN2s rfl rfl) ?_
      refine lQ.goto rfl ?_
      obtain rfl := Option.some.inj h3
      exact lQ.sub (lSb rfl (lSb rfl lSb0)) (hI2 _ rfl)
    rcases iteC hy3 with ⟨hc, hy3⟩ | ⟨hc, hy3⟩
    · refine lQ.ifT rfl (decide_eq_true hc) ?_
      obtain rfl := Option.some.inj hy3
      exact lQ.sub (lSb rfl (lSb rfl lSb0)) hJ3
    · refine lQ.ifF rfl (decide_eq_false hc) ?_
      refine lQ.loadN rfl rfl ?_
      refine lQ.loadI rfl rfl ?_
      obtain ⟨x3, hx, hy3⟩ := bindC hy3
      refine lQ.callVI (F := (fun y A => x3 = y ∧ A = tp ad p5.1 A0)) (G := fun _ _ => False) (args := [.ref (adr ad 6), .int p5.2]) (r := []) hR rfl rfl rfl (Nat.le_of_ble_eq_true rfl) (Nat.le_of_ble_eq_true rfl) rfl (tk_6 hn rfl) (ts_853 hR hn hx (cI_mk ⟨rfl, rfl⟩)) ?_ (fun _ _ _ z => z.elim)
      rintro _ _ ⟨rfl, rfl⟩
      rcases iteC hy3 with ⟨hc, hy3⟩ | ⟨hc, hy3⟩
      · refine lQ.ifF rfl (decide_eq_false (Int32.not_le.mpr hc)) ?_
        refine lQ.loadN rfl rfl ?_
        refine lQ.get hR rfl (tf_6_15 hn) ?_
        refine lQ.loadN rfl rfl ?_
        refine lQ.get hR rfl (tf_6_14 hn) ?_
        refine lQ.loadI rfl rfl ?_
        obtain ⟨s4, hx, hy3⟩ := bindC hy3
        refine lQ.ast hR rfl (tw_168 hn hx) ?_
        rintro _ rfl
        refine lQ.loadN rfl rfl ?_
        refine lQ.dupN rfl ?_
        refine lQ.get hR rfl (tf_6_14 hn) ?_
        refine lQ.push rfl ?_
        refine lQ.binI rfl ?_
        obtain ⟨s5, hx, hy3⟩ := bindC hy3
        refine lQ.put hR rfl rfl (tq_6_14 hn hx) ?_
        rintro _ rfl
        obtain rfl := Option.some.inj hy3
        exact lQ.sub (lSb rfl (lSb rfl lSb0)) hJ3
      · refine lQ.ifT rfl (decide_eq_true (Int32.not_lt.mp hc)) ?_
        obtain rfl := Option.some.inj hy3
        exact lQ.sub (lSb rfl (lSb rfl lSb0)) hJ3
  · refine lQ.cmpT rfl (decide_eq_true (Int32.not_lt.mp hc)) ?_
    obtain rfl := Option.some.inj hb2
    obtain rfl := hX2 _ rfl
    exact lQ.sub lSb0 hJ1
theorem ts_856 {R : lAR} (hR : lRok R) {E : lE} {ad : List Nat} (hn : tOk ad) {v1 : Int32} {s : TS} {A0 : lMem} {x : Int32} (h : t_856 v1 s = some x) {Z : lZ} (hz : Z (.inl (some (.int x))) (tp ad s A0)) : lSQ R E 1 856 [.ref (adr ad 6), .int v1] (tp ad s A0) Z := by
  refine lQ.sq pg_856 (Nat.le_of_ble_eq_true rfl) rfl ?_
  unfold t_856 at h
  refine lQ.loadN rfl rfl ?_
  refine lQ.get hR rfl (tf_6_3 hn) ?_
  refine lQ.loadI rfl rfl ?_
  obtain ⟨x1, hx, h⟩ := bindC h
  refine lQ.ald hR rfl (ta_160 hn hx) ?_
  refine lQ.loadN rfl rfl ?_
  refine lQ.get hR rfl (tf_6_12 hn) ?_
  rcases iteC h with ⟨hc, h⟩ | ⟨hc, h⟩
  · refine lQ.cmpF rfl (decide_eq_false (Int32.not_le.mpr hc)) ?_
    refine lQ.loadN rfl rfl ?_
    refine lQ.get hR rfl (tf_6_3 hn) ?_
    refine lQ.loadI rfl rfl ?_
    obtain ⟨x2, hx, h⟩ := bindC h
    refine lQ.ald hR rfl (ta_160 hn hx) ?_
    refine lQ.loadN rfl rfl ?_
    refine lQ.get hR rfl (tf_6_12 hn) ?_
    refine lQ.binI rfl ?_
    refine lQ.goto rfl ?_
    obtain rfl := Option.some.inj h
    exact lQ.retI rfl rfl hz
  · refine lQ.cmpT rfl (decide_eq_true (Int32.not_lt.mp hc)) ?_
    refine lQ.push rfl ?_
    obtain rfl := Option.some.inj h
    exact lQ.retI rfl rfl hz
theorem ts_857 {R : lAR} (hR : lRok R) {E : lE} {ad : List Nat} (hn : tOk ad) {v1 : Int32} {v2 : Int32} {v3 : Int32} {s : TS} {A0 : lMem} {x : Int32} (h : t_857 v1 v2 v3 s = some x) {Z : lZ} (hz : Z (.inl (some (.int x))) (tp ad s A0)) : lSQ R E 1 857 [.ref (adr ad 6), .int v1, .int v2, .int v3] (tp ad s A0) Z := by
  refine lQ.sq pg_857 (Nat.le_of_ble_eq_true rfl) rfl ?_
  unfold t_857 at h
  refine lQ.loadN rfl rfl ?_
  refine lQ.get hR rfl (tf_6_1 hn) ?_
  refine lQ.loadI rfl rfl ?_
  obtain ⟨x1, hx, h⟩ := bindC h
  refine lQ.ald hR rfl (ta_158 hn hx) ?_
  refine lQ.loadI rfl rfl ?_
  refine lQ.loadI rfl rfl ?_
  rcases iteC h with ⟨hc, h⟩ | ⟨hc, h⟩
  · refine lQ.cmpF rfl (decide_eq_false (Int32.not_le.mpr hc)) ?_
    refine lQ.loadI rfl rfl ?_
    refine lQ.loadI rfl rfl ?_
    refine lQ.binI rfl ?_
    refine lQ.goto rfl ?_
    refine lQ.binI rfl ?_
    obtain rfl := Option.some.inj h
    exact lQ.retI rfl rfl hz
  · refine lQ.cmpT rfl (decide_eq_true (Int32.not_lt.mp hc)) ?_
    refine lQ.loadI rfl rfl ?_
    refine lQ.loadI rfl rfl ?_
    refine lQ.binI rfl ?_
    refine lQ.binI rfl ?_
    obtain rfl := Option.some.inj h
    exact lQ.retI rfl rfl hz
theorem ts_858 {R : lAR} (hR : lRok R) {E : lE} {ad : List Nat} (hn : tOk ad) {v1 : Int32} {s : TS} {A0 : lMem} {x : Int32} (h : t_858 v1 s = some x) {Z : lZ} (hz : Z (.inl (some (.int x))) (tp ad s A0)) : lSQ R E 1 858 [.ref (adr ad 6), .int v1] (tp ad s A0) Z := by
  refine lQ.sq pg_858 (Nat.le_of_ble_eq_true rfl) rfl ?_
  unfold t_858 at h
  refine lQ.push rfl ?_
  refine lQ.loadN rfl rfl ?_
  refine lQ.get hR rfl (tf_6_12 hn) ?_
  refine lQ.loadN rfl rfl ?_
  refine lQ.get hR rfl (tf_6_9 hn) ?_
  refine lQ.loadI rfl rfl ?_
  obtain ⟨x1, hx, h⟩ := bindC h
  refine lQ.ald hR rfl (ta_165 hn hx) ?_
  refine lQ.binI rfl ?_
  refine lQ.push rfl ?_
  refine lQ.divI rfl (by decide) ?_
  refine lQ.binI rfl ?_
  obtain rfl := Option.some.inj h
  exact lQ.retI rfl rfl hz
theorem ts_855 {R : lAR} (hR : lRok R) {E : lE} {ad : List Nat} (hn : tOk ad) {v1 : Int32} {s : TS} {A0 : lMem} {x : Int64} (h : t_855 v1 s = some x) {Z : lZ} (hz : Z (.inl (some (.long x))) (tp ad s A0)) : lSQ R E 2 855 [.ref (adr ad 6), .int v1] (tp ad s A0) Z := by
  refine lQ.sq pg_855 (Nat.le_of_ble_eq_true rfl) rfl ?_
  unfold t_855 at h
  refine lQ.push rfl ?_
  refine lQ.stL rfl (lN2s rfl rfl) rfl ?_
  refine lQ.loadN rfl rfl ?_
  refine lQ.loadI rfl rfl ?_
  obtain ⟨x1, hx, h⟩ := bindC h
  refine lQ.callVI (F := (fun y A => x1 = y ∧ A = tp ad s A0)) (G := fun _ _ => False) (args := [.ref (adr ad 6), .int v1]) (r := []) hR rfl rfl rfl (Nat.le_of_ble_eq_true rfl) (Nat.le_of_ble_eq_true rfl) rfl (tk_6 hn rfl) (ts_856 hR hn hx (cI_mk ⟨rfl, rfl⟩)) ?_ (fun _ _ _ z => z.elim)
  rintro _ _ ⟨rfl, rfl⟩
  refine lQ.stI rfl (lN2n rfl) ?_
  refine lQ.loadN rfl rfl ?_
  refine lQ.get hR rfl (tf_6_2 hn) ?_
  refine lQ.loadI rfl rfl ?_
  obtain ⟨x2, hx, h⟩ := bindC h
  refine lQ.ald hR rfl (ta_159 hn hx) ?_
  refine lQ.stI rfl (lN2s rfl rfl) ?_
  refine lQ.push rfl ?_
  refine lQ.stI rfl (lN2s rfl rfl) ?_
  obtain ⟨v72, hy1, h1⟩ := bindC h
  have hJ1 : lQ R E 1 cd_855 72 [(2, .long v72)] [] (tp ad s A0) Z := by
    refine lQ.loadL rfl rfl ?_
    obtain rfl := Option.some.inj h1
    exact lQ.retL rfl hz
  refine lQ.sub (lSb rfl (lSb rfl (lSb rfl (lSb rfl (lSb rfl (lSb rfl lSb0)))))) (wh_run (P := fun p13 => lQ R E 1 cd_855 13 [(0, .ref (adr ad 6)), (1, .int v1), (2, .long p13.1), (4, .int p13.2.1), (5, .int p13.2.2.1), (6, .int p13.2.2.2)] [] (tp ad s A0) Z) hy1 ?_)
  intro p13 r2 hb2 hI2 hX2
  refine lQ.loadI rfl rfl ?_
  refine lQ.loadN rfl rfl ?_
  refine lQ.get hR rfl (tf_6_16 hn) ?_
  rcases iteC hb2 with ⟨hc, hb2⟩ | ⟨hc, hb2⟩
  · refine lQ.cmpF rfl (decide_eq_false (Int32.not_le.mpr hc)) ?_
    refine lQ.loadN rfl rfl ?_
    refine lQ.get hR rfl (tf_6_17 hn) ?_
    refine lQ.loadI rfl rfl ?_
    obtain ⟨x3, hx, hb2⟩ := bindC hb2
    refine lQ.ald hR rfl (ta_169 hn hx) ?_
    refine lQ.stI rfl (lN2s rfl rfl) ?_
    refine lQ.loadI rfl rfl ?_
    refine lQ.loadN rfl rfl ?_
    refine lQ.loadI rfl rfl ?_
    refine lQ.loadI rfl rfl ?_
    refine lQ.loadN rfl rfl ?_
    refine lQ.get hR rfl (tf_6_7 hn) ?_
    refine lQ.loadI rfl rfl ?_
    obtain ⟨x4, hx, hb2⟩ := bindC hb2
    refine lQ.ald hR rfl (ta_163 hn hx) ?_
    obtain ⟨x5, hx, hb2⟩ := bindC hb2
    refine lQ.callVI (F := (fun y A => x5 = y ∧ A = tp ad s A0)) (G := fun _ _ => False) (args := [.ref (adr ad 6), .int v1, .int p13.2.2.1, .int x4]) (r := [.int p13.2.1]) hR rfl rfl rfl (Nat.le_of_ble_eq_true rfl) (Nat.le_of_ble_eq_true rfl) rfl (tk_6 hn rfl) (ts_857 hR hn hx (cI_mk ⟨rfl, rfl⟩)) ?_ (fun _ _ _ z => z.elim)
    rintro _ _ ⟨rfl, rfl⟩
    refine lQ.binI rfl ?_
    refine lQ.stI rfl (lN2n rfl) ?_
    refine lQ.loadL rfl rfl ?_
    refine lQ.loadN rfl rfl ?_
    refine lQ.loadI rfl rfl ?_
    obtain ⟨x6, hx, hb2⟩ := bindC hb2
    refine lQ.callVI (F := (fun y A => x6 = y ∧ A = tp ad s A0)) (G := fun _ _ => False) (args := [.ref (adr ad 6), .int x3]) (r := [.long p13.1]) hR rfl rfl rfl (Nat.le_of_ble_eq_true rfl) (Nat.le_of_ble_eq_true rfl) rfl (tk_6 hn rfl) (ts_858 hR hn hx (cI_mk ⟨rfl, rfl⟩)) ?_ (fun _ _ _ z => z.elim)
    rintro _ _ ⟨rfl, rfl⟩
    refine lQ.i2l rfl ?_
    refine lQ.loadI rfl rfl ?_
    refine lQ.i2l rfl ?_
    refine lQ.binL rfl ?_
    refine lQ.binL rfl ?_
    refine lQ.stL rfl (lN2s rfl rfl) rfl ?_
    refine lQ.loadI rfl rfl ?_
    refine lQ.push rfl ?_
    refine lQ.loadN rfl rfl ?_
    refine lQ.loadI rfl rfl ?_
    refine lQ.loadN rfl rfl ?_
    refine lQ.get hR rfl (tf_6_7 hn) ?_
    refine lQ.loadI rfl rfl ?_
    obtain ⟨x7, hx, hb2⟩ := bindC hb2
    refine lQ.ald hR rfl (ta_163 hn hx) ?_
    refine lQ.loadN rfl rfl ?_
    refine lQ.get hR rfl (tf_6_8 hn) ?_
    refine lQ.loadI rfl rfl ?_
    obtain ⟨x8, hx, hb2⟩ := bindC hb2
    refine lQ.ald hR rfl (ta_164 hn hx) ?_
    obtain ⟨x9, hx, hb2⟩ := bindC hb2
    refine lQ.callVI (F := (fun y A => x9 = y ∧ A = tp ad s A0)) (G := fun _ _ => False) (args := [.ref (adr ad 6), .int v1, .int x7, .int x8]) (r := [.int 3, .int (p13.2.1 + x5)]) hR rfl rfl rfl (Nat.le_of_ble_eq_true rfl) (Nat.le_of_ble_eq_true rfl) rfl (tk_6 hn rfl) (ts_857 hR hn hx (cI_mk ⟨rfl, rfl⟩)) ?_ (fun _ _ _ z => z.elim)
    rintro _ _ ⟨rfl, rfl⟩
    refine lQ.binI rfl ?_
    refine lQ.binI rfl ?_
    refine lQ.stI rfl (lN2n rfl) ?_
    refine lQ.loadL rfl rfl ?_
    refine lQ.loadI rfl rfl ?_
    refine lQ.i2l rfl ?_
    refine lQ.binL rfl ?_
    refine lQ.stL rfl (lN2s rfl rfl) rfl ?_
    refine lQ.inc rfl rfl (lN2n rfl) ?_
    refine lQ.loadN rfl rfl ?_
    refine lQ.get hR rfl (tf_6_8 hn) ?_
    refine lQ.loadI rfl rfl ?_
    obtain ⟨x10, hx, hb2⟩ := bindC hb2
    refine lQ.ald hR rfl (ta_164 hn hx) ?_
    refine lQ.stI rfl (lN2s rfl rfl) ?_
    refine lQ.inc rfl rfl (lN2s rfl rfl) ?_
    refine lQ.goto rfl ?_
    obtain rfl := Option.some.inj hb2
    exact lQ.sub (lSb rfl (lSb rfl (lSb rfl (lSb rfl (lSb rfl (lSb rfl lSb0)))))) (hI2 _ rfl)
  · refine lQ.cmpT rfl (decide_eq_true (Int32.not_lt.mp hc)) ?_
    obtain rfl := Option.some.inj hb2
    obtain rfl := hX2 _ rfl
    exact lQ.sub (lSb rfl lSb0) hJ1
theorem ts_859 {R : lAR} (hR : lRok R) {E : lE} {ad : List Nat} (hn : tOk ad) {v1 : Int32} {s : TS} {A0 : lMem} {x : Int32} (h : t_859 v1 s = some x) {Z : lZ} (hz : Z (.inl (some (.int x))) (tp ad s A0)) : lSQ R E 1 859 [.ref (adr ad 6), .int v1] (tp ad s A0) Z := by
  refine lQ.sq pg_859 (Nat.le_of_ble_eq_true rfl) rfl ?_
  unfold t_859 at h
  refine lQ.push rfl ?_
  refine lQ.stI rfl (lN2s rfl rfl) ?_
  refine lQ.push rfl ?_
  refine lQ.stI rfl (lN2s rfl rfl) ?_
  obtain ⟨v25, hy1, h1⟩ := bindC h
  have hJ1 : lQ R E 0 cd_859 25 [(2, .int v25)] [] (tp ad s A0) Z := by
    refine lQ.loadI rfl rfl ?_
    rcases iteC h1 with ⟨hg, h1⟩ | ⟨_, h1⟩
    case inr => cases h1
    have hb := hg
    obtain rfl := Option.some.inj h1
    exact lQ.retI rfl (fitB hb) hz
  refine lQ.sub (lSb rfl (lSb rfl (lSb rfl (lSb rfl lSb0)))) (wh_run (P := fun p4 => lQ R E 0 cd_859 4 [(0, .ref (adr ad 6)), (1, .int v1), (2, .int p4.1), (3, .int p4.2)] [] (tp ad s A0) Z) hy1 ?_)
  intro p4 r2 hb2 hI2 hX2
  refine lQ.loadI rfl rfl ?_
  refine lQ.loadN rfl rfl ?_
  refine lQ.get hR rfl (tf_6_16 hn) ?_
  rcases iteC hb2 with ⟨hc, hb2⟩ | ⟨hc, hb2⟩
  · refine lQ.cmpF rfl (decide_eq_false (Int32.not_le.mpr hc)) ?_
    refine lQ.loadI rfl rfl ?_
    obtain ⟨v22, hy3, h3⟩ := bindC hb2
    have hJ3 : lQ R E 0 cd_859 22 [(0, .ref (adr ad 6)), (1, .int v1), (3, .int p4.2)] [.int v22] (tp ad s A0) Z := by
      refine lQ.stI rfl (lN2s rfl rfl) ?_
      refine lQ.inc rfl rfl (lN2s rfl rfl) ?_
      refine lQ.goto rfl ?_
      obtain rfl := Option.some.inj h3
      exact lQ.sub (lSb rfl (lSb rfl (lSb rfl (lSb rfl lSb0)))) (hI2 _ rfl)
    rcases iteC hy3 with ⟨hc, hy3⟩ | ⟨hc, hy3⟩
    · refine lQ.ifT rfl (decide_eq_true hc) ?_
      refine lQ.push rfl ?_
      obtain rfl := Option.some.inj hy3
      exact lQ.sub (lSb rfl (lSb rfl (lSb rfl lSb0))) hJ3
    · refine lQ.ifF rfl (decide_eq_false hc) ?_
      refine lQ.loadN rfl rfl ?_
      refine lQ.get hR rfl (tf_6_11 hn) ?_
      refine lQ.loadN rfl rfl ?_
      refine lQ.get hR rfl (tf_6_17 hn) ?_
      refine lQ.loadI rfl rfl ?_
      obtain ⟨x1, hx, hy3⟩ := bindC hy3
      refine lQ.ald hR rfl (ta_169 hn hx) ?_
      obtain ⟨x2, hx, hy3⟩ := bindC hy3
      refine lQ.ald hR rfl (ta_167 hn hx) ?_
      refine lQ.loadI rfl rfl ?_
      rcases iteC hy3 with ⟨hc, hy3⟩ | ⟨hc, hy3⟩
      · refine lQ.cmpT rfl (decide_eq_true hc) ?_
        refine lQ.push rfl ?_
        obtain rfl := Option.some.inj hy3
        exact lQ.sub (lSb rfl (lSb rfl (lSb rfl lSb0))) hJ3
      · refine lQ.cmpF rfl (decide_eq_false hc) ?_
        refine lQ.push rfl ?_
        refine lQ.goto rfl ?_
        obtain rfl := Option.some.inj hy3
        exact lQ.sub (lSb rfl (lSb rfl (lSb rfl lSb0))) hJ3
  · refine lQ.cmpT rfl (decide_eq_true (Int32.not_lt.mp hc)) ?_
    obtain rfl := Option.some.inj hb2
    obtain rfl := hX2 _ rfl
    exact lQ.sub (lSb rfl lSb0) hJ1
theorem ts_860 {R : lAR} (hR : lRok R) {E : lE} {ad : List Nat} (hn : tOk ad) {s : TS} {A0 : lMem} {x : Int32 × TS} (h : t_860 s = some x) {Z : lZ} (hz : Z (.inl (some (.int x.1))) (tp ad x.2 A0)) : lSQ R E 1 860 [.ref (adr ad 6)] (tp ad s A0) Z := by
  refine lQ.sq pg_860 (Nat.le_of_ble_eq_true rfl) rfl ?_
  unfold t_860 at h
  refine lQ.loadN rfl rfl ?_
  refine lQ.get hR rfl (tf_6_16 hn) ?_
  refine lQ.push rfl ?_
  refine lQ.binI rfl ?_
  refine lQ.stI rfl (lN2s rfl rfl) ?_
  obtain ⟨v20, hy1, h1⟩ := bindC h
  have hJ1 : lQ R E 0 cd_860 20 [(0, .ref (adr ad 6)), (1, .int v20)] [] (tp ad s A0) Z := by
    refine lQ.loadI rfl rfl ?_
    rcases iteC h1 with ⟨hc, h1⟩ | ⟨hc, h1⟩
    · refine lQ.ifF rfl (decide_eq_false (Int32.not_le.mpr hc)) ?_
      refine lQ.push rfl ?_
      obtain rfl := Option.some.inj h1
      exact lQ.retI rfl rfl hz
    · refine lQ.ifT rfl (decide_eq_true (Int32.not_lt.mp hc)) ?_
      refine lQ.loadN rfl rfl ?_
      refine lQ.get hR rfl (tf_6_16 hn) ?_
      refine lQ.push rfl ?_
      refine lQ.binI rfl ?_
      refine lQ.stI rfl (lN2s rfl rfl) ?_
      obtain ⟨v40, hy2, h2⟩ := bindC h1
      have hJ2 : lQ R E 0 cd_860 40 [(0, .ref (adr ad 6)), (1, .int v20), (2, .int v40)] [] (tp ad s A0) Z := by
        refine lQ.loadN rfl rfl ?_
        refine lQ.get hR rfl (tf_6_17 hn) ?_
        refine lQ.loadI rfl rfl ?_
        obtain ⟨x5, hx, h2⟩ := bindC h2
        refine lQ.ald hR rfl (ta_169 hn hx) ?_
        refine lQ.stI rfl (lN2s rfl rfl) ?_
        refine lQ.loadN rfl rfl ?_
        refine lQ.get hR rfl (tf_6_17 hn) ?_
        refine lQ.loadI rfl rfl ?_
        refine lQ.loadN rfl rfl ?_
        refine lQ.get hR rfl (tf_6_17 hn) ?_
        refine lQ.loadI rfl rfl ?_
        obtain ⟨x6, hx, h2⟩ := bindC h2
        refine lQ.ald hR rfl (ta_169 hn hx) ?_
        obtain ⟨s7, hx, h2⟩ := bindC h2
        refine lQ.ast hR rfl (tw_169 hn hx) ?_
        rintro _ rfl
        refine lQ.loadN rfl rfl ?_
        refine lQ.get hR rfl (tf_6_17 hn) ?_
        refine lQ.loadI rfl rfl ?_
        refine lQ.loadI rfl rfl ?_
        obtain ⟨s8, hx, h2⟩ := bindC h2
        refine lQ.ast hR rfl (tw_169 hn hx) ?_
        rintro _ rfl
        refine lQ.loadI rfl rfl ?_
        refine lQ.push rfl ?_
        refine lQ.binI rfl ?_
        refine lQ.stI rfl (lN2s rfl rfl) ?_
        refine lQ.loadN rfl rfl ?_
        refine lQ.get hR rfl (tf_6_16 hn) ?_
        refine lQ.push rfl ?_
        refine lQ.binI rfl ?_
        refine lQ.stI rfl (lN2s rfl rfl) ?_
        obtain ⟨v91, hy3, h3⟩ := bindC h2
        have hJ3 : lQ R E 0 cd_860 91 [] [] (tp ad v91 A0) Z := by
          refine lQ.push rfl ?_
          obtain rfl := Option.some.inj h3
          exact lQ.retI rfl rfl hz
        refine lQ.sub (lSb rfl (lSb rfl (lSb rfl lSb0))) (wh_run (P := fun p67 => lQ R E 0 cd_860 67 [(0, .ref (adr ad 6)), (4, .int p67.2.1), (5, .int p67.2.2)] [] (tp ad p67.1 A0) Z) hy3 ?_)
        intro p67 r4 hb4 hI4 hX4
        refine lQ.loadI rfl rfl ?_
        refine lQ.loadI rfl rfl ?_
        rcases iteC hb4 with ⟨hc, hb4⟩ | ⟨hc, hb4⟩
        · refine lQ.cmpF rfl (decide_eq_false (Int32.not_le.mpr hc)) ?_
          refine lQ.loadN rfl rfl ?_
          refine lQ.get hR rfl (tf_6_17 hn) ?_
          refine lQ.loadI rfl rfl ?_
          obtain ⟨x9, hx, hb4⟩ := bindC hb4
          refine lQ.ald hR rfl (ta_169 hn hx) ?_
          refine lQ.stI rfl (lN2n rfl) ?_
          refine lQ.loadN rfl rfl ?_
          refine lQ.get hR rfl (tf_6_17 hn) ?_
          refine lQ.loadI rfl rfl ?_
          refine lQ.loadN rfl rfl ?_
          refine lQ.get hR rfl (tf_6_17 hn) ?_
          refine lQ.loadI rfl rfl ?_
          obtain ⟨x10, hx, hb4⟩ := bindC hb4
          refine lQ.ald hR rfl (ta_169 hn hx) ?_
          obtain ⟨s11, hx, hb4⟩ := bindC hb4
          refine lQ.ast hR rfl (tw_169 hn hx) ?_
          rintro _ rfl
          refine lQ.loadN rfl rfl ?_
          refine lQ.get hR rfl (tf_6_17 hn) ?_
          refine lQ.loadI rfl rfl ?_
          refine lQ.loadI rfl rfl ?_
          obtain ⟨s12, hx, hb4⟩ := bindC hb4
          refine lQ.ast hR rfl (tw_169 hn hx) ?_
          rintro _ rfl
          refine lQ.inc rfl rfl (lN2s rfl rfl) ?_
          refine lQ.dec rfl rfl (Int32.sub_eq_add_neg p67.2.2 1).symm (lN2s rfl rfl) ?_
          refine lQ.goto rfl ?_
          obtain rfl := Option.some.inj hb4
          exact lQ.sub (lSb rfl (lSb rfl (lSb rfl lSb0))) (hI4 _ rfl)
        · refine lQ.cmpT rfl (decide_eq_true (Int32.not_lt.mp hc)) ?_
          obtain rfl := Option.some.inj hb4
          obtain rfl := hX4 _ rfl
          exact lQ.sub lSb0 hJ3
      refine lQ.sub (lSb rfl (lSb rfl (lSb rfl lSb0))) (wh_run (P := fun p29 => lQ R E 0 cd_860 29 [(0, .ref (adr ad 6)), (1, .int v20), (2, .int p29)] [] (tp ad s A0) Z) hy2 ?_)
      intro p29 r5 hb5 hI5 hX5
      refine lQ.loadN rfl rfl ?_
      refine lQ.get hR rfl (tf_6_17 hn) ?_
      refine lQ.loadI rfl rfl ?_
      obtain ⟨x3, hx, hb5⟩ := bindC hb5
      refine lQ.ald hR rfl (ta_169 hn hx) ?_
      refine lQ.loadN rfl rfl ?_
      refine lQ.get hR rfl (tf_6_17 hn) ?_
      refine lQ.loadI rfl rfl ?_
      obtain ⟨x4, hx, hb5⟩ := bindC hb5
      refine lQ.ald hR rfl (ta_169 hn hx) ?_
      rcases iteC hb5 with ⟨hc, hb5⟩ | ⟨hc, hb5⟩
      · refine lQ.cmpF rfl (decide_eq_false (Int32.not_le.mpr hc)) ?_
        refine lQ.dec rfl rfl (Int32.sub_eq_add_neg p29 1).symm (lN2s rfl rfl) ?_
        refine lQ.goto rfl ?_
        obtain rfl := Option.some.inj hb5
        exact lQ.sub (lSb rfl (lSb rfl (lSb rfl lSb0))) (hI5 _ rfl)
      · refine lQ.cmpT rfl (decide_eq_true (Int32.not_lt.mp hc)) ?_
        obtain rfl := Option.some.inj hb5
        obtain rfl := hX5 _ rfl
        exact lQ.sub (lSb rfl (lSb rfl (lSb rfl lSb0))) hJ2
  refine lQ.sub (lSb rfl (lSb rfl lSb0)) (wh_run (P := fun p5 => lQ R E 0 cd_860 5 [(0, .ref (adr ad 6)), (1, .int p5)] [] (tp ad s A0) Z) hy1 ?_)
  intro p5 r6 hb6 hI6 hX6
  refine lQ.loadI rfl rfl ?_
  rcases iteC hb6 with ⟨hc, hb6⟩ | ⟨hc, hb6⟩
  · refine lQ.ifT rfl (decide_eq_true hc) ?_
    obtain rfl := Option.some.inj hb6
    obtain rfl := hX6 _ rfl
    exact lQ.sub (lSb rfl (lSb rfl lSb0)) hJ1
  · refine lQ.ifF rfl (decide_eq_false hc) ?_
    refine lQ.loadN rfl rfl ?_
    refine lQ.get hR rfl (tf_6_17 hn) ?_
    refine lQ.loadI rfl rfl ?_
    obtain ⟨x1, hx, hb6⟩ := bindC hb6
    refine lQ.ald hR rfl (ta_169 hn hx) ?_
    refine lQ.loadN rfl rfl ?_
    refine lQ.get hR rfl (tf_6_17 hn) ?_
    refine lQ.loadI rfl rfl ?_
    refine lQ.push rfl ?_
    refine lQ.binI rfl ?_
    obtain ⟨x2, hx, hb6⟩ := bindC hb6
    refine lQ.ald hR rfl (ta_169 hn hx) ?_
    rcases iteC hb6 with ⟨hc, hb6⟩ | ⟨hc, hb6⟩
    · refine lQ.cmpF rfl (decide_eq_false (Int32.not_le.mpr hc)) ?_
      refine lQ.dec rfl rfl (Int32.sub_eq_add_neg p5 1).symm (lN2s rfl rfl) ?_
      refine lQ.goto rfl ?_
      obtain rfl := Option.some.inj hb6
      exact lQ.sub (lSb rfl (lSb rfl lSb0)) (hI6 _ rfl)
    · refine lQ.cmpT rfl (decide_eq_true (Int32.not_lt.mp hc)) ?_
      obtain rfl := Option.some.inj hb6
      obtain rfl := hX6 _ rfl
      exact lQ.sub (lSb rfl (lSb rfl lSb0)) hJ1
theorem ts_854 {R : lAR} (hR : lRok R) {E : lE} {ad : List Nat} (hn : tOk ad) {v1 : Int32} {v2 : Int32} {s : TS} {A0 : lMem} {x : TS} (h : t_854 v1 v2 s = some x) {Z : lZ} (hz : Z (.inl none) (tp ad x A0)) : lSQ R E 3 854 [.ref (adr ad 6), .int v1, .int v2] (tp ad s A0) Z := by
  refine lQ.sq pg_854 (Nat.le_of_ble_eq_true rfl) rfl ?_
  unfold t_854 at h
  refine lQ.push rfl ?_
  refine lQ.loadI rfl rfl ?_
  refine lQ.binI rfl ?_
  refine lQ.loadI rfl rfl ?_
  refine lQ.binI rfl ?_
  refine lQ.stI rfl (lN2s rfl rfl) ?_
  refine lQ.loadN rfl rfl ?_
  refine lQ.get hR rfl (tf_6_18 hn) ?_
  refine lQ.loadI rfl rfl ?_
  refine lQ.push rfl ?_
  obtain ⟨s1, hx, h⟩ := bindC h
  refine lQ.lst hR rfl (tw_170 hn hx) ?_
  rintro _ rfl
  refine lQ.loadN rfl rfl ?_
  refine lQ.push rfl ?_
  obtain ⟨s2, hx, h⟩ := bindC h
  refine lQ.put hR rfl rfl (tq_6_16 hn hx) ?_
  rintro _ rfl
  refine lQ.push rfl ?_
  refine lQ.stI rfl (lN2s rfl rfl) ?_
  obtain ⟨y1, hy1, h1⟩ := bindC h
  have hJ1 : ∀ v56, y1 = .inl v56 → lQ R E 2 cd_854 56 [(0, .ref (adr ad 6)), (1, .int v1), (3, .int ((64 * v1) + v2))] [] (tp ad v56 A0) Z := by
    rintro v56 rfl
    have h1 := elimC h1
    refine lQ.push rfl ?_
    refine lQ.stI rfl (lN2s rfl rfl) ?_
    obtain ⟨v104, hy2, h2⟩ := bindC h1
    have hJ2 : lQ R E 2 cd_854 104 [] [] (tp ad v104 A0) Z := by
      obtain rfl := Option.some.inj h2
      exact lQ.retV rfl hz
    refine lQ.sub (lSb rfl (lSb rfl (lSb rfl (lSb rfl lSb0)))) (wh_run (P := fun p58 => lQ R E 2 cd_854 58 [(0, .ref (adr ad 6)), (1, .int v1), (3, .int ((64 * v1) + v2)), (4, .int p58.2)] [] (tp ad p58.1 A0) Z) hy2 ?_)
    intro p58 r3 hb3 hI3 hX3
    refine lQ.loadI rfl rfl ?_
    rcases iteC hb3 with ⟨hc, hb3⟩ | ⟨hc, hb3⟩
    · refine lQ.ifT rfl (decide_eq_true hc) ?_
      obtain rfl := Option.some.inj hb3
      obtain rfl := hX3 _ rfl
      exact lQ.sub lSb0 hJ2
    · refine lQ.ifF rfl (decide_eq_false hc) ?_
      refine lQ.loadN rfl rfl ?_
      refine lQ.loadI rfl rfl ?_
      obtain ⟨x8, hx, hb3⟩ := bindC hb3
      refine lQ.callVL (F := (fun y A => x8 = y ∧ A = tp ad p58.1 A0)) (G := fun _ _ => False) (args := [.ref (adr ad 6), .int v1]) (r := []) hR rfl rfl rfl (Nat.le_of_ble_eq_true rfl) (Nat.le_of_ble_eq_true rfl) rfl (tk_6 hn rfl) (ts_855 hR hn hx (cL_mk ⟨rfl, rfl⟩)) ?_ (fun _ _ _ z => z.elim)
      rintro _ _ ⟨rfl, rfl⟩
      refine lQ.stL rfl (lN2s rfl rfl) rfl ?_
      refine lQ.loadN rfl rfl ?_
      refine lQ.loadI rfl rfl ?_
      obtain ⟨x9, hx, hb3⟩ := bindC hb3
      refine lQ.callVI (F := (fun y A => x9 = y ∧ A = tp ad p58.1 A0)) (G := fun _ _ => False) (args := [.ref (adr ad 6), .int v1]) (r := []) hR rfl rfl rfl (Nat.le_of_ble_eq_true rfl) (Nat.le_of_ble_eq_true rfl) rfl (tk_6 hn rfl) (ts_859 hR hn hx (cI_mk ⟨rfl, rfl⟩)) ?_ (fun _ _ _ z => z.elim)
      rintro _ _ ⟨rfl, rfl⟩
      obtain ⟨v100, hy4, h4⟩ := bindC hb3
      have hJ4 : lQ R E 2 cd_854 100 [(0, .ref (adr ad 6)), (1, .int v1), (3, .int ((64 * v1) + v2))] [] (tp ad v100 A0) Z := by
        refine lQ.loadN rfl rfl ?_
        obtain ⟨x14, hx, h4⟩ := bindC h4
        refine lQ.callVI (F := (fun y A => x14.1 = y ∧ A = tp ad x14.2 A0)) (G := fun _ _ => False) (args := [.ref (adr ad 6)]) (r := []) hR rfl rfl rfl (Nat.le_of_ble_eq_true rfl) (Nat.le_of_ble_eq_true rfl) rfl (tk_6 hn rfl) (ts_860 hR hn hx (cI_mk ⟨rfl, rfl⟩)) ?_ (fun _ _ _ z => z.elim)
        rintro _ _ ⟨rfl, rfl⟩
        refine lQ.stI rfl (lN2s rfl rfl) ?_
        refine lQ.goto rfl ?_
        obtain rfl := Option.some.inj h4
        exact lQ.sub (lSb rfl (lSb rfl (lSb rfl (lSb rfl lSb0)))) (hI3 _ rfl)
      rcases iteC hy4 with ⟨hc, hy4⟩ | ⟨hc, hy4⟩
      · refine lQ.ifT rfl (decide_eq_true hc) ?_
        obtain rfl := Option.some.inj hy4
        exact lQ.sub (lSb rfl (lSb rfl (lSb rfl lSb0))) hJ4
      · refine lQ.ifF rfl (decide_eq_false hc) ?_
        refine lQ.loadL rfl rfl ?_
        refine lQ.loadN rfl rfl ?_
        refine lQ.get hR rfl (tf_6_18 hn) ?_
        refine lQ.loadI rfl rfl ?_
        obtain ⟨x10, hx, hy4⟩ := bindC hy4
        refine lQ.ald hR rfl (ta_170 hn hx) ?_
        refine lQ.lcmp rfl ?_
        rcases iteC hy4 with ⟨hc, hy4⟩ | ⟨hc, hy4⟩
        · refine lQ.ifF rfl (decide_eq_false (Int32.not_le.mpr hc)) ?_
          refine lQ.loadN rfl rfl ?_
          refine lQ.get hR rfl (tf_6_18 hn) ?_
          refine lQ.loadI rfl rfl ?_
          refine lQ.loadL rfl rfl ?_
          obtain ⟨s11, hx, hy4⟩ := bindC hy4
          refine lQ.lst hR rfl (tw_170 hn hx) ?_
          rintro _ rfl
          refine lQ.push rfl ?_
          refine lQ.stI rfl (lN2n rfl) ?_
          refine lQ.sub (lSb rfl (lSb rfl (lSb rfl (lSb rfl lSb0)))) (wh_run (P := fun p82 => lQ R E 2 cd_854 82 [(0, .ref (adr ad 6)), (1, .int v1), (3, .int ((64 * v1) + v2)), (7, .int p82.2)] [] (tp ad p82.1 A0) Z) hy4 ?_)
          intro p82 r5 hb5 hI5 hX5
          refine lQ.loadI rfl rfl ?_
          refine lQ.loadN rfl rfl ?_
          refine lQ.get hR rfl (tf_6_16 hn) ?_
          rcases iteC hb5 with ⟨hc, hb5⟩ | ⟨hc, hb5⟩
          · refine lQ.cmpF rfl (decide_eq_false (Int32.not_le.mpr hc)) ?_
            refine lQ.loadN rfl rfl ?_
            refine lQ.get hR rfl (tf_6_19 hn) ?_
            refine lQ.push rfl ?_
            refine lQ.loadI rfl rfl ?_
            refine lQ.binI rfl ?_
            refine lQ.loadI rfl rfl ?_
            refine lQ.binI rfl ?_
            refine lQ.loadN rfl rfl ?_
            refine lQ.get hR rfl (tf_6_17 hn) ?_
            refine lQ.loadI rfl rfl ?_
            obtain ⟨x12, hx, hb5⟩ := bindC hb5
            refine lQ.ald hR rfl (ta_169 hn hx) ?_
            obtain ⟨s13, hx, hb5⟩ := bindC hb5
            refine lQ.ast hR rfl (tw_171 hn hx) ?_
            rintro _ rfl
            refine lQ.inc rfl rfl (lN2n rfl) ?_
            refine lQ.goto rfl ?_
            obtain rfl := Option.some.inj hb5
            exact lQ.sub (lSb rfl (lSb rfl (lSb rfl (lSb rfl lSb0)))) (hI5 _ rfl)
          · refine lQ.cmpT rfl (decide_eq_true (Int32.not_lt.mp hc)) ?_
            obtain rfl := Option.some.inj hb5
            obtain rfl := hX5 _ rfl
            exact lQ.sub (lSb rfl (lSb rfl (lSb rfl lSb0))) hJ4
        · refine lQ.ifT rfl (decide_eq_true (Int32.not_lt.mp hc)) ?_
          obtain rfl := Option.some.inj hy4
          exact lQ.sub (lSb rfl (lSb rfl (lSb rfl lSb0))) hJ4
  obtain ⟨y6, hy6, h6⟩ := bindC hy1
  have hJ6 : ∀ v53, y6 = .inl v53 → lQ R E 2 cd_854 53 [] [] (tp ad v53 A0) Z := by
    rintro v53 rfl
    have h6 := elimC h6
    obtain rfl := Option.some.inj h6
    obtain rfl := elimD h1
    exact lQ.retV rfl hz
  refine lQ.sub (lSb rfl (lSb rfl (lSb rfl (lSb rfl (lSb rfl lSb0))))) (wh_run (P := fun p16 => lQ R E 2 cd_854 16 [(0, .ref (adr ad 6)), (1, .int v1), (2, .int v2), (3, .int ((64 * v1) + v2)), (4, .int p16.2)] [] (tp ad p16.1 A0) Z) hy6 ?_)
  intro p16 r7 hb7 hI7 hX7
  refine lQ.loadI rfl rfl ?_
  refine lQ.loadN rfl rfl ?_
  refine lQ.get hR rfl (tf_6_14 hn) ?_
  rcases iteC hb7 with ⟨hc, hb7⟩ | ⟨hc, hb7⟩
  · refine lQ.cmpF rfl (decide_eq_false (Int32.not_le.mpr hc)) ?_
    refine lQ.loadI rfl rfl ?_
    refine lQ.loadI rfl rfl ?_
    refine lQ.binI rfl ?_
    refine lQ.push rfl ?_
    refine lQ.binI rfl ?_
    refine lQ.push rfl ?_
    obtain ⟨y8, hy8, h8⟩ := bindC hb7
    have hJ8 : ∀ v54, y8 = .inl v54 → lQ R E 2 cd_854 54 [(0, .ref (adr ad 6)), (1, .int v1), (2, .int v2), (3, .int ((64 * v1) + v2)), (4, .int p16.2)] [] (tp ad v54 A0) Z := by
      rintro v54 rfl
      have h8 := elimC h8
      refine lQ.inc rfl rfl (lN2s rfl rfl) ?_
      refine lQ.goto rfl ?_
      obtain rfl := Option.some.inj h8
      exact lQ.sub (lSb rfl (lSb rfl (lSb rfl (lSb rfl (lSb rfl lSb0))))) (hI7 _ rfl)
    rcases iteC hy8 with ⟨hc, hy8⟩ | ⟨hc, hy8⟩
    · refine lQ.cmpF rfl (decide_eq_false (fun z => z hc)) ?_
      refine lQ.loadN rfl rfl ?_
      refine lQ.get hR rfl (tf_6_17 hn) ?_
      refine lQ.loadN rfl rfl ?_
      refine lQ.get hR rfl (tf_6_16 hn) ?_
      refine lQ.loadN rfl rfl ?_
      refine lQ.get hR rfl (tf_6_15 hn) ?_
      refine lQ.loadI rfl rfl ?_
      obtain ⟨x3, hx, hy8⟩ := bindC hy8
      refine lQ.ald hR rfl (ta_168 hn hx) ?_
      obtain ⟨s4, hx, hy8⟩ := bindC hy8
      refine lQ.ast hR rfl (tw_169 hn hx) ?_
      rintro _ rfl
      refine lQ.loadN rfl rfl ?_
      refine lQ.dupN rfl ?_
      refine lQ.get hR rfl (tf_6_16 hn) ?_
      refine lQ.push rfl ?_
      refine lQ.binI rfl ?_
      obtain ⟨s5, hx, hy8⟩ := bindC hy8
      refine lQ.put hR rfl rfl (tq_6_16 hn hx) ?_
      rintro _ rfl
      refine lQ.loadN rfl rfl ?_
      refine lQ.loadN rfl rfl ?_
      refine lQ.get hR rfl (tf_6_15 hn) ?_
      refine lQ.loadI rfl rfl ?_
      obtain ⟨x6, hx, hy8⟩ := bindC hy8
      refine lQ.ald hR rfl (ta_168 hn hx) ?_
      obtain ⟨x7, hx, hy8⟩ := bindC hy8
      refine lQ.callVI (F := (fun y A => x7 = y ∧ A = tp ad s5 A0)) (G := fun _ _ => False) (args := [.ref (adr ad 6), .int x6]) (r := []) hR rfl rfl rfl (Nat.le_of_ble_eq_true rfl) (Nat.le_of_ble_eq_true rfl) rfl (tk_6 hn rfl) (ts_853 hR hn hx (cI_mk ⟨rfl, rfl⟩)) ?_ (fun _ _ _ z => z.elim)
      rintro _ _ ⟨rfl, rfl⟩
      refine lQ.loadI rfl rfl ?_
      refine lQ.binI rfl ?_
      refine lQ.push rfl ?_
      refine lQ.binI rfl ?_
      rcases iteC hy8 with ⟨hc, hy8⟩ | ⟨hc, hy8⟩
      · refine lQ.ifF rfl (decide_eq_false (fun z => z hc)) ?_
        obtain rfl := Option.some.inj hy8
        obtain rfl := elimD h8
        obtain rfl := hX7 _ rfl
        exact lQ.sub lSb0 (hJ6 _ rfl)
      · refine lQ.ifT rfl (decide_eq_true hc) ?_
        obtain rfl := Option.some.inj hy8
        exact lQ.sub (lSb rfl (lSb rfl (lSb rfl (lSb rfl (lSb rfl lSb0))))) (hJ8 _ rfl)
    · refine lQ.cmpT rfl (decide_eq_true hc) ?_
      obtain rfl := Option.some.inj hy8
      exact lQ.sub (lSb rfl (lSb rfl (lSb rfl (lSb rfl (lSb rfl lSb0))))) (hJ8 _ rfl)
  · refine lQ.cmpT rfl (decide_eq_true (Int32.not_lt.mp hc)) ?_
    obtain rfl := Option.some.inj hb7
    obtain rfl := hX7 _ rfl
    obtain rfl := elimD h6
    exact lQ.sub (lSb rfl (lSb rfl (lSb rfl lSb0))) (hJ1 _ rfl)
theorem ts_862 {R : lAR} (hR : lRok R) {E : lE} {ad : List Nat} (hn : tOk ad) {v1 : Int32} {v2 : Int32} {s : TS} {A0 : lMem} {x : Int32} (h : t_862 v1 v2 s = some x) {Z : lZ} (hz : Z (.inl (some (.int x))) (tp ad s A0)) : lSQ R E 1 862 [.ref (adr ad 6), .int v1, .int v2] (tp ad s A0) Z := by
  refine lQ.sq pg_862 (Nat.le_of_ble_eq_true rfl) rfl ?_
  unfold t_862 at h
  refine lQ.push rfl ?_
  refine lQ.stI rfl (lN2s rfl rfl) ?_
  refine lQ.loadI rfl rfl ?_
  refine lQ.stI rfl (lN2s rfl rfl) ?_
  refine lQ.loadN rfl rfl ?_
  refine lQ.get hR rfl (tf_6_14 hn) ?_
  refine lQ.push rfl ?_
  refine lQ.binI rfl ?_
  refine lQ.stI rfl (lN2s rfl rfl) ?_
  obtain ⟨v32, hy1, h1⟩ := bindC h
  have hJ1 : lQ R E 0 cd_862 32 [(3, .int v32)] [] (tp ad s A0) Z := by
    refine lQ.loadI rfl rfl ?_
    obtain rfl := Option.some.inj h1
    exact lQ.retI rfl rfl hz
  refine lQ.sub (lSb rfl (lSb rfl (lSb rfl (lSb rfl (lSb rfl lSb0))))) (wh_run (P := fun p9 => lQ R E 0 cd_862 9 [(0, .ref (adr ad 6)), (2, .int v2), (3, .int p9.1), (4, .int p9.2.1), (5, .int p9.2.2)] [] (tp ad s A0) Z) hy1 ?_)
  intro p9 r2 hb2 hI2 hX2
  refine lQ.loadI rfl rfl ?_
  rcases iteC hb2 with ⟨hc, hb2⟩ | ⟨hc, hb2⟩
  · refine lQ.ifT rfl (decide_eq_true hc) ?_
    obtain rfl := Option.some.inj hb2
    obtain rfl := hX2 _ rfl
    exact lQ.sub (lSb rfl lSb0) hJ1
  · refine lQ.ifF rfl (decide_eq_false hc) ?_
    refine lQ.loadI rfl rfl ?_
    refine lQ.loadI rfl rfl ?_
    refine lQ.loadN rfl rfl ?_
    refine lQ.get hR rfl (tf_6_0 hn) ?_
    rcases iteC hb2 with ⟨_, hb2⟩ | ⟨hg, hb2⟩
    case inl => cases hb2
    refine lQ.divI rfl hg ?_
    refine lQ.loadI rfl rfl ?_
    obtain ⟨v23, hy3, h3⟩ := bindC hb2
    have hJ3 : lQ R E 0 cd_862 23 [(0, .ref (adr ad 6)), (2, .int v2), (4, .int p9.2.1), (5, .int p9.2.2)] [.int v23, .int p9.1] (tp ad s A0) Z := by
      refine lQ.binI rfl ?_
      refine lQ.stI rfl (lN2s rfl rfl) ?_
      refine lQ.loadI rfl rfl ?_
      refine lQ.loadN rfl rfl ?_
      refine lQ.get hR rfl (tf_6_0 hn) ?_
      rcases iteC h3 with ⟨_, h3⟩ | ⟨hg, h3⟩
      case inl => cases h3
      refine lQ.divI rfl hg ?_
      refine lQ.stI rfl (lN2s rfl rfl) ?_
      refine lQ.dec rfl rfl (Int32.sub_eq_add_neg p9.2.2 1).symm (lN2s rfl rfl) ?_
      refine lQ.goto rfl ?_
      obtain rfl := Option.some.inj h3
      exact lQ.sub (lSb rfl (lSb rfl (lSb rfl (lSb rfl (lSb rfl lSb0))))) (hI2 _ rfl)
    rcases iteC hy3 with ⟨hc, hy3⟩ | ⟨hc, hy3⟩
    · refine lQ.cmpF rfl (decide_eq_false (fun z => z hc)) ?_
      refine lQ.push rfl ?_
      refine lQ.loadI rfl rfl ?_
      refine lQ.binI rfl ?_
      refine lQ.goto rfl ?_
      obtain rfl := Option.some.inj hy3
      exact lQ.sub (lSb rfl (lSb rfl (lSb rfl (lSb rfl lSb0)))) hJ3
    · refine lQ.cmpT rfl (decide_eq_true hc) ?_
      refine lQ.push rfl ?_
      obtain rfl := Option.some.inj hy3
      exact lQ.sub (lSb rfl (lSb rfl (lSb rfl (lSb rfl lSb0)))) hJ3
theorem ts_861 {R : lAR} (hR : lRok R) {E : lE} {ad : List Nat} (hn : tOk ad) {v1 : Int32} {s : TS} {A0 : lMem} {x : Int64} (h : t_861 v1 s = some x) {Z : lZ} (hz : Z (.inl (some (.long x))) (tp ad s A0)) : lSQ R E 2 861 [.ref (adr ad 6), .int v1] (tp ad s A0) Z := by
  refine lQ.sq pg_861 (Nat.le_of_ble_eq_true rfl) rfl ?_
  unfold t_861 at h
  refine lQ.push rfl ?_
  refine lQ.stL rfl (lN2s rfl rfl) rfl ?_
  refine lQ.push rfl ?_
  refine lQ.stI rfl (lN2n rfl) ?_
  obtain ⟨v24, hy1, h1⟩ := bindC h
  have hJ1 : lQ R E 1 cd_861 24 [(2, .long v24)] [] (tp ad s A0) Z := by
    refine lQ.loadL rfl rfl ?_
    obtain rfl := Option.some.inj h1
    exact lQ.retL rfl hz
  refine lQ.sub (lSb rfl (lSb rfl (lSb rfl (lSb rfl lSb0)))) (wh_run (P := fun p4 => lQ R E 1 cd_861 4 [(0, .ref (adr ad 6)), (1, .int v1), (2, .long p4.1), (4, .int p4.2)] [] (tp ad s A0) Z) hy1 ?_)
  intro p4 r2 hb2 hI2 hX2
  refine lQ.loadI rfl rfl ?_
  refine lQ.loadN rfl rfl ?_
  refine lQ.get hR rfl (tf_6_0 hn) ?_
  rcases iteC hb2 with ⟨hc, hb2⟩ | ⟨hc, hb2⟩
  · refine lQ.cmpF rfl (decide_eq_false (Int32.not_le.mpr hc)) ?_
    refine lQ.loadL rfl rfl ?_
    refine lQ.loadN rfl rfl ?_
    refine lQ.get hR rfl (tf_6_18 hn) ?_
    refine lQ.push rfl ?_
    refine lQ.loadI rfl rfl ?_
    refine lQ.binI rfl ?_
    refine lQ.loadN rfl rfl ?_
    refine lQ.loadI rfl rfl ?_
    refine lQ.loadI rfl rfl ?_
    obtain ⟨x1, hx, hb2⟩ := bindC hb2
    refine lQ.callVI (F := (fun y A => x1 = y ∧ A = tp ad s A0)) (G := fun _ _ => False) (args := [.ref (adr ad 6), .int v1, .int p4.2]) (r := [.int (64 * p4.2), .ref (adr ad 170), .long p4.1]) hR rfl rfl rfl (Nat.le_of_ble_eq_true rfl) (Nat.le_of_ble_eq_true rfl) rfl (tk_6 hn rfl) (ts_862 hR hn hx (cI_mk ⟨rfl, rfl⟩)) ?_ (fun _ _ _ z => z.elim)
    rintro _ _ ⟨rfl, rfl⟩
    refine lQ.binI rfl ?_
    obtain ⟨x2, hx, hb2⟩ := bindC hb2
    refine lQ.ald hR rfl (ta_170 hn hx) ?_
    refine lQ.binL rfl ?_
    refine lQ.stL rfl (lN2s rfl rfl) rfl ?_
    refine lQ.inc rfl rfl (lN2n rfl) ?_
    refine lQ.goto rfl ?_
    obtain rfl := Option.some.inj hb2
    exact lQ.sub (lSb rfl (lSb rfl (lSb rfl (lSb rfl lSb0)))) (hI2 _ rfl)
  · refine lQ.cmpT rfl (decide_eq_true (Int32.not_lt.mp hc)) ?_
    obtain rfl := Option.some.inj hb2
    obtain rfl := hX2 _ rfl
    exact lQ.sub (lSb rfl lSb0) hJ1
theorem ts_863 {R : lAR} (hR : lRok R) {E : lE} {ad : List Nat} (hn : tOk ad) {v1 : Int32} {v2 : Int32} {s : TS} {A0 : lMem} {x : TS} (h : t_863 v1 v2 s = some x) {Z : lZ} (hz : Z (.inl none) (tp ad x A0)) : lSQ R E 2 863 [.ref (adr ad 6), .int v1, .int v2] (tp ad s A0) Z := by
  refine lQ.sq pg_863 (Nat.le_of_ble_eq_true rfl) rfl ?_
  unfold t_863 at h
  refine lQ.loadN rfl rfl ?_
  refine lQ.loadI rfl rfl ?_
  obtain ⟨x1, hx, h⟩ := bindC h
  refine lQ.callVI (F := (fun y A => x1 = y ∧ A = tp ad s A0)) (G := fun _ _ => False) (args := [.ref (adr ad 6), .int v1]) (r := []) hR rfl rfl rfl (Nat.le_of_ble_eq_true rfl) (Nat.le_of_ble_eq_true rfl) rfl (tk_6 hn rfl) (ts_856 hR hn hx (cI_mk ⟨rfl, rfl⟩)) ?_ (fun _ _ _ z => z.elim)
  rintro _ _ ⟨rfl, rfl⟩
  refine lQ.stI rfl (lN2s rfl rfl) ?_
  refine lQ.loadN rfl rfl ?_
  refine lQ.get hR rfl (tf_6_2 hn) ?_
  refine lQ.loadI rfl rfl ?_
  obtain ⟨x2, hx, h⟩ := bindC h
  refine lQ.ald hR rfl (ta_159 hn hx) ?_
  refine lQ.stI rfl (lN2s rfl rfl) ?_
  refine lQ.push rfl ?_
  refine lQ.stI rfl (lN2s rfl rfl) ?_
  refine lQ.push rfl ?_
  refine lQ.stI rfl (lN2s rfl rfl) ?_
  obtain ⟨v26, hy1, h1⟩ := bindC h
  have hJ1 : lQ R E 1 cd_863 26 [(0, .ref (adr ad 6)), (1, .int v1), (2, .int v2), (3, .int x1), (4, .int x2), (5, .int v26)] [] (tp ad s A0) Z := by
    refine lQ.push rfl ?_
    refine lQ.stI rfl (lN2s rfl rfl) ?_
    obtain ⟨v104, hy2, h2⟩ := bindC h1
    have hJ2 : lQ R E 1 cd_863 104 [] [] (tp ad v104 A0) Z := by
      obtain rfl := Option.some.inj h2
      exact lQ.retV rfl hz
    refine lQ.sub (lSb rfl (lSb rfl (lSb rfl (lSb rfl (lSb rfl (lSb rfl (lSb rfl lSb0))))))) (wh_run (P := fun p28 => lQ R E 1 cd_863 28 [(0, .ref (adr ad 6)), (1, .int v1), (2, .int v2), (3, .int p28.2.1), (4, .int p28.2.2.1), (5, .int v26), (6, .int p28.2.2.2)] [] (tp ad p28.1 A0) Z) hy2 ?_)
    intro p28 r3 hb3 hI3 hX3
    refine lQ.loadI rfl rfl ?_
    refine lQ.loadI rfl rfl ?_
    rcases iteC hb3 with ⟨hc, hb3⟩ | ⟨hc, hb3⟩
    · refine lQ.cmpF rfl (decide_eq_false (Int32.not_le.mpr hc)) ?_
      refine lQ.loadN rfl rfl ?_
      refine lQ.get hR rfl (tf_6_19 hn) ?_
      refine lQ.push rfl ?_
      refine lQ.push rfl ?_
      refine lQ.loadI rfl rfl ?_
      refine lQ.binI rfl ?_
      refine lQ.loadI rfl rfl ?_
      refine lQ.binI rfl ?_
      refine lQ.binI rfl ?_
      refine lQ.loadI rfl rfl ?_
      refine lQ.binI rfl ?_
      obtain ⟨x3, hx, hb3⟩ := bindC hb3
      refine lQ.ald hR rfl (ta_171 hn hx) ?_
      refine lQ.stI rfl (lN2s rfl rfl) ?_
      refine lQ.loadN rfl rfl ?_
      refine lQ.get hR rfl (tf_6_20 hn) ?_
      refine lQ.loadI rfl rfl ?_
      refine lQ.loadI rfl rfl ?_
      obtain ⟨s4, hx, hb3⟩ := bindC hb3
      refine lQ.ast hR rfl (tw_172 hn hx) ?_
      rintro _ rfl
      refine lQ.loadN rfl rfl ?_
      refine lQ.get hR rfl (tf_6_23 hn) ?_
      refine lQ.loadI rfl rfl ?_
      refine lQ.loadI rfl rfl ?_
      obtain ⟨s5, hx, hb3⟩ := bindC hb3
      refine lQ.ast hR rfl (tw_175 hn hx) ?_
      rintro _ rfl
      refine lQ.loadN rfl rfl ?_
      refine lQ.get hR rfl (tf_6_21 hn) ?_
      refine lQ.loadI rfl rfl ?_
      refine lQ.loadI rfl rfl ?_
      refine lQ.loadN rfl rfl ?_
      refine lQ.loadI rfl rfl ?_
      refine lQ.loadI rfl rfl ?_
      refine lQ.loadN rfl rfl ?_
      refine lQ.get hR rfl (tf_6_7 hn) ?_
      refine lQ.loadI rfl rfl ?_
      obtain ⟨x6, hx, hb3⟩ := bindC hb3
      refine lQ.ald hR rfl (ta_163 hn hx) ?_
      obtain ⟨x7, hx, hb3⟩ := bindC hb3
      refine lQ.callVI (F := (fun y A => x7 = y ∧ A = tp ad s5 A0)) (G := fun _ _ => False) (args := [.ref (adr ad 6), .int v1, .int p28.2.2.1, .int x6]) (r := [.int p28.2.1, .int x3, .ref (adr ad 173)]) hR rfl rfl rfl (Nat.le_of_ble_eq_true rfl) (Nat.le_of_ble_eq_true rfl) rfl (tk_6 hn rfl) (ts_857 hR hn hx (cI_mk ⟨rfl, rfl⟩)) ?_ (fun _ _ _ z => z.elim)
      rintro _ _ ⟨rfl, rfl⟩
      refine lQ.binI rfl ?_
      obtain ⟨s8, hx, hb3⟩ := bindC hb3
      refine lQ.ast hR rfl (tw_173 hn hx) ?_
      rintro _ rfl
      refine lQ.loadN rfl rfl ?_
      refine lQ.get hR rfl (tf_6_22 hn) ?_
      refine lQ.loadI rfl rfl ?_
      refine lQ.loadN rfl rfl ?_
      refine lQ.get hR rfl (tf_6_21 hn) ?_
      refine lQ.loadI rfl rfl ?_
      obtain ⟨x9, hx, hb3⟩ := bindC hb3
      refine lQ.ald hR rfl (ta_173 hn hx) ?_
      refine lQ.push rfl ?_
      refine lQ.binI rfl ?_
      refine lQ.loadN rfl rfl ?_
      refine lQ.loadI rfl rfl ?_
      refine lQ.loadN rfl rfl ?_
      refine lQ.get hR rfl (tf_6_7 hn) ?_
      refine lQ.loadI rfl rfl ?_
      obtain ⟨x10, hx, hb3⟩ := bindC hb3
      refine lQ.ald hR rfl (ta_163 hn hx) ?_
      refine lQ.loadN rfl rfl ?_
      refine lQ.get hR rfl (tf_6_8 hn) ?_
      refine lQ.loadI rfl rfl ?_
      obtain ⟨x11, hx, hb3⟩ := bindC hb3
      refine lQ.ald hR rfl (ta_164 hn hx) ?_
      obtain ⟨x12, hx, hb3⟩ := bindC hb3
      refine lQ.callVI (F := (fun y A => x12 = y ∧ A = tp ad s8 A0)) (G := fun _ _ => False) (args := [.ref (adr ad 6), .int v1, .int x10, .int x11]) (r := [.int (x9 + 3), .int x3, .ref (adr ad 174)]) hR rfl rfl rfl (Nat.le_of_ble_eq_true rfl) (Nat.le_of_ble_eq_true rfl) rfl (tk_6 hn rfl) (ts_857 hR hn hx (cI_mk ⟨rfl, rfl⟩)) ?_ (fun _ _ _ z => z.elim)
      rintro _ _ ⟨rfl, rfl⟩
      refine lQ.binI rfl ?_
      obtain ⟨s13, hx, hb3⟩ := bindC hb3
      refine lQ.ast hR rfl (tw_174 hn hx) ?_
      rintro _ rfl
      refine lQ.loadN rfl rfl ?_
      refine lQ.get hR rfl (tf_6_22 hn) ?_
      refine lQ.loadI rfl rfl ?_
      obtain ⟨x14, hx, hb3⟩ := bindC hb3
      refine lQ.ald hR rfl (ta_174 hn hx) ?_
      refine lQ.push rfl ?_
      refine lQ.binI rfl ?_
      refine lQ.stI rfl (lN2s rfl rfl) ?_
      refine lQ.loadN rfl rfl ?_
      refine lQ.get hR rfl (tf_6_8 hn) ?_
      refine lQ.loadI rfl rfl ?_
      obtain ⟨x15, hx, hb3⟩ := bindC hb3
      refine lQ.ald hR rfl (ta_164 hn hx) ?_
      refine lQ.stI rfl (lN2s rfl rfl) ?_
      refine lQ.inc rfl rfl (lN2s rfl rfl) ?_
      refine lQ.goto rfl ?_
      obtain rfl := Option.some.inj hb3
      exact lQ.sub (lSb rfl (lSb rfl (lSb rfl (lSb rfl (lSb rfl (lSb rfl (lSb rfl lSb0))))))) (hI3 _ rfl)
    · refine lQ.cmpT rfl (decide_eq_true (Int32.not_lt.mp hc)) ?_
      obtain rfl := Option.some.inj hb3
      obtain rfl := hX3 _ rfl
      exact lQ.sub lSb0 hJ2
  refine lQ.sub (lSb rfl (lSb rfl (lSb rfl (lSb rfl (lSb rfl (lSb rfl (lSb rfl lSb0))))))) (wh_run (P := fun p13 => lQ R E 1 cd_863 13 [(0, .ref (adr ad 6)), (1, .int v1), (2, .int v2), (3, .int x1), (4, .int x2), (5, .int p13.1), (6, .int p13.2)] [] (tp ad s A0) Z) hy1 ?_)
  intro p13 r4 hb4 hI4 hX4
  refine lQ.loadI rfl rfl ?_
  refine lQ.push rfl ?_
  rcases iteC hb4 with ⟨hc, hb4⟩ | ⟨hc, hb4⟩
  · refine lQ.cmpF rfl (decide_eq_false (Int32.not_le.mpr hc)) ?_
    refine lQ.loadI rfl rfl ?_
    refine lQ.loadI rfl rfl ?_
    refine lQ.loadI rfl rfl ?_
    refine lQ.binI rfl ?_
    refine lQ.push rfl ?_
    refine lQ.binI rfl ?_
    refine lQ.binI rfl ?_
    refine lQ.stI rfl (lN2s rfl rfl) ?_
    refine lQ.inc rfl rfl (lN2s rfl rfl) ?_
    refine lQ.goto rfl ?_
    obtain rfl := Option.some.inj hb4
    exact lQ.sub (lSb rfl (lSb rfl (lSb rfl (lSb rfl (lSb rfl (lSb rfl (lSb rfl lSb0))))))) (hI4 _ rfl)
  · refine lQ.cmpT rfl (decide_eq_true (Int32.not_lt.mp hc)) ?_
    obtain rfl := Option.some.inj hb4
    obtain rfl := hX4 _ rfl
    exact lQ.sub (lSb rfl (lSb rfl (lSb rfl (lSb rfl (lSb rfl (lSb rfl lSb0)))))) hJ1
theorem ts_851 {R : lAR} (hR : lRok R) {E : lE} {ad : List Nat} (hn : tOk ad) {s : TS} {A0 : lMem} {x : Int64 × TS} (h : t_851 s = some x) {Z : lZ} (hz : Z (.inl (some (.long x.1))) (tp ad x.2 A0)) : lSQ R E 4 851 [.ref (adr ad 6)] (tp ad s A0) Z := by
  refine lQ.sq pg_851 (Nat.le_of_ble_eq_true rfl) rfl ?_
  unfold t_851 at h
  refine lQ.loadN rfl rfl ?_
  obtain ⟨x1, hx, h⟩ := bindC h
  refine lQ.callVV (F := (fun A => A = tp ad x1 A0)) (G := fun _ _ => False) (args := [.ref (adr ad 6)]) (r := []) hR rfl rfl rfl (Nat.le_of_ble_eq_true rfl) (Nat.le_of_ble_eq_true rfl) rfl (tk_6 hn rfl) (ts_852 hR hn hx (cV_mk rfl)) ?_ (fun _ _ _ z => z.elim)
  rintro _ rfl
  refine lQ.push rfl ?_
  refine lQ.stI rfl (lN2s rfl rfl) ?_
  refine lQ.push rfl ?_
  refine lQ.stI rfl (lN2s rfl rfl) ?_
  obtain ⟨v17, hy1, h1⟩ := bindC h
  have hJ1 : lQ R E 3 cd_851 17 [(0, .ref (adr ad 6)), (1, .int v17)] [] (tp ad x1 A0) Z := by
    refine lQ.push rfl ?_
    refine lQ.stI rfl (lN2s rfl rfl) ?_
    obtain ⟨v39, hy2, h2⟩ := bindC h1
    have hJ2 : lQ R E 3 cd_851 39 [(0, .ref (adr ad 6)), (1, .int v17)] [] (tp ad v39 A0) Z := by
      refine lQ.push rfl ?_
      refine lQ.stL rfl (lN2s rfl rfl) rfl ?_
      refine lQ.push rfl ?_
      refine lQ.stI rfl (lN2n rfl) ?_
      refine lQ.push rfl ?_
      refine lQ.stI rfl (lN2s rfl rfl) ?_
      obtain ⟨v70, hy3, h3⟩ := bindC h2
      have hJ3 : lQ R E 3 cd_851 70 [(0, .ref (adr ad 6)), (2, .long v70.1), (4, .int v70.2)] [] (tp ad v39 A0) Z := by
        refine lQ.push rfl ?_
        refine lQ.stI rfl (lN2s rfl rfl) ?_
        obtain ⟨v83, hy4, h4⟩ := bindC h3
        have hJ4 : lQ R E 3 cd_851 83 [(0, .ref (adr ad 6)), (2, .long v70.1), (4, .int v70.2)] [] (tp ad v83 A0) Z := by
          refine lQ.push rfl ?_
          refine lQ.stI rfl (lN2s rfl rfl) ?_
          obtain ⟨v98, hy5, h5⟩ := bindC h4
          have hJ5 : lQ R E 3 cd_851 98 [(2, .long v70.1)] [] (tp ad v98 A0) Z := by
            refine lQ.loadL rfl rfl ?_
            obtain rfl := Option.some.inj h5
            exact lQ.retL rfl hz
          refine lQ.sub (lSb rfl (lSb rfl (lSb rfl (lSb rfl lSb0)))) (wh_run (P := fun p85 => lQ R E 3 cd_851 85 [(0, .ref (adr ad 6)), (2, .long v70.1), (4, .int v70.2), (5, .int p85.2)] [] (tp ad p85.1 A0) Z) hy5 ?_)
          intro p85 r6 hb6 hI6 hX6
          refine lQ.loadI rfl rfl ?_
          refine lQ.loadN rfl rfl ?_
          refine lQ.get hR rfl (tf_6_0 hn) ?_
          rcases iteC hb6 with ⟨hc, hb6⟩ | ⟨hc, hb6⟩
          · refine lQ.cmpF rfl (decide_eq_false (Int32.not_le.mpr hc)) ?_
            refine lQ.loadN rfl rfl ?_
            refine lQ.loadI rfl rfl ?_
            refine lQ.loadN rfl rfl ?_
            refine lQ.loadI rfl rfl ?_
            refine lQ.loadI rfl rfl ?_
            obtain ⟨x5, hx, hb6⟩ := bindC hb6
            refine lQ.callVI (F := (fun y A => x5 = y ∧ A = tp ad p85.1 A0)) (G := fun _ _ => False) (args := [.ref (adr ad 6), .int v70.2, .int p85.2]) (r := [.int p85.2, .ref (adr ad 6)]) hR rfl rfl rfl (Nat.le_of_ble_eq_true rfl) (Nat.le_of_ble_eq_true rfl) rfl (tk_6 hn rfl) (ts_862 hR hn hx (cI_mk ⟨rfl, rfl⟩)) ?_ (fun _ _ _ z => z.elim)
            rintro _ _ ⟨rfl, rfl⟩
            obtain ⟨x6, hx, hb6⟩ := bindC hb6
            refine lQ.callVV (F := (fun A => A = tp ad x6 A0)) (G := fun _ _ => False) (args := [.ref (adr ad 6), .int p85.2, .int x5]) (r := []) hR rfl rfl rfl (Nat.le_of_ble_eq_true rfl) (Nat.le_of_ble_eq_true rfl) rfl (tk_6 hn rfl) (ts_863 hR hn hx (cV_mk rfl)) ?_ (fun _ _ _ z => z.elim)
            rintro _ rfl
            refine lQ.inc rfl rfl (lN2s rfl rfl) ?_
            refine lQ.goto rfl ?_
            obtain rfl := Option.some.inj hb6
            exact lQ.sub (lSb rfl (lSb rfl (lSb rfl (lSb rfl lSb0)))) (hI6 _ rfl)
          · refine lQ.cmpT rfl (decide_eq_true (Int32.not_lt.mp hc)) ?_
            obtain rfl := Option.some.inj hb6
            obtain rfl := hX6 _ rfl
            exact lQ.sub (lSb rfl lSb0) hJ5
        refine lQ.sub (lSb rfl (lSb rfl (lSb rfl (lSb rfl lSb0)))) (wh_run (P := fun p72 => lQ R E 3 cd_851 72 [(0, .ref (adr ad 6)), (2, .long v70.1), (4, .int v70.2), (5, .int p72.2)] [] (tp ad p72.1 A0) Z) hy4 ?_)
        intro p72 r7 hb7 hI7 hX7
        refine lQ.loadI rfl rfl ?_
        refine lQ.loadN rfl rfl ?_
        refine lQ.get hR rfl (tf_6_6 hn) ?_
        rcases iteC hb7 with ⟨hc, hb7⟩ | ⟨hc, hb7⟩
        · refine lQ.cmpF rfl (decide_eq_false (Int32.not_le.mpr hc)) ?_
          refine lQ.loadN rfl rfl ?_
          refine lQ.get hR rfl (tf_6_20 hn) ?_
          refine lQ.loadI rfl rfl ?_
          refine lQ.push rfl ?_
          obtain ⟨s4, hx, hb7⟩ := bindC hb7
          refine lQ.ast hR rfl (tw_172 hn hx) ?_
          rintro _ rfl
          refine lQ.inc rfl rfl (lN2s rfl rfl) ?_
          refine lQ.goto rfl ?_
          obtain rfl := Option.some.inj hb7
          exact lQ.sub (lSb rfl (lSb rfl (lSb rfl (lSb rfl lSb0)))) (hI7 _ rfl)
        · refine lQ.cmpT rfl (decide_eq_true (Int32.not_lt.mp hc)) ?_
          obtain rfl := Option.some.inj hb7
          obtain rfl := hX7 _ rfl
          exact lQ.sub (lSb rfl (lSb rfl (lSb rfl lSb0))) hJ4
      refine lQ.sub (lSb rfl (lSb rfl (lSb rfl (lSb rfl (lSb rfl lSb0))))) (wh_run (P := fun p45 => lQ R E 3 cd_851 45 [(0, .ref (adr ad 6)), (1, .int v17), (2, .long p45.1), (4, .int p45.2.1), (5, .int p45.2.2)] [] (tp ad v39 A0) Z) hy3 ?_)
      intro p45 r8 hb8 hI8 hX8
      refine lQ.loadI rfl rfl ?_
      refine lQ.loadI rfl rfl ?_
      rcases iteC hb8 with ⟨hc, hb8⟩ | ⟨hc, hb8⟩
      · refine lQ.cmpF rfl (decide_eq_false (Int32.not_le.mpr hc)) ?_
        refine lQ.loadN rfl rfl ?_
        refine lQ.loadI rfl rfl ?_
        obtain ⟨x3, hx, hb8⟩ := bindC hb8
        refine lQ.callVL (F := (fun y A => x3 = y ∧ A = tp ad v39 A0)) (G := fun _ _ => False) (args := [.ref (adr ad 6), .int p45.2.2]) (r := []) hR rfl rfl rfl (Nat.le_of_ble_eq_true rfl) (Nat.le_of_ble_eq_true rfl) rfl (tk_6 hn rfl) (ts_861 hR hn hx (cL_mk ⟨rfl, rfl⟩)) ?_ (fun _ _ _ z => z.elim)
        rintro _ _ ⟨rfl, rfl⟩
        refine lQ.stL rfl (lN2s rfl rfl) rfl ?_
        refine lQ.loadL rfl rfl ?_
        refine lQ.loadL rfl rfl ?_
        refine lQ.lcmp rfl ?_
        obtain ⟨v59, hy9, h9⟩ := bindC hb8
        have hJ9 : lQ R E 3 cd_851 59 [(0, .ref (adr ad 6)), (1, .int v17), (2, .long p45.1), (5, .int p45.2.2), (6, .long x3)] [.int v59] (tp ad v39 A0) Z := by
          refine lQ.stI rfl (lN2n rfl) ?_
          refine lQ.loadL rfl rfl ?_
          refine lQ.loadL rfl rfl ?_
          refine lQ.lcmp rfl ?_
          obtain ⟨v67, hy10, h10⟩ := bindC h9
          have hJ10 : lQ R E 3 cd_851 67 [(0, .ref (adr ad 6)), (1, .int v17), (4, .int v59), (5, .int p45.2.2)] [.long v67] (tp ad v39 A0) Z := by
            refine lQ.stL rfl (lN2s rfl rfl) rfl ?_
            refine lQ.inc rfl rfl (lN2s rfl rfl) ?_
            refine lQ.goto rfl ?_
            obtain rfl := Option.some.inj h10
            exact lQ.sub (lSb rfl (lSb rfl (lSb rfl (lSb rfl (lSb rfl lSb0))))) (hI8 _ rfl)
          rcases iteC hy10 with ⟨hc, hy10⟩ | ⟨hc, hy10⟩
          · refine lQ.ifF rfl (decide_eq_false (Int32.not_le.mpr hc)) ?_
            refine lQ.loadL rfl rfl ?_
            refine lQ.goto rfl ?_
            obtain rfl := Option.some.inj hy10
            exact lQ.sub (lSb rfl (lSb rfl (lSb rfl (lSb rfl lSb0)))) hJ10
          · refine lQ.ifT rfl (decide_eq_true (Int32.not_lt.mp hc)) ?_
            refine lQ.loadL rfl rfl ?_
            obtain rfl := Option.some.inj hy10
            exact lQ.sub (lSb rfl (lSb rfl (lSb rfl (lSb rfl lSb0)))) hJ10
        rcases iteC hy9 with ⟨hc, hy9⟩ | ⟨hc, hy9⟩
        · refine lQ.ifF rfl (decide_eq_false (Int32.not_le.mpr hc)) ?_
          refine lQ.loadI rfl rfl ?_
          refine lQ.goto rfl ?_
          obtain rfl := Option.some.inj hy9
          exact lQ.sub (lSb rfl (lSb rfl (lSb rfl (lSb rfl (lSb rfl lSb0))))) hJ9
        · refine lQ.ifT rfl (decide_eq_true (Int32.not_lt.mp hc)) ?_
          refine lQ.loadI rfl rfl ?_
          obtain rfl := Option.some.inj hy9
          exact lQ.sub (lSb rfl (lSb rfl (lSb rfl (lSb rfl (lSb rfl lSb0))))) hJ9
      · refine lQ.cmpT rfl (decide_eq_true (Int32.not_lt.mp hc)) ?_
        obtain rfl := Option.some.inj hb8
        obtain rfl := hX8 _ rfl
        exact lQ.sub (lSb rfl (lSb rfl (lSb rfl lSb0))) hJ3
    refine lQ.sub (lSb rfl (lSb rfl (lSb rfl lSb0))) (wh_run (P := fun p19 => lQ R E 3 cd_851 19 [(0, .ref (adr ad 6)), (1, .int v17), (2, .int p19.2)] [] (tp ad p19.1 A0) Z) hy2 ?_)
    intro p19 r11 hb11 hI11 hX11
    refine lQ.loadI rfl rfl ?_
    refine lQ.loadN rfl rfl ?_
    refine lQ.get hR rfl (tf_6_0 hn) ?_
    rcases iteC hb11 with ⟨hc, hb11⟩ | ⟨hc, hb11⟩
    · refine lQ.cmpF rfl (decide_eq_false (Int32.not_le.mpr hc)) ?_
      refine lQ.push rfl ?_
      refine lQ.stI rfl (lN2s rfl rfl) ?_
      obtain ⟨v37, hy12, h12⟩ := bindC hb11
      have hJ12 : lQ R E 3 cd_851 37 [(0, .ref (adr ad 6)), (1, .int v17), (2, .int p19.2)] [] (tp ad v37 A0) Z := by
        refine lQ.inc rfl rfl (lN2s rfl rfl) ?_
        refine lQ.goto rfl ?_
        obtain rfl := Option.some.inj h12
        exact lQ.sub (lSb rfl (lSb rfl (lSb rfl lSb0))) (hI11 _ rfl)
      refine lQ.sub (lSb rfl (lSb rfl (lSb rfl (lSb rfl lSb0)))) (wh_run (P := fun p25 => lQ R E 3 cd_851 25 [(0, .ref (adr ad 6)), (1, .int v17), (2, .int p19.2), (3, .int p25.2)] [] (tp ad p25.1 A0) Z) hy12 ?_)
      intro p25 r13 hb13 hI13 hX13
      refine lQ.loadI rfl rfl ?_
      refine lQ.push rfl ?_
      refine lQ.loadN rfl rfl ?_
      refine lQ.get hR rfl (tf_6_14 hn) ?_
      refine lQ.binI rfl ?_
      rcases iteC hb13 with ⟨hc, hb13⟩ | ⟨hc, hb13⟩
      · refine lQ.cmpF rfl (decide_eq_false (Int32.not_le.mpr hc)) ?_
        refine lQ.loadN rfl rfl ?_
        refine lQ.loadI rfl rfl ?_
        refine lQ.loadI rfl rfl ?_
        obtain ⟨x2, hx, hb13⟩ := bindC hb13
        refine lQ.callVV (F := (fun A => A = tp ad x2 A0)) (G := fun _ _ => False) (args := [.ref (adr ad 6), .int p19.2, .int p25.2]) (r := []) hR rfl rfl rfl (Nat.le_of_ble_eq_true rfl) (Nat.le_of_ble_eq_true rfl) rfl (tk_6 hn rfl) (ts_854 hR hn hx (cV_mk rfl)) ?_ (fun _ _ _ z => z.elim)
        rintro _ rfl
        refine lQ.inc rfl rfl (lN2s rfl rfl) ?_
        refine lQ.goto rfl ?_
        obtain rfl := Option.some.inj hb13
        exact lQ.sub (lSb rfl (lSb rfl (lSb rfl (lSb rfl lSb0)))) (hI13 _ rfl)
      · refine lQ.cmpT rfl (decide_eq_true (Int32.not_lt.mp hc)) ?_
        obtain rfl := Option.some.inj hb13
        obtain rfl := hX13 _ rfl
        exact lQ.sub (lSb rfl (lSb rfl (lSb rfl lSb0))) hJ12
    · refine lQ.cmpT rfl (decide_eq_true (Int32.not_lt.mp hc)) ?_
      obtain rfl := Option.some.inj hb11
      obtain rfl := hX11 _ rfl
      exact lQ.sub (lSb rfl (lSb rfl lSb0)) hJ2
  refine lQ.sub (lSb rfl (lSb rfl (lSb rfl lSb0))) (wh_run (P := fun p6 => lQ R E 3 cd_851 6 [(0, .ref (adr ad 6)), (1, .int p6.1), (2, .int p6.2)] [] (tp ad x1 A0) Z) hy1 ?_)
  intro p6 r14 hb14 hI14 hX14
  refine lQ.loadI rfl rfl ?_
  refine lQ.loadN rfl rfl ?_
  refine lQ.get hR rfl (tf_6_14 hn) ?_
  rcases iteC hb14 with ⟨hc, hb14⟩ | ⟨hc, hb14⟩
  · refine lQ.cmpF rfl (decide_eq_false (Int32.not_le.mpr hc)) ?_
    refine lQ.loadI rfl rfl ?_
    refine lQ.loadN rfl rfl ?_
    refine lQ.get hR rfl (tf_6_0 hn) ?_
    refine lQ.binI rfl ?_
    refine lQ.stI rfl (lN2s rfl rfl) ?_
    refine lQ.inc rfl rfl (lN2s rfl rfl) ?_
    refine lQ.goto rfl ?_
    obtain rfl := Option.some.inj hb14
    exact lQ.sub (lSb rfl (lSb rfl (lSb rfl lSb0))) (hI14 _ rfl)
  · refine lQ.cmpT rfl (decide_eq_true (Int32.not_lt.mp hc)) ?_
    obtain rfl := Option.some.inj hb14
    obtain rfl := hX14 _ rfl
    exact lQ.sub (lSb rfl (lSb rfl lSb0)) hJ1
