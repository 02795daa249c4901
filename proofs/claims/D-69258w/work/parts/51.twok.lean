set_option maxRecDepth 100000
theorem ts_760 {R : lAR} (hR : lRok R) {E : lE} {ad : List Nat} (hn : tOk ad) {v1 : Int64} {v3 : Int64} {v5 : Int32} {s : TS} {A0 : lMem} {x : Int64 × TS} (h : t_760 v1 v3 v5 s = some x) {Z : lZ} (hz : Z (.inl (some (.long x.1))) (tp ad x.2 A0)) : lSQ R E 2 760 [.ref (adr ad 2), .long v1, .long v3, .int v5] (tp ad s A0) Z := by
  refine lQ.sq pg_760 (Nat.le_of_ble_eq_true rfl) rfl ?_
  unfold t_760 at h
  refine lQ.loadI rfl rfl ?_
  obtain ⟨v9, hy1, h1⟩ := bindC h
  have hJ1 : lQ R E 1 cd_760 9 [(0, .ref (adr ad 2)), (1, .long v1), (3, .long v3), (5, .int v5)] [.long v9] (tp ad s A0) Z := by
    refine lQ.stL rfl (lN2s rfl rfl) rfl ?_
    refine lQ.loadI rfl rfl ?_
    obtain ⟨v79, hy2, h2⟩ := bindC h1
    have hJ2 : lQ R E 1 cd_760 79 [(0, .ref (adr ad 2)), (6, .long v9)] [.int v79] (tp ad s A0) Z := by
      refine lQ.stI rfl (lN2n rfl) ?_
      refine lQ.loadI rfl rfl ?_
      rcases iteC h2 with ⟨hc, h2⟩ | ⟨hc, h2⟩
      · refine lQ.ifT rfl (decide_eq_true hc) ?_
        refine lQ.loadL rfl rfl ?_
        obtain rfl := Option.some.inj h2
        exact lQ.retL rfl hz
      · refine lQ.ifF rfl (decide_eq_false hc) ?_
        refine lQ.loadN rfl rfl ?_
        refine lQ.push rfl ?_
        refine lQ.push rfl ?_
        obtain ⟨x1, hx, h2⟩ := bindC h2
        refine lQ.callVV (F := (fun A => A = tp ad x1 A0)) (G := fun _ _ => False) (args := [.ref (adr ad 2), .int 2, .long 0]) (r := []) hR rfl rfl rfl (Nat.le_of_ble_eq_true rfl) (Nat.le_of_ble_eq_true rfl) rfl (tk_2 hn rfl) (ts_757 hR hn hx (cV_mk rfl)) ?_ (fun _ _ _ z => z.elim)
        rintro _ rfl
        refine lQ.loadL rfl rfl ?_
        obtain rfl := Option.some.inj h2
        exact lQ.retL rfl hz
    rcases iteC hy2 with ⟨hc, hy2⟩ | ⟨hc, hy2⟩
    · refine lQ.ifT rfl (decide_eq_true hc) ?_
      refine lQ.loadL rfl rfl ?_
      refine lQ.push rfl ?_
      refine lQ.lcmp rfl ?_
      obtain ⟨v53, hy3, h3⟩ := bindC hy2
      have hJ3 : lQ R E 1 cd_760 53 [(0, .ref (adr ad 2)), (1, .long v1), (3, .long v3), (6, .long v9)] [.int v53] (tp ad s A0) Z := by
        refine lQ.loadL rfl rfl ?_
        refine lQ.push rfl ?_
        refine lQ.lcmp rfl ?_
        obtain ⟨v60, hy4, h4⟩ := bindC h3
        have hJ4 : lQ R E 1 cd_760 60 [(0, .ref (adr ad 2)), (1, .long v1), (6, .long v9)] [.int v60, .int v53] (tp ad s A0) Z := by
          rcases iteC h4 with ⟨hc, h4⟩ | ⟨hc, h4⟩
          · refine lQ.cmpF rfl (decide_eq_false (fun z => z hc)) ?_
            refine lQ.loadL rfl rfl ?_
            refine lQ.push rfl ?_
            refine lQ.lcmp rfl ?_
            obtain ⟨v68, hy5, h5⟩ := bindC h4
            have hJ5 : lQ R E 1 cd_760 68 [(0, .ref (adr ad 2)), (1, .long v1), (6, .long v9)] [.int v68] (tp ad s A0) Z := by
              refine lQ.loadL rfl rfl ?_
              refine lQ.push rfl ?_
              refine lQ.lcmp rfl ?_
              obtain ⟨v75, hy6, h6⟩ := bindC h5
              have hJ6 : lQ R E 1 cd_760 75 [(0, .ref (adr ad 2)), (6, .long v9)] [.int v75, .int v68] (tp ad s A0) Z := by
                rcases iteC h6 with ⟨hc, h6⟩ | ⟨hc, h6⟩
                · refine lQ.cmpT rfl (decide_eq_true hc) ?_
                  refine lQ.push rfl ?_
                  obtain rfl := Option.some.inj h6
                  exact lQ.sub (lSb rfl (lSb rfl lSb0)) hJ2
                · refine lQ.cmpF rfl (decide_eq_false hc) ?_
                  refine lQ.push rfl ?_
                  refine lQ.goto rfl ?_
                  obtain rfl := Option.some.inj h6
                  exact lQ.sub (lSb rfl (lSb rfl lSb0)) hJ2
              rcases iteC hy6 with ⟨hc, hy6⟩ | ⟨hc, hy6⟩
              · refine lQ.ifF rfl (decide_eq_false (Int32.not_le.mpr hc)) ?_
                refine lQ.push rfl ?_
                refine lQ.goto rfl ?_
                obtain rfl := Option.some.inj hy6
                exact lQ.sub (lSb rfl (lSb rfl lSb0)) hJ6
              · refine lQ.ifT rfl (decide_eq_true (Int32.not_lt.mp hc)) ?_
                refine lQ.push rfl ?_
                obtain rfl := Option.some.inj hy6
                exact lQ.sub (lSb rfl (lSb rfl lSb0)) hJ6
            rcases iteC hy5 with ⟨hc, hy5⟩ | ⟨hc, hy5⟩
            · refine lQ.ifF rfl (decide_eq_false (Int32.not_le.mpr hc)) ?_
              refine lQ.push rfl ?_
              refine lQ.goto rfl ?_
              obtain rfl := Option.some.inj hy5
              exact lQ.sub (lSb rfl (lSb rfl (lSb rfl lSb0))) hJ5
            · refine lQ.ifT rfl (decide_eq_true (Int32.not_lt.mp hc)) ?_
              refine lQ.push rfl ?_
              obtain rfl := Option.some.inj hy5
              exact lQ.sub (lSb rfl (lSb rfl (lSb rfl lSb0))) hJ5
          · refine lQ.cmpT rfl (decide_eq_true hc) ?_
            refine lQ.push rfl ?_
            obtain rfl := Option.some.inj h4
            exact lQ.sub (lSb rfl (lSb rfl lSb0)) hJ2
        rcases iteC hy4 with ⟨hc, hy4⟩ | ⟨hc, hy4⟩
        · refine lQ.ifF rfl (decide_eq_false (Int32.not_le.mpr hc)) ?_
          refine lQ.push rfl ?_
          refine lQ.goto rfl ?_
          obtain rfl := Option.some.inj hy4
          exact lQ.sub (lSb rfl (lSb rfl (lSb rfl lSb0))) hJ4
        · refine lQ.ifT rfl (decide_eq_true (Int32.not_lt.mp hc)) ?_
          refine lQ.push rfl ?_
          obtain rfl := Option.some.inj hy4
          exact lQ.sub (lSb rfl (lSb rfl (lSb rfl lSb0))) hJ4
      rcases iteC hy3 with ⟨hc, hy3⟩ | ⟨hc, hy3⟩
      · refine lQ.ifF rfl (decide_eq_false (Int32.not_le.mpr hc)) ?_
        refine lQ.push rfl ?_
        refine lQ.goto rfl ?_
        obtain rfl := Option.some.inj hy3
        exact lQ.sub (lSb rfl (lSb rfl (lSb rfl (lSb rfl lSb0)))) hJ3
      · refine lQ.ifT rfl (decide_eq_true (Int32.not_lt.mp hc)) ?_
        refine lQ.push rfl ?_
        obtain rfl := Option.some.inj hy3
        exact lQ.sub (lSb rfl (lSb rfl (lSb rfl (lSb rfl lSb0)))) hJ3
    · refine lQ.ifF rfl (decide_eq_false hc) ?_
      refine lQ.loadL rfl rfl ?_
      refine lQ.push rfl ?_
      refine lQ.lcmp rfl ?_
      obtain ⟨v19, hy7, h7⟩ := bindC hy2
      have hJ7 : lQ R E 1 cd_760 19 [(0, .ref (adr ad 2)), (1, .long v1), (3, .long v3), (6, .long v9)] [.int v19] (tp ad s A0) Z := by
        refine lQ.loadL rfl rfl ?_
        refine lQ.push rfl ?_
        refine lQ.lcmp rfl ?_
        obtain ⟨v26, hy8, h8⟩ := bindC h7
        have hJ8 : lQ R E 1 cd_760 26 [(0, .ref (adr ad 2)), (1, .long v1), (6, .long v9)] [.int v26, .int v19] (tp ad s A0) Z := by
          rcases iteC h8 with ⟨hc, h8⟩ | ⟨hc, h8⟩
          · refine lQ.cmpT rfl (decide_eq_true hc) ?_
            refine lQ.push rfl ?_
            refine lQ.goto rfl ?_
            obtain rfl := Option.some.inj h8
            exact lQ.sub (lSb rfl (lSb rfl lSb0)) hJ2
          · refine lQ.cmpF rfl (decide_eq_false hc) ?_
            refine lQ.loadL rfl rfl ?_
            refine lQ.push rfl ?_
            refine lQ.lcmp rfl ?_
            obtain ⟨v34, hy9, h9⟩ := bindC h8
            have hJ9 : lQ R E 1 cd_760 34 [(0, .ref (adr ad 2)), (1, .long v1), (6, .long v9)] [.int v34] (tp ad s A0) Z := by
              refine lQ.loadL rfl rfl ?_
              refine lQ.push rfl ?_
              refine lQ.lcmp rfl ?_
              obtain ⟨v41, hy10, h10⟩ := bindC h9
              have hJ10 : lQ R E 1 cd_760 41 [(0, .ref (adr ad 2)), (6, .long v9)] [.int v41, .int v34] (tp ad s A0) Z := by
                rcases iteC h10 with ⟨hc, h10⟩ | ⟨hc, h10⟩
                · refine lQ.cmpT rfl (decide_eq_true hc) ?_
                  refine lQ.push rfl ?_
                  refine lQ.goto rfl ?_
                  obtain rfl := Option.some.inj h10
                  exact lQ.sub (lSb rfl (lSb rfl lSb0)) hJ2
                · refine lQ.cmpF rfl (decide_eq_false hc) ?_
                  refine lQ.push rfl ?_
                  refine lQ.goto rfl ?_
                  obtain rfl := Option.some.inj h10
                  exact lQ.sub (lSb rfl (lSb rfl lSb0)) hJ2
              rcases iteC hy10 with ⟨hc, hy10⟩ | ⟨hc, hy10⟩
              · refine lQ.ifF rfl (decide_eq_false (Int32.not_le.mpr hc)) ?_
                refine lQ.push rfl ?_
                refine lQ.goto rfl ?_
                obtain rfl := Option.some.inj hy10
                exact lQ.sub (lSb rfl (lSb rfl lSb0)) hJ10
              · refine lQ.ifT rfl (decide_eq_true (Int32.not_lt.mp hc)) ?_
                refine lQ.push rfl ?_
                obtain rfl := Option.some.inj hy10
                exact lQ.sub (lSb rfl (lSb rfl lSb0)) hJ10
            rcases iteC hy9 with ⟨hc, hy9⟩ | ⟨hc, hy9⟩
            · refine lQ.ifF rfl (decide_eq_false (Int32.not_le.mpr hc)) ?_
              refine lQ.push rfl ?_
              refine lQ.goto rfl ?_
              obtain rfl := Option.some.inj hy9
              exact lQ.sub (lSb rfl (lSb rfl (lSb rfl lSb0))) hJ9
            · refine lQ.ifT rfl (decide_eq_true (Int32.not_lt.mp hc)) ?_
              refine lQ.push rfl ?_
              obtain rfl := Option.some.inj hy9
              exact lQ.sub (lSb rfl (lSb rfl (lSb rfl lSb0))) hJ9
        rcases iteC hy8 with ⟨hc, hy8⟩ | ⟨hc, hy8⟩
        · refine lQ.ifF rfl (decide_eq_false (Int32.not_le.mpr hc)) ?_
          refine lQ.push rfl ?_
          refine lQ.goto rfl ?_
          obtain rfl := Option.some.inj hy8
          exact lQ.sub (lSb rfl (lSb rfl (lSb rfl lSb0))) hJ8
        · refine lQ.ifT rfl (decide_eq_true (Int32.not_lt.mp hc)) ?_
          refine lQ.push rfl ?_
          obtain rfl := Option.some.inj hy8
          exact lQ.sub (lSb rfl (lSb rfl (lSb rfl lSb0))) hJ8
      rcases iteC hy7 with ⟨hc, hy7⟩ | ⟨hc, hy7⟩
      · refine lQ.ifF rfl (decide_eq_false (Int32.not_le.mpr hc)) ?_
        refine lQ.push rfl ?_
        refine lQ.goto rfl ?_
        obtain rfl := Option.some.inj hy7
        exact lQ.sub (lSb rfl (lSb rfl (lSb rfl (lSb rfl lSb0)))) hJ7
      · refine lQ.ifT rfl (decide_eq_true (Int32.not_lt.mp hc)) ?_
        refine lQ.push rfl ?_
        obtain rfl := Option.some.inj hy7
        exact lQ.sub (lSb rfl (lSb rfl (lSb rfl (lSb rfl lSb0)))) hJ7
  rcases iteC hy1 with ⟨hc, hy1⟩ | ⟨hc, hy1⟩
  · refine lQ.ifT rfl (decide_eq_true hc) ?_
    refine lQ.loadL rfl rfl ?_
    refine lQ.loadL rfl rfl ?_
    refine lQ.binL rfl ?_
    obtain rfl := Option.some.inj hy1
    exact lQ.sub (lSb rfl (lSb rfl (lSb rfl (lSb rfl lSb0)))) hJ1
  · refine lQ.ifF rfl (decide_eq_false hc) ?_
    refine lQ.loadL rfl rfl ?_
    refine lQ.loadL rfl rfl ?_
    refine lQ.binL rfl ?_
    refine lQ.goto rfl ?_
    obtain rfl := Option.some.inj hy1
    exact lQ.sub (lSb rfl (lSb rfl (lSb rfl (lSb rfl lSb0)))) hJ1
theorem ts_758 {R : lAR} (hR : lRok R) {E : lE} {ad : List Nat} (hn : tOk ad) {v1 : Int32} {s : TS} {A0 : lMem} {x : TS} (h : t_758 v1 s = some x) {Z : lZ} (hz : Z (.inl none) (tp ad x A0)) : lSQ R E 3 758 [.ref (adr ad 2), .int v1] (tp ad s A0) Z := by
  refine lQ.sq pg_758 (Nat.le_of_ble_eq_true rfl) rfl ?_
  unfold t_758 at h
  refine lQ.loadN rfl rfl ?_
  refine lQ.dupN rfl ?_
  refine lQ.get hR rfl (tf_2_39 hn) ?_
  refine lQ.push rfl ?_
  refine lQ.binI rfl ?_
  obtain ⟨s1, hx, h⟩ := bindC h
  refine lQ.put hR rfl rfl (tq_2_39 hn hx) ?_
  rintro _ rfl
  refine lQ.loadN rfl rfl ?_
  refine lQ.get hR rfl (tf_2_37 hn) ?_
  refine lQ.loadN rfl rfl ?_
  refine lQ.get hR rfl (tf_2_39 hn) ?_
  obtain ⟨x2, hx, h⟩ := bindC h
  refine lQ.ald hR rfl (ta_97 hn hx) ?_
  refine lQ.stL rfl (lN2s rfl rfl) rfl ?_
  refine lQ.loadN rfl rfl ?_
  refine lQ.get hR rfl (tf_2_38 hn) ?_
  refine lQ.loadN rfl rfl ?_
  refine lQ.get hR rfl (tf_2_39 hn) ?_
  obtain ⟨x3, hx, h⟩ := bindC h
  refine lQ.ald hR rfl (ta_98 hn hx) ?_
  refine lQ.stL rfl (lN2n rfl) rfl ?_
  refine lQ.loadN rfl rfl ?_
  refine lQ.get hR rfl (tf_2_37 hn) ?_
  refine lQ.loadN rfl rfl ?_
  refine lQ.get hR rfl (tf_2_39 hn) ?_
  refine lQ.push rfl ?_
  refine lQ.binI rfl ?_
  obtain ⟨x4, hx, h⟩ := bindC h
  refine lQ.ald hR rfl (ta_97 hn hx) ?_
  refine lQ.stL rfl (lN2n rfl) rfl ?_
  refine lQ.loadN rfl rfl ?_
  refine lQ.get hR rfl (tf_2_38 hn) ?_
  refine lQ.loadN rfl rfl ?_
  refine lQ.get hR rfl (tf_2_39 hn) ?_
  refine lQ.push rfl ?_
  refine lQ.binI rfl ?_
  obtain ⟨x5, hx, h⟩ := bindC h
  refine lQ.ald hR rfl (ta_98 hn hx) ?_
  refine lQ.stL rfl (lN2n rfl) rfl ?_
  refine lQ.loadI rfl rfl ?_
  refine lQ.push rfl ?_
  obtain ⟨y1, hy1, h1⟩ := bindC h
  have hJ1 : ∀ v50, y1 = .inl v50 → lQ R E 2 cd_758 50 [(0, .ref (adr ad 2)), (1, .int v1), (2, .long x2), (4, .long x3), (6, .long x4), (8, .long x5)] [] (tp ad s1 A0) Z := by
    rintro v50 rfl
    have h1 := elimC h1
    refine lQ.loadI rfl rfl ?_
    refine lQ.push rfl ?_
    rcases iteC h1 with ⟨hc, h1⟩ | ⟨hc, h1⟩
    · refine lQ.cmpF rfl (decide_eq_false (Int32.not_le.mpr hc)) ?_
      refine lQ.loadN rfl rfl ?_
      refine lQ.loadN rfl rfl ?_
      refine lQ.loadL rfl rfl ?_
      refine lQ.loadI rfl rfl ?_
      refine lQ.push rfl ?_
      obtain ⟨v62, hy2, h2⟩ := bindC h1
      have hJ2 : lQ R E 2 cd_758 62 [(0, .ref (adr ad 2)), (1, .int v1), (4, .long x3), (6, .long x4), (8, .long x5)] [.long v62, .long x2, .ref (adr ad 2), .ref (adr ad 2)] (tp ad s1 A0) Z := by
        obtain ⟨x13, hx, h2⟩ := bindC h2
        refine lQ.callVL (F := (fun y A => x13.1 = y ∧ A = tp ad x13.2 A0)) (G := fun _ _ => False) (args := [.ref (adr ad 2), .long x2, .long v62]) (r := [.ref (adr ad 2)]) hR rfl rfl rfl (Nat.le_of_ble_eq_true rfl) (Nat.le_of_ble_eq_true rfl) rfl (tk_2 hn rfl) (ts_759 hR hn hx (cL_mk ⟨rfl, rfl⟩)) ?_ (fun _ _ _ z => z.elim)
        rintro _ _ ⟨rfl, rfl⟩
        refine lQ.loadN rfl rfl ?_
        refine lQ.loadL rfl rfl ?_
        refine lQ.loadI rfl rfl ?_
        refine lQ.push rfl ?_
        obtain ⟨v71, hy3, h3⟩ := bindC h2
        have hJ3 : lQ R E 2 cd_758 71 [] [.long v71, .long x3, .ref (adr ad 2), .long x13.1, .ref (adr ad 2)] (tp ad x13.2 A0) Z := by
          obtain ⟨x14, hx, h3⟩ := bindC h3
          refine lQ.callVL (F := (fun y A => x14.1 = y ∧ A = tp ad x14.2 A0)) (G := fun _ _ => False) (args := [.ref (adr ad 2), .long x3, .long v71]) (r := [.long x13.1, .ref (adr ad 2)]) hR rfl rfl rfl (Nat.le_of_ble_eq_true rfl) (Nat.le_of_ble_eq_true rfl) rfl (tk_2 hn rfl) (ts_759 hR hn hx (cL_mk ⟨rfl, rfl⟩)) ?_ (fun _ _ _ z => z.elim)
          rintro _ _ ⟨rfl, rfl⟩
          obtain ⟨x15, hx, h3⟩ := bindC h3
          refine lQ.callVV (F := (fun A => A = tp ad x15 A0)) (G := fun _ _ => False) (args := [.ref (adr ad 2), .long x13.1, .long x14.1]) (r := []) hR rfl rfl rfl (Nat.le_of_ble_eq_true rfl) (Nat.le_of_ble_eq_true rfl) rfl (tk_2 hn rfl) (ts_756 hR hn hx (cV_mk rfl)) ?_ (fun _ _ _ z => z.elim)
          rintro _ rfl
          refine lQ.goto rfl ?_
          obtain rfl := Option.some.inj h3
          exact lQ.retV rfl hz
        rcases iteC hy3 with ⟨hc, hy3⟩ | ⟨hc, hy3⟩
        · refine lQ.cmpF rfl (decide_eq_false (fun z => z hc)) ?_
          refine lQ.loadL rfl rfl ?_
          refine lQ.goto rfl ?_
          obtain rfl := Option.some.inj hy3
          exact lQ.sub lSb0 hJ3
        · refine lQ.cmpT rfl (decide_eq_true hc) ?_
          refine lQ.loadL rfl rfl ?_
          obtain rfl := Option.some.inj hy3
          exact lQ.sub lSb0 hJ3
      rcases iteC hy2 with ⟨hc, hy2⟩ | ⟨hc, hy2⟩
      · refine lQ.cmpF rfl (decide_eq_false (fun z => z hc)) ?_
        refine lQ.loadL rfl rfl ?_
        refine lQ.goto rfl ?_
        obtain rfl := Option.some.inj hy2
        exact lQ.sub (lSb rfl (lSb rfl (lSb rfl (lSb rfl (lSb rfl lSb0))))) hJ2
      · refine lQ.cmpT rfl (decide_eq_true hc) ?_
        refine lQ.loadL rfl rfl ?_
        obtain rfl := Option.some.inj hy2
        exact lQ.sub (lSb rfl (lSb rfl (lSb rfl (lSb rfl (lSb rfl lSb0))))) hJ2
    · refine lQ.cmpT rfl (decide_eq_true (Int32.not_lt.mp hc)) ?_
      refine lQ.loadN rfl rfl ?_
      refine lQ.loadN rfl rfl ?_
      refine lQ.loadN rfl rfl ?_
      refine lQ.loadL rfl rfl ?_
      refine lQ.loadL rfl rfl ?_
      obtain ⟨x8, hx, h1⟩ := bindC h1
      refine lQ.callVL (F := (fun y A => x8.1 = y ∧ A = tp ad x8.2 A0)) (G := fun _ _ => False) (args := [.ref (adr ad 2), .long x2, .long x5]) (r := [.ref (adr ad 2), .ref (adr ad 2)]) hR rfl rfl rfl (Nat.le_of_ble_eq_true rfl) (Nat.le_of_ble_eq_true rfl) rfl (tk_2 hn rfl) (ts_759 hR hn hx (cL_mk ⟨rfl, rfl⟩)) ?_ (fun _ _ _ z => z.elim)
      rintro _ _ ⟨rfl, rfl⟩
      refine lQ.loadN rfl rfl ?_
      refine lQ.loadL rfl rfl ?_
      refine lQ.loadL rfl rfl ?_
      obtain ⟨x9, hx, h1⟩ := bindC h1
      refine lQ.callVL (F := (fun y A => x9.1 = y ∧ A = tp ad x9.2 A0)) (G := fun _ _ => False) (args := [.ref (adr ad 2), .long x4, .long x3]) (r := [.long x8.1, .ref (adr ad 2), .ref (adr ad 2)]) hR rfl rfl rfl (Nat.le_of_ble_eq_true rfl) (Nat.le_of_ble_eq_true rfl) rfl (tk_2 hn rfl) (ts_759 hR hn hx (cL_mk ⟨rfl, rfl⟩)) ?_ (fun _ _ _ z => z.elim)
      rintro _ _ ⟨rfl, rfl⟩
      refine lQ.loadI rfl rfl ?_
      refine lQ.push rfl ?_
      obtain ⟨v90, hy4, h4⟩ := bindC h1
      have hJ4 : lQ R E 2 cd_758 90 [(0, .ref (adr ad 2)), (4, .long x3), (8, .long x5)] [.int v90, .long x9.1, .long x8.1, .ref (adr ad 2), .ref (adr ad 2)] (tp ad x9.2 A0) Z := by
        obtain ⟨x10, hx, h4⟩ := bindC h4
        refine lQ.callVL (F := (fun y A => x10.1 = y ∧ A = tp ad x10.2 A0)) (G := fun _ _ => False) (args := [.ref (adr ad 2), .long x8.1, .long x9.1, .int v90]) (r := [.ref (adr ad 2)]) hR rfl rfl rfl (Nat.le_of_ble_eq_true rfl) (Nat.le_of_ble_eq_true rfl) rfl (tk_2 hn rfl) (ts_760 hR hn hx (cL_mk ⟨rfl, rfl⟩)) ?_ (fun _ _ _ z => z.elim)
        rintro _ _ ⟨rfl, rfl⟩
        refine lQ.loadN rfl rfl ?_
        refine lQ.loadL rfl rfl ?_
        refine lQ.loadL rfl rfl ?_
        obtain ⟨x11, hx, h4⟩ := bindC h4
        refine lQ.callVL (F := (fun y A => x11.1 = y ∧ A = tp ad x11.2 A0)) (G := fun _ _ => False) (args := [.ref (adr ad 2), .long x3, .long x5]) (r := [.long x10.1, .ref (adr ad 2)]) hR rfl rfl rfl (Nat.le_of_ble_eq_true rfl) (Nat.le_of_ble_eq_true rfl) rfl (tk_2 hn rfl) (ts_759 hR hn hx (cL_mk ⟨rfl, rfl⟩)) ?_ (fun _ _ _ z => z.elim)
        rintro _ _ ⟨rfl, rfl⟩
        obtain ⟨x12, hx, h4⟩ := bindC h4
        refine lQ.callVV (F := (fun A => A = tp ad x12 A0)) (G := fun _ _ => False) (args := [.ref (adr ad 2), .long x10.1, .long x11.1]) (r := []) hR rfl rfl rfl (Nat.le_of_ble_eq_true rfl) (Nat.le_of_ble_eq_true rfl) rfl (tk_2 hn rfl) (ts_756 hR hn hx (cV_mk rfl)) ?_ (fun _ _ _ z => z.elim)
        rintro _ rfl
        obtain rfl := Option.some.inj h4
        exact lQ.retV rfl hz
      rcases iteC hy4 with ⟨hc, hy4⟩ | ⟨hc, hy4⟩
      · refine lQ.cmpF rfl (decide_eq_false (fun z => z hc)) ?_
        refine lQ.push rfl ?_
        refine lQ.goto rfl ?_
        obtain rfl := Option.some.inj hy4
        exact lQ.sub (lSb rfl (lSb rfl (lSb rfl lSb0))) hJ4
      · refine lQ.cmpT rfl (decide_eq_true hc) ?_
        refine lQ.push rfl ?_
        obtain rfl := Option.some.inj hy4
        exact lQ.sub (lSb rfl (lSb rfl (lSb rfl lSb0))) hJ4
  rcases iteC hy1 with ⟨hc, hy1⟩ | ⟨hc, hy1⟩
  · refine lQ.cmpF rfl (decide_eq_false (fun z => z hc)) ?_
    refine lQ.loadL rfl rfl ?_
    refine lQ.push rfl ?_
    refine lQ.lcmp rfl ?_
    rcases iteC hy1 with ⟨hc, hy1⟩ | ⟨hc, hy1⟩
    · refine lQ.ifF rfl (decide_eq_false (fun z => z hc)) ?_
      refine lQ.loadN rfl rfl ?_
      refine lQ.push rfl ?_
      refine lQ.push rfl ?_
      obtain ⟨x6, hx, hy1⟩ := bindC hy1
      refine lQ.callVV (F := (fun A => A = tp ad x6 A0)) (G := fun _ _ => False) (args := [.ref (adr ad 2), .int 3, .long 0]) (r := []) hR rfl rfl rfl (Nat.le_of_ble_eq_true rfl) (Nat.le_of_ble_eq_true rfl) rfl (tk_2 hn rfl) (ts_757 hR hn hx (cV_mk rfl)) ?_ (fun _ _ _ z => z.elim)
      rintro _ rfl
      refine lQ.loadN rfl rfl ?_
      refine lQ.push rfl ?_
      refine lQ.push rfl ?_
      obtain ⟨x7, hx, hy1⟩ := bindC hy1
      refine lQ.callVV (F := (fun A => A = tp ad x7 A0)) (G := fun _ _ => False) (args := [.ref (adr ad 2), .long 0, .long 1]) (r := []) hR rfl rfl rfl (Nat.le_of_ble_eq_true rfl) (Nat.le_of_ble_eq_true rfl) rfl (tk_2 hn rfl) (ts_756 hR hn hx (cV_mk rfl)) ?_ (fun _ _ _ z => z.elim)
      rintro _ rfl
      refine lQ.goto rfl ?_
      obtain rfl := Option.some.inj hy1
      obtain rfl := elimD h1
      exact lQ.retV rfl hz
    · refine lQ.ifT rfl (decide_eq_true hc) ?_
      obtain rfl := Option.some.inj hy1
      exact lQ.sub (lSb rfl (lSb rfl (lSb rfl (lSb rfl (lSb rfl (lSb rfl lSb0)))))) (hJ1 _ rfl)
  · refine lQ.cmpT rfl (decide_eq_true hc) ?_
    obtain rfl := Option.some.inj hy1
    exact lQ.sub (lSb rfl (lSb rfl (lSb rfl (lSb rfl (lSb rfl (lSb rfl lSb0)))))) (hJ1 _ rfl)
theorem ts_755 {R : lAR} (hR : lRok R) {E : lE} {ad : List Nat} (hn : tOk ad) {v1 : Int32} {v2 : Int32} {s : TS} {A0 : lMem} {x : TS} (h : t_755 v1 v2 s = some x) {Z : lZ} (hz : Z (.inl none) (tp ad x A0)) : lSQ R E 4 755 [.ref (adr ad 2), .int v1, .int v2] (tp ad s A0) Z := by
  refine lQ.sq pg_755 (Nat.le_of_ble_eq_true rfl) rfl ?_
  unfold t_755 at h
  refine lQ.loadN rfl rfl ?_
  refine lQ.push rfl ?_
  obtain ⟨s1, hx, h⟩ := bindC h
  refine lQ.put hR rfl rfl (tq_2_39 hn hx) ?_
  rintro _ rfl
  refine lQ.loadI rfl rfl ?_
  refine lQ.stI rfl (lN2s rfl rfl) ?_
  obtain ⟨v64, hy1, h1⟩ := bindC h
  have hJ1 : lQ R E 3 cd_755 64 [] [] (tp ad v64 A0) Z := by
    obtain rfl := Option.some.inj h1
    exact lQ.retV rfl hz
  refine lQ.sub (lSb rfl (lSb rfl (lSb rfl lSb0))) (wh_run (P := fun p5 => lQ R E 3 cd_755 5 [(0, .ref (adr ad 2)), (2, .int v2), (3, .int p5.2)] [] (tp ad p5.1 A0) Z) hy1 ?_)
  intro p5 r2 hb2 hI2 hX2
  refine lQ.loadI rfl rfl ?_
  refine lQ.loadI rfl rfl ?_
  rcases iteC hb2 with ⟨hc, hb2⟩ | ⟨hc, hb2⟩
  · refine lQ.cmpF rfl (decide_eq_false (Int32.not_le.mpr hc)) ?_
    refine lQ.loadN rfl rfl ?_
    refine lQ.get hR rfl (tf_2_40 hn) ?_
    rcases iteC hb2 with ⟨hc, hb2⟩ | ⟨hc, hb2⟩
    · refine lQ.ifF rfl (decide_eq_false (fun z => z hc)) ?_
      refine lQ.loadN rfl rfl ?_
      refine lQ.get hR rfl (tf_2_16 hn) ?_
      refine lQ.loadI rfl rfl ?_
      obtain ⟨x2, hx, hb2⟩ := bindC hb2
      refine lQ.ald hR rfl (ta_87 hn hx) ?_
      obtain ⟨v62, hy3, h3⟩ := bindC hb2
      have hJ3 : lQ R E 3 cd_755 62 [(0, .ref (adr ad 2)), (2, .int v2), (3, .int p5.2)] [] (tp ad v62 A0) Z := by
        refine lQ.inc rfl rfl (lN2s rfl rfl) ?_
        refine lQ.goto rfl ?_
        obtain rfl := Option.some.inj h3
        exact lQ.sub (lSb rfl (lSb rfl (lSb rfl lSb0))) (hI2 _ rfl)
      rcases iteC hy3 with ⟨hc, hy3⟩ | ⟨hc, hy3⟩
      · refine lQ.ifF rfl (decide_eq_false (fun z => z hc)) ?_
        refine lQ.loadN rfl rfl ?_
        refine lQ.loadN rfl rfl ?_
        refine lQ.get hR rfl (tf_2_17 hn) ?_
        refine lQ.loadI rfl rfl ?_
        obtain ⟨x12, hx, hy3⟩ := bindC hy3
        refine lQ.ald hR rfl (ta_88 hn hx) ?_
        refine lQ.push rfl ?_
        obtain ⟨x13, hx, hy3⟩ := bindC hy3
        refine lQ.callVV (F := (fun A => A = tp ad x13 A0)) (G := fun _ _ => False) (args := [.ref (adr ad 2), .long x12, .long 1]) (r := []) hR rfl rfl rfl (Nat.le_of_ble_eq_true rfl) (Nat.le_of_ble_eq_true rfl) rfl (tk_2 hn rfl) (ts_756 hR hn hx (cV_mk rfl)) ?_ (fun _ _ _ z => z.elim)
        rintro _ rfl
        refine lQ.goto rfl ?_
        obtain rfl := Option.some.inj hy3
        exact lQ.sub (lSb rfl (lSb rfl (lSb rfl lSb0))) hJ3
      · refine lQ.ifT rfl (decide_eq_true hc) ?_
        refine lQ.loadN rfl rfl ?_
        refine lQ.get hR rfl (tf_2_16 hn) ?_
        refine lQ.loadI rfl rfl ?_
        obtain ⟨x3, hx, hy3⟩ := bindC hy3
        refine lQ.ald hR rfl (ta_87 hn hx) ?_
        refine lQ.push rfl ?_
        rcases iteC hy3 with ⟨hc, hy3⟩ | ⟨hc, hy3⟩
        · refine lQ.cmpF rfl (decide_eq_false (fun z => z hc)) ?_
          refine lQ.loadN rfl rfl ?_
          refine lQ.loadN rfl rfl ?_
          refine lQ.get hR rfl (tf_2_17 hn) ?_
          refine lQ.loadI rfl rfl ?_
          obtain ⟨x6, hx, hy3⟩ := bindC hy3
          refine lQ.ald hR rfl (ta_88 hn hx) ?_
          obtain ⟨x7, hx, hy3⟩ := bindC hy3
          refine lQ.callVI (F := (fun y A => x7 = y ∧ A = tp ad p5.1 A0)) (G := fun _ _ => False) (args := [.ref (adr ad 2), .long x6]) (r := []) hR rfl rfl rfl (Nat.le_of_ble_eq_true rfl) (Nat.le_of_ble_eq_true rfl) rfl (tk_2 hn rfl) (ts_750 hR hn hx (cI_mk ⟨rfl, rfl⟩)) ?_ (fun _ _ _ z => z.elim)
          rintro _ _ ⟨rfl, rfl⟩
          refine lQ.stI rfl (lN2s rfl rfl) ?_
          refine lQ.loadI rfl rfl ?_
          rcases iteC hy3 with ⟨hc, hy3⟩ | ⟨hc, hy3⟩
          · refine lQ.ifF rfl (decide_eq_false (Int32.not_le.mpr hc)) ?_
            refine lQ.loadN rfl rfl ?_
            refine lQ.push rfl ?_
            refine lQ.loadN rfl rfl ?_
            refine lQ.get hR rfl (tf_2_17 hn) ?_
            refine lQ.loadI rfl rfl ?_
            obtain ⟨x10, hx, hy3⟩ := bindC hy3
            refine lQ.ald hR rfl (ta_88 hn hx) ?_
            obtain ⟨x11, hx, hy3⟩ := bindC hy3
            refine lQ.callVV (F := (fun A => A = tp ad x11 A0)) (G := fun _ _ => False) (args := [.ref (adr ad 2), .int 1, .long x10]) (r := []) hR rfl rfl rfl (Nat.le_of_ble_eq_true rfl) (Nat.le_of_ble_eq_true rfl) rfl (tk_2 hn rfl) (ts_757 hR hn hx (cV_mk rfl)) ?_ (fun _ _ _ z => z.elim)
            rintro _ rfl
            refine lQ.goto rfl ?_
            refine lQ.goto rfl ?_
            obtain rfl := Option.some.inj hy3
            exact lQ.sub (lSb rfl (lSb rfl (lSb rfl lSb0))) hJ3
          · refine lQ.ifT rfl (decide_eq_true (Int32.not_lt.mp hc)) ?_
            refine lQ.loadN rfl rfl ?_
            refine lQ.loadN rfl rfl ?_
            refine lQ.get hR rfl (tf_2_4 hn) ?_
            refine lQ.loadI rfl rfl ?_
            obtain ⟨x8, hx, hy3⟩ := bindC hy3
            refine lQ.ald hR rfl (ta_78 hn hx) ?_
            refine lQ.i2l rfl ?_
            refine lQ.push rfl ?_
            obtain ⟨x9, hx, hy3⟩ := bindC hy3
            refine lQ.callVV (F := (fun A => A = tp ad x9 A0)) (G := fun _ _ => False) (args := [.ref (adr ad 2), .long x8.toInt64, .long 1]) (r := []) hR rfl rfl rfl (Nat.le_of_ble_eq_true rfl) (Nat.le_of_ble_eq_true rfl) rfl (tk_2 hn rfl) (ts_756 hR hn hx (cV_mk rfl)) ?_ (fun _ _ _ z => z.elim)
            rintro _ rfl
            refine lQ.goto rfl ?_
            obtain rfl := Option.some.inj hy3
            exact lQ.sub (lSb rfl (lSb rfl (lSb rfl lSb0))) hJ3
        · refine lQ.cmpT rfl (decide_eq_true hc) ?_
          refine lQ.loadN rfl rfl ?_
          refine lQ.loadN rfl rfl ?_
          refine lQ.get hR rfl (tf_2_16 hn) ?_
          refine lQ.loadI rfl rfl ?_
          obtain ⟨x4, hx, hy3⟩ := bindC hy3
          refine lQ.ald hR rfl (ta_87 hn hx) ?_
          obtain ⟨x5, hx, hy3⟩ := bindC hy3
          refine lQ.callVV (F := (fun A => A = tp ad x5 A0)) (G := fun _ _ => False) (args := [.ref (adr ad 2), .int x4]) (r := []) hR rfl rfl rfl (Nat.le_of_ble_eq_true rfl) (Nat.le_of_ble_eq_true rfl) rfl (tk_2 hn rfl) (ts_758 hR hn hx (cV_mk rfl)) ?_ (fun _ _ _ z => z.elim)
          rintro _ rfl
          obtain rfl := Option.some.inj hy3
          exact lQ.sub (lSb rfl (lSb rfl (lSb rfl lSb0))) hJ3
    · refine lQ.ifT rfl (decide_eq_true hc) ?_
      obtain rfl := Option.some.inj hb2
      obtain rfl := hX2 _ rfl
      exact lQ.sub lSb0 hJ1
  · refine lQ.cmpT rfl (decide_eq_true (Int32.not_lt.mp hc)) ?_
    obtain rfl := Option.some.inj hb2
    obtain rfl := hX2 _ rfl
    exact lQ.sub lSb0 hJ1
theorem ts_754 {R : lAR} (hR : lRok R) {E : lE} {ad : List Nat} (hn : tOk ad) {v1 : Int32} {v2 : Int32} {s : TS} {A0 : lMem} {x : Int32 × TS} (h : t_754 v1 v2 s = some x) {Z : lZ} (hz : Z (.inl (some (.int x.1))) (tp ad x.2 A0)) : lSQ R E 5 754 [.ref (adr ad 2), .int v1, .int v2] (tp ad s A0) Z := by
  refine lQ.sq pg_754 (Nat.le_of_ble_eq_true rfl) rfl ?_
  unfold t_754 at h
  refine lQ.loadN rfl rfl ?_
  refine lQ.loadN rfl rfl ?_
  refine lQ.get hR rfl (tf_2_11 hn) ?_
  refine lQ.loadI rfl rfl ?_
  obtain ⟨x1, hx, h⟩ := bindC h
  refine lQ.ald hR rfl (ta_83 hn hx) ?_
  refine lQ.loadN rfl rfl ?_
  refine lQ.get hR rfl (tf_2_12 hn) ?_
  refine lQ.loadI rfl rfl ?_
  obtain ⟨x2, hx, h⟩ := bindC h
  refine lQ.ald hR rfl (ta_84 hn hx) ?_
  obtain ⟨x3, hx, h⟩ := bindC h
  refine lQ.callVV (F := (fun A => A = tp ad x3 A0)) (G := fun _ _ => False) (args := [.ref (adr ad 2), .int x1, .int x2]) (r := []) hR rfl rfl rfl (Nat.le_of_ble_eq_true rfl) (Nat.le_of_ble_eq_true rfl) rfl (tk_2 hn rfl) (ts_755 hR hn hx (cV_mk rfl)) ?_ (fun _ _ _ z => z.elim)
  rintro _ rfl
  refine lQ.loadN rfl rfl ?_
  refine lQ.get hR rfl (tf_2_40 hn) ?_
  rcases iteC h with ⟨hc, h⟩ | ⟨hc, h⟩
  · refine lQ.ifF rfl (decide_eq_false (Int32.not_le.mpr hc)) ?_
    refine lQ.push rfl ?_
    obtain rfl := Option.some.inj h
    exact lQ.retI rfl rfl hz
  · refine lQ.ifT rfl (decide_eq_true (Int32.not_lt.mp hc)) ?_
    refine lQ.loadN rfl rfl ?_
    refine lQ.loadN rfl rfl ?_
    refine lQ.get hR rfl (tf_2_37 hn) ?_
    refine lQ.push rfl ?_
    obtain ⟨x4, hx, h⟩ := bindC h
    refine lQ.ald hR rfl (ta_97 hn hx) ?_
    obtain ⟨s5, hx, h⟩ := bindC h
    refine lQ.put hR rfl rfl (tq_2_42 hn hx) ?_
    rintro _ rfl
    refine lQ.loadN rfl rfl ?_
    refine lQ.loadN rfl rfl ?_
    refine lQ.get hR rfl (tf_2_38 hn) ?_
    refine lQ.push rfl ?_
    obtain ⟨x6, hx, h⟩ := bindC h
    refine lQ.ald hR rfl (ta_98 hn hx) ?_
    obtain ⟨s7, hx, h⟩ := bindC h
    refine lQ.put hR rfl rfl (tq_2_43 hn hx) ?_
    rintro _ rfl
    refine lQ.loadI rfl rfl ?_
    obtain ⟨v41, hy1, h1⟩ := bindC h
    have hJ1 : lQ R E 4 cd_754 41 [(0, .ref (adr ad 2)), (1, .int v1), (2, .int v2)] [] (tp ad v41 A0) Z := by
      refine lQ.loadN rfl rfl ?_
      refine lQ.loadN rfl rfl ?_
      refine lQ.get hR rfl (tf_2_12 hn) ?_
      refine lQ.loadI rfl rfl ?_
      obtain ⟨x10, hx, h1⟩ := bindC h1
      refine lQ.ald hR rfl (ta_84 hn hx) ?_
      refine lQ.loadN rfl rfl ?_
      refine lQ.get hR rfl (tf_2_13 hn) ?_
      refine lQ.loadI rfl rfl ?_
      obtain ⟨x11, hx, h1⟩ := bindC h1
      refine lQ.ald hR rfl (ta_85 hn hx) ?_
      obtain ⟨x12, hx, h1⟩ := bindC h1
      refine lQ.callVV (F := (fun A => A = tp ad x12 A0)) (G := fun _ _ => False) (args := [.ref (adr ad 2), .int x10, .int x11]) (r := []) hR rfl rfl rfl (Nat.le_of_ble_eq_true rfl) (Nat.le_of_ble_eq_true rfl) rfl (tk_2 hn rfl) (ts_755 hR hn hx (cV_mk rfl)) ?_ (fun _ _ _ z => z.elim)
      rintro _ rfl
      refine lQ.loadN rfl rfl ?_
      refine lQ.get hR rfl (tf_2_40 hn) ?_
      rcases iteC h1 with ⟨hc, h1⟩ | ⟨hc, h1⟩
      · refine lQ.ifF rfl (decide_eq_false (Int32.not_le.mpr hc)) ?_
        refine lQ.push rfl ?_
        obtain rfl := Option.some.inj h1
        exact lQ.retI rfl rfl hz
      · refine lQ.ifT rfl (decide_eq_true (Int32.not_lt.mp hc)) ?_
        refine lQ.loadI rfl rfl ?_
        obtain ⟨v74, hy2, h2⟩ := bindC h1
        have hJ2 : lQ R E 4 cd_754 74 [(0, .ref (adr ad 2)), (1, .int v1)] [] (tp ad v74 A0) Z := by
          refine lQ.loadN rfl rfl ?_
          refine lQ.loadN rfl rfl ?_
          refine lQ.get hR rfl (tf_2_42 hn) ?_
          refine lQ.loadN rfl rfl ?_
          refine lQ.get hR rfl (tf_2_38 hn) ?_
          refine lQ.push rfl ?_
          obtain ⟨x17, hx, h2⟩ := bindC h2
          refine lQ.ald hR rfl (ta_98 hn hx) ?_
          obtain ⟨x18, hx, h2⟩ := bindC h2
          refine lQ.callVL (F := (fun y A => x18.1 = y ∧ A = tp ad x18.2 A0)) (G := fun _ _ => False) (args := [.ref (adr ad 2), .long (v74.2.1 242), .long x17]) (r := []) hR rfl rfl rfl (Nat.le_of_ble_eq_true rfl) (Nat.le_of_ble_eq_true rfl) rfl (tk_2 hn rfl) (ts_759 hR hn hx (cL_mk ⟨rfl, rfl⟩)) ?_ (fun _ _ _ z => z.elim)
          rintro _ _ ⟨rfl, rfl⟩
          refine lQ.stL rfl (lN2n rfl) rfl ?_
          refine lQ.loadN rfl rfl ?_
          refine lQ.loadN rfl rfl ?_
          refine lQ.get hR rfl (tf_2_37 hn) ?_
          refine lQ.push rfl ?_
          obtain ⟨x19, hx, h2⟩ := bindC h2
          refine lQ.ald hR rfl (ta_97 hn hx) ?_
          refine lQ.loadN rfl rfl ?_
          refine lQ.get hR rfl (tf_2_43 hn) ?_
          obtain ⟨x20, hx, h2⟩ := bindC h2
          refine lQ.callVL (F := (fun y A => x20.1 = y ∧ A = tp ad x20.2 A0)) (G := fun _ _ => False) (args := [.ref (adr ad 2), .long x19, .long (x18.2.2.1 243)]) (r := []) hR rfl rfl rfl (Nat.le_of_ble_eq_true rfl) (Nat.le_of_ble_eq_true rfl) rfl (tk_2 hn rfl) (ts_759 hR hn hx (cL_mk ⟨rfl, rfl⟩)) ?_ (fun _ _ _ z => z.elim)
          rintro _ _ ⟨rfl, rfl⟩
          refine lQ.stL rfl (lN2n rfl) rfl ?_
          refine lQ.loadN rfl rfl ?_
          refine lQ.get hR rfl (tf_2_40 hn) ?_
          rcases iteC h2 with ⟨hc, h2⟩ | ⟨hc, h2⟩
          · refine lQ.ifF rfl (decide_eq_false (Int32.not_le.mpr hc)) ?_
            refine lQ.push rfl ?_
            obtain rfl := Option.some.inj h2
            exact lQ.retI rfl rfl hz
          · refine lQ.ifT rfl (decide_eq_true (Int32.not_lt.mp hc)) ?_
            refine lQ.loadN rfl rfl ?_
            refine lQ.get hR rfl (tf_2_14 hn) ?_
            refine lQ.loadI rfl rfl ?_
            obtain ⟨x21, hx, h2⟩ := bindC h2
            refine lQ.ald hR rfl (ta_86 hn hx) ?_
            refine lQ.stI rfl (lN2n rfl) ?_
            refine lQ.loadI rfl rfl ?_
            rcases iteC h2 with ⟨hc, h2⟩ | ⟨hc, h2⟩
            · refine lQ.ifF rfl (decide_eq_false (fun z => z hc)) ?_
              refine lQ.loadL rfl rfl ?_
              refine lQ.loadL rfl rfl ?_
              refine lQ.lcmp rfl ?_
              rcases iteC h2 with ⟨hc, h2⟩ | ⟨hc, h2⟩
              · refine lQ.ifF rfl (decide_eq_false (Int32.not_le.mpr hc)) ?_
                refine lQ.push rfl ?_
                refine lQ.goto rfl ?_
                obtain rfl := Option.some.inj h2
                exact lQ.retI rfl rfl hz
              · refine lQ.ifT rfl (decide_eq_true (Int32.not_lt.mp hc)) ?_
                refine lQ.push rfl ?_
                refine lQ.goto rfl ?_
                obtain rfl := Option.some.inj h2
                exact lQ.retI rfl rfl hz
            · refine lQ.ifT rfl (decide_eq_true hc) ?_
              refine lQ.loadI rfl rfl ?_
              refine lQ.push rfl ?_
              rcases iteC h2 with ⟨hc, h2⟩ | ⟨hc, h2⟩
              · refine lQ.cmpF rfl (decide_eq_false (fun z => z hc)) ?_
                refine lQ.loadL rfl rfl ?_
                refine lQ.loadL rfl rfl ?_
                refine lQ.lcmp rfl ?_
                rcases iteC h2 with ⟨hc, h2⟩ | ⟨hc, h2⟩
                · refine lQ.ifT rfl (decide_eq_true hc) ?_
                  refine lQ.push rfl ?_
                  refine lQ.goto rfl ?_
                  obtain rfl := Option.some.inj h2
                  exact lQ.retI rfl rfl hz
                · refine lQ.ifF rfl (decide_eq_false hc) ?_
                  refine lQ.push rfl ?_
                  refine lQ.goto rfl ?_
                  obtain rfl := Option.some.inj h2
                  exact lQ.retI rfl rfl hz
              · refine lQ.cmpT rfl (decide_eq_true hc) ?_
                refine lQ.loadI rfl rfl ?_
                refine lQ.push rfl ?_
                rcases iteC h2 with ⟨hc, h2⟩ | ⟨hc, h2⟩
                · refine lQ.cmpF rfl (decide_eq_false (fun z => z hc)) ?_
                  refine lQ.loadL rfl rfl ?_
                  refine lQ.loadL rfl rfl ?_
                  refine lQ.lcmp rfl ?_
                  rcases iteC h2 with ⟨hc, h2⟩ | ⟨hc, h2⟩
                  · refine lQ.ifF rfl (decide_eq_false (fun z => z hc)) ?_
                    refine lQ.push rfl ?_
                    refine lQ.goto rfl ?_
                    obtain rfl := Option.some.inj h2
                    exact lQ.retI rfl rfl hz
                  · refine lQ.ifT rfl (decide_eq_true hc) ?_
                    refine lQ.push rfl ?_
                    refine lQ.goto rfl ?_
                    obtain rfl := Option.some.inj h2
                    exact lQ.retI rfl rfl hz
                · refine lQ.cmpT rfl (decide_eq_true hc) ?_
                  refine lQ.loadI rfl rfl ?_
                  refine lQ.push rfl ?_
                  rcases iteC h2 with ⟨hc, h2⟩ | ⟨hc, h2⟩
                  · refine lQ.cmpF rfl (decide_eq_false (fun z => z hc)) ?_
                    refine lQ.loadL rfl rfl ?_
                    refine lQ.loadL rfl rfl ?_
                    refine lQ.lcmp rfl ?_
                    rcases iteC h2 with ⟨hc, h2⟩ | ⟨hc, h2⟩
                    · refine lQ.ifT rfl (decide_eq_true hc) ?_
                      refine lQ.push rfl ?_
                      refine lQ.goto rfl ?_
                      obtain rfl := Option.some.inj h2
                      exact lQ.retI rfl rfl hz
                    · refine lQ.ifF rfl (decide_eq_false hc) ?_
                      refine lQ.push rfl ?_
                      refine lQ.goto rfl ?_
                      obtain rfl := Option.some.inj h2
                      exact lQ.retI rfl rfl hz
                  · refine lQ.cmpT rfl (decide_eq_true hc) ?_
                    refine lQ.loadL rfl rfl ?_
                    refine lQ.loadL rfl rfl ?_
                    refine lQ.lcmp rfl ?_
                    rcases iteC h2 with ⟨hc, h2⟩ | ⟨hc, h2⟩
                    · refine lQ.ifF rfl (decide_eq_false (Int32.not_le.mpr hc)) ?_
                      refine lQ.push rfl ?_
                      refine lQ.goto rfl ?_
                      obtain rfl := Option.some.inj h2
                      exact lQ.retI rfl rfl hz
                    · refine lQ.ifT rfl (decide_eq_true (Int32.not_lt.mp hc)) ?_
                      refine lQ.push rfl ?_
                      obtain rfl := Option.some.inj h2
                      exact lQ.retI rfl rfl hz
        rcases iteC hy2 with ⟨hc, hy2⟩ | ⟨hc, hy2⟩
        · refine lQ.ifT rfl (decide_eq_true hc) ?_
          obtain rfl := Option.some.inj hy2
          exact lQ.sub (lSb rfl (lSb rfl lSb0)) hJ2
        · refine lQ.ifF rfl (decide_eq_false hc) ?_
          refine lQ.loadN rfl rfl ?_
          refine lQ.get hR rfl (tf_2_22 hn) ?_
          refine lQ.loadI rfl rfl ?_
          refine lQ.loadN rfl rfl ?_
          refine lQ.get hR rfl (tf_2_37 hn) ?_
          refine lQ.push rfl ?_
          obtain ⟨x13, hx, hy2⟩ := bindC hy2
          refine lQ.ald hR rfl (ta_97 hn hx) ?_
          obtain ⟨s14, hx, hy2⟩ := bindC hy2
          refine lQ.lst hR rfl (tw_92 hn hx) ?_
          rintro _ rfl
          refine lQ.loadN rfl rfl ?_
          refine lQ.get hR rfl (tf_2_23 hn) ?_
          refine lQ.loadI rfl rfl ?_
          refine lQ.loadN rfl rfl ?_
          refine lQ.get hR rfl (tf_2_38 hn) ?_
          refine lQ.push rfl ?_
          obtain ⟨x15, hx, hy2⟩ := bindC hy2
          refine lQ.ald hR rfl (ta_98 hn hx) ?_
          obtain ⟨s16, hx, hy2⟩ := bindC hy2
          refine lQ.lst hR rfl (tw_93 hn hx) ?_
          rintro _ rfl
          obtain rfl := Option.some.inj hy2
          exact lQ.sub (lSb rfl (lSb rfl lSb0)) hJ2
    rcases iteC hy1 with ⟨hc, hy1⟩ | ⟨hc, hy1⟩
    · refine lQ.ifT rfl (decide_eq_true hc) ?_
      obtain rfl := Option.some.inj hy1
      exact lQ.sub (lSb rfl (lSb rfl (lSb rfl lSb0))) hJ1
    · refine lQ.ifF rfl (decide_eq_false hc) ?_
      refine lQ.loadN rfl rfl ?_
      refine lQ.get hR rfl (tf_2_20 hn) ?_
      refine lQ.loadI rfl rfl ?_
      refine lQ.loadN rfl rfl ?_
      refine lQ.get hR rfl (tf_2_42 hn) ?_
      obtain ⟨s8, hx, hy1⟩ := bindC hy1
      refine lQ.lst hR rfl (tw_90 hn hx) ?_
      rintro _ rfl
      refine lQ.loadN rfl rfl ?_
      refine lQ.get hR rfl (tf_2_21 hn) ?_
      refine lQ.loadI rfl rfl ?_
      refine lQ.loadN rfl rfl ?_
      refine lQ.get hR rfl (tf_2_43 hn) ?_
      obtain ⟨s9, hx, hy1⟩ := bindC hy1
      refine lQ.lst hR rfl (tw_91 hn hx) ?_
      rintro _ rfl
      obtain rfl := Option.some.inj hy1
      exact lQ.sub (lSb rfl (lSb rfl (lSb rfl lSb0))) hJ1
theorem ts_753 {R : lAR} (hR : lRok R) {E : lE} {ad : List Nat} (hn : tOk ad) {v1 : Int32} {v2 : Int32} {v3 : Int32} {s : TS} {A0 : lMem} {x : Int32 × TS} (h : t_753 v1 v2 v3 s = some x) {Z : lZ} (hz : Z (.inl (some (.int x.1))) (tp ad x.2 A0)) : lSQ R E 6 753 [.ref (adr ad 2), .int v1, .int v2, .int v3] (tp ad s A0) Z := by
  refine lQ.sq pg_753 (Nat.le_of_ble_eq_true rfl) rfl ?_
  unfold t_753 at h
  refine lQ.loadN rfl rfl ?_
  refine lQ.push rfl ?_
  obtain ⟨s1, hx, h⟩ := bindC h
  refine lQ.put hR rfl rfl (tq_2_40 hn hx) ?_
  rintro _ rfl
  refine lQ.loadN rfl rfl ?_
  refine lQ.push rfl ?_
  obtain ⟨s2, hx, h⟩ := bindC h
  refine lQ.put hR rfl rfl (tq_2_41 hn hx) ?_
  rintro _ rfl
  refine lQ.loadI rfl rfl ?_
  refine lQ.loadN rfl rfl ?_
  refine lQ.get hR rfl (tf_2_9 hn) ?_
  refine lQ.loadI rfl rfl ?_
  obtain ⟨x3, hx, h⟩ := bindC h
  refine lQ.ald hR rfl (ta_82 hn hx) ?_
  rcases iteC h with ⟨hc, h⟩ | ⟨hc, h⟩
  · refine lQ.cmpF rfl (decide_eq_false (Int32.not_le.mpr hc)) ?_
    refine lQ.push rfl ?_
    obtain rfl := Option.some.inj h
    exact lQ.retI rfl rfl hz
  · refine lQ.cmpT rfl (decide_eq_true (Int32.not_lt.mp hc)) ?_
    refine lQ.loadN rfl rfl ?_
    refine lQ.get hR rfl (tf_2_7 hn) ?_
    refine lQ.loadI rfl rfl ?_
    obtain ⟨x4, hx, h⟩ := bindC h
    refine lQ.ald hR rfl (ta_80 hn hx) ?_
    refine lQ.stI rfl (lN2s rfl rfl) ?_
    refine lQ.loadN rfl rfl ?_
    refine lQ.loadI rfl rfl ?_
    refine lQ.loadI rfl rfl ?_
    obtain ⟨v26, hy1, h1⟩ := bindC h
    have hJ1 : lQ R E 5 cd_753 26 [(0, .ref (adr ad 2)), (1, .int v1), (4, .int x4)] [.int v26, .int x4, .ref (adr ad 2)] (tp ad s2 A0) Z := by
      obtain ⟨x5, hx, h1⟩ := bindC h1
      refine lQ.callVI (F := (fun y A => x5.1 = y ∧ A = tp ad x5.2 A0)) (G := fun _ _ => False) (args := [.ref (adr ad 2), .int x4, .int v26]) (r := []) hR rfl rfl rfl (Nat.le_of_ble_eq_true rfl) (Nat.le_of_ble_eq_true rfl) rfl (tk_2 hn rfl) (ts_754 hR hn hx (cI_mk ⟨rfl, rfl⟩)) ?_ (fun _ _ _ z => z.elim)
      rintro _ _ ⟨rfl, rfl⟩
      refine lQ.stI rfl (lN2s rfl rfl) ?_
      refine lQ.loadN rfl rfl ?_
      refine lQ.get hR rfl (tf_2_40 hn) ?_
      rcases iteC h1 with ⟨hc, h1⟩ | ⟨hc, h1⟩
      · refine lQ.ifF rfl (decide_eq_false (Int32.not_le.mpr hc)) ?_
        refine lQ.push rfl ?_
        obtain rfl := Option.some.inj h1
        exact lQ.retI rfl rfl hz
      · refine lQ.ifT rfl (decide_eq_true (Int32.not_lt.mp hc)) ?_
        refine lQ.loadI rfl rfl ?_
        rcases iteC h1 with ⟨hc, h1⟩ | ⟨hc, h1⟩
        · refine lQ.ifT rfl (decide_eq_true hc) ?_
          refine lQ.loadN rfl rfl ?_
          refine lQ.get hR rfl (tf_2_8 hn) ?_
          refine lQ.loadI rfl rfl ?_
          obtain ⟨x6, hx, h1⟩ := bindC h1
          refine lQ.ald hR rfl (ta_81 hn hx) ?_
          obtain ⟨v45, hy2, h2⟩ := bindC h1
          have hJ2 : lQ R E 5 cd_753 45 [(0, .ref (adr ad 2)), (1, .int v1), (4, .int x4)] [.int v45] (tp ad x5.2 A0) Z := by
            refine lQ.stI rfl (lN2n rfl) ?_
            refine lQ.push rfl ?_
            refine lQ.stI rfl (lN2s rfl rfl) ?_
            obtain ⟨v65, hy3, h3⟩ := bindC h2
            have hJ3 : lQ R E 5 cd_753 65 [(0, .ref (adr ad 2)), (6, .int v65.2)] [] (tp ad v65.1 A0) Z := by
              refine lQ.loadN rfl rfl ?_
              refine lQ.get hR rfl (tf_2_40 hn) ?_
              rcases iteC h3 with ⟨hc, h3⟩ | ⟨hc, h3⟩
              · refine lQ.ifF rfl (decide_eq_false (Int32.not_le.mpr hc)) ?_
                refine lQ.push rfl ?_
                refine lQ.goto rfl ?_
                obtain rfl := Option.some.inj h3
                exact lQ.retI rfl rfl hz
              · refine lQ.ifT rfl (decide_eq_true (Int32.not_lt.mp hc)) ?_
                refine lQ.loadI rfl rfl ?_
                rcases iteC h3 with ⟨hc, h3⟩ | ⟨hc, h3⟩
                · refine lQ.ifT rfl (decide_eq_true hc) ?_
                  refine lQ.push rfl ?_
                  obtain rfl := Option.some.inj h3
                  exact lQ.retI rfl rfl hz
                · refine lQ.ifF rfl (decide_eq_false hc) ?_
                  refine lQ.push rfl ?_
                  refine lQ.goto rfl ?_
                  obtain rfl := Option.some.inj h3
                  exact lQ.retI rfl rfl hz
            refine lQ.sub (lSb rfl (lSb rfl (lSb rfl (lSb rfl (lSb rfl lSb0))))) (wh_run (P := fun p48 => lQ R E 5 cd_753 48 [(0, .ref (adr ad 2)), (1, .int v1), (4, .int x4), (6, .int p48.2.1), (7, .int p48.2.2)] [] (tp ad p48.1 A0) Z) hy3 ?_)
            intro p48 r4 hb4 hI4 hX4
            refine lQ.loadI rfl rfl ?_
            refine lQ.loadN rfl rfl ?_
            refine lQ.get hR rfl (tf_2_8 hn) ?_
            refine lQ.loadI rfl rfl ?_
            obtain ⟨x7, hx, hb4⟩ := bindC hb4
            refine lQ.ald hR rfl (ta_81 hn hx) ?_
            rcases iteC hb4 with ⟨hc, hb4⟩ | ⟨hc, hb4⟩
            · refine lQ.cmpT rfl (decide_eq_true hc) ?_
              obtain rfl := Option.some.inj hb4
              obtain rfl := hX4 _ rfl
              exact lQ.sub (lSb rfl (lSb rfl lSb0)) hJ3
            · refine lQ.cmpF rfl (decide_eq_false hc) ?_
              refine lQ.loadI rfl rfl ?_
              rcases iteC hb4 with ⟨hc, hb4⟩ | ⟨hc, hb4⟩
              · refine lQ.ifT rfl (decide_eq_true hc) ?_
                obtain rfl := Option.some.inj hb4
                obtain rfl := hX4 _ rfl
                exact lQ.sub (lSb rfl (lSb rfl lSb0)) hJ3
              · refine lQ.ifF rfl (decide_eq_false hc) ?_
                refine lQ.loadN rfl rfl ?_
                refine lQ.loadI rfl rfl ?_
                refine lQ.loadI rfl rfl ?_
                refine lQ.binI rfl ?_
                refine lQ.push rfl ?_
                obtain ⟨x8, hx, hb4⟩ := bindC hb4
                refine lQ.callVI (F := (fun y A => x8.1 = y ∧ A = tp ad x8.2 A0)) (G := fun _ _ => False) (args := [.ref (adr ad 2), .int (x4 + p48.2.2), .int (-1)]) (r := []) hR rfl rfl rfl (Nat.le_of_ble_eq_true rfl) (Nat.le_of_ble_eq_true rfl) rfl (tk_2 hn rfl) (ts_754 hR hn hx (cI_mk ⟨rfl, rfl⟩)) ?_ (fun _ _ _ z => z.elim)
                rintro _ _ ⟨rfl, rfl⟩
                refine lQ.stI rfl (lN2n rfl) ?_
                refine lQ.inc rfl rfl (lN2s rfl rfl) ?_
                refine lQ.goto rfl ?_
                obtain rfl := Option.some.inj hb4
                exact lQ.sub (lSb rfl (lSb rfl (lSb rfl (lSb rfl (lSb rfl lSb0))))) (hI4 _ rfl)
          rcases iteC hy2 with ⟨hc, hy2⟩ | ⟨hc, hy2⟩
          · refine lQ.ifF rfl (decide_eq_false (Int32.not_le.mpr hc)) ?_
            refine lQ.push rfl ?_
            refine lQ.goto rfl ?_
            obtain rfl := Option.some.inj hy2
            exact lQ.sub (lSb rfl (lSb rfl (lSb rfl lSb0))) hJ2
          · refine lQ.ifT rfl (decide_eq_true (Int32.not_lt.mp hc)) ?_
            refine lQ.push rfl ?_
            obtain rfl := Option.some.inj hy2
            exact lQ.sub (lSb rfl (lSb rfl (lSb rfl lSb0))) hJ2
        · refine lQ.ifF rfl (decide_eq_false hc) ?_
          refine lQ.push rfl ?_
          obtain rfl := Option.some.inj h1
          exact lQ.retI rfl rfl hz
    rcases iteC hy1 with ⟨hc, hy1⟩ | ⟨hc, hy1⟩
    · refine lQ.ifT rfl (decide_eq_true hc) ?_
      refine lQ.push rfl ?_
      obtain rfl := Option.some.inj hy1
      exact lQ.sub (lSb rfl (lSb rfl (lSb rfl lSb0))) hJ1
    · refine lQ.ifF rfl (decide_eq_false hc) ?_
      refine lQ.loadI rfl rfl ?_
      refine lQ.goto rfl ?_
      obtain rfl := Option.some.inj hy1
      exact lQ.sub (lSb rfl (lSb rfl (lSb rfl lSb0))) hJ1
theorem ts_752 {R : lAR} (hR : lRok R) {E : lE} {ad : List Nat} (hn : tOk ad) {v1 : Int32} {s : TS} {A0 : lMem} {x : Int32 × TS} (h : t_752 v1 s = some x) {Z : lZ} (hz : Z (.inl (some (.int x.1))) (tp ad x.2 A0)) : lSQ R E 7 752 [.ref (adr ad 2), .int v1] (tp ad s A0) Z := by
  refine lQ.sq pg_752 (Nat.le_of_ble_eq_true rfl) rfl ?_
  unfold t_752 at h
  refine lQ.loadN rfl rfl ?_
  refine lQ.loadI rfl rfl ?_
  obtain ⟨s1, hx, h⟩ := bindC h
  refine lQ.put hR rfl rfl (tq_2_18 hn hx) ?_
  rintro _ rfl
  refine lQ.push rfl ?_
  refine lQ.stI rfl (lN2s rfl rfl) ?_
  refine lQ.push rfl ?_
  refine lQ.stI rfl (lN2s rfl rfl) ?_
  obtain ⟨v66, hy1, h1⟩ := bindC h
  have hJ1 : lQ R E 6 cd_752 66 [(2, .int v66.2)] [] (tp ad v66.1 A0) Z := by
    refine lQ.loadI rfl rfl ?_
    obtain rfl := Option.some.inj h1
    exact lQ.retI rfl rfl hz
  refine lQ.sub (lSb rfl (lSb rfl (lSb rfl (lSb rfl lSb0)))) (wh_run (P := fun p7 => lQ R E 6 cd_752 7 [(0, .ref (adr ad 2)), (1, .int v1), (2, .int p7.2.1), (3, .int p7.2.2)] [] (tp ad p7.1 A0) Z) hy1 ?_)
  intro p7 r2 hb2 hI2 hX2
  refine lQ.loadI rfl rfl ?_
  refine lQ.loadN rfl rfl ?_
  refine lQ.get hR rfl (tf_2_5 hn) ?_
  rcases iteC hb2 with ⟨hc, hb2⟩ | ⟨hc, hb2⟩
  · refine lQ.cmpF rfl (decide_eq_false (Int32.not_le.mpr hc)) ?_
    refine lQ.loadN rfl rfl ?_
    refine lQ.get hR rfl (tf_2_20 hn) ?_
    refine lQ.loadI rfl rfl ?_
    refine lQ.push rfl ?_
    obtain ⟨s2, hx, hb2⟩ := bindC hb2
    refine lQ.lst hR rfl (tw_90 hn hx) ?_
    rintro _ rfl
    refine lQ.loadN rfl rfl ?_
    refine lQ.get hR rfl (tf_2_21 hn) ?_
    refine lQ.loadI rfl rfl ?_
    refine lQ.push rfl ?_
    obtain ⟨s3, hx, hb2⟩ := bindC hb2
    refine lQ.lst hR rfl (tw_91 hn hx) ?_
    rintro _ rfl
    refine lQ.loadN rfl rfl ?_
    refine lQ.get hR rfl (tf_2_22 hn) ?_
    refine lQ.loadI rfl rfl ?_
    refine lQ.push rfl ?_
    obtain ⟨s4, hx, hb2⟩ := bindC hb2
    refine lQ.lst hR rfl (tw_92 hn hx) ?_
    rintro _ rfl
    refine lQ.loadN rfl rfl ?_
    refine lQ.get hR rfl (tf_2_23 hn) ?_
    refine lQ.loadI rfl rfl ?_
    refine lQ.push rfl ?_
    obtain ⟨s5, hx, hb2⟩ := bindC hb2
    refine lQ.lst hR rfl (tw_93 hn hx) ?_
    rintro _ rfl
    refine lQ.loadN rfl rfl ?_
    refine lQ.get hR rfl (tf_2_19 hn) ?_
    refine lQ.loadI rfl rfl ?_
    refine lQ.loadN rfl rfl ?_
    refine lQ.loadI rfl rfl ?_
    refine lQ.loadI rfl rfl ?_
    refine lQ.push rfl ?_
    obtain ⟨x6, hx, hb2⟩ := bindC hb2
    refine lQ.callVI (F := (fun y A => x6.1 = y ∧ A = tp ad x6.2 A0)) (G := fun _ _ => False) (args := [.ref (adr ad 2), .int p7.2.2, .int v1, .int 1]) (r := [.int p7.2.2, .ref (adr ad 89)]) hR rfl rfl rfl (Nat.le_of_ble_eq_true rfl) (Nat.le_of_ble_eq_true rfl) rfl (tk_2 hn rfl) (ts_753 hR hn hx (cI_mk ⟨rfl, rfl⟩)) ?_ (fun _ _ _ z => z.elim)
    rintro _ _ ⟨rfl, rfl⟩
    obtain ⟨s7, hx, hb2⟩ := bindC hb2
    refine lQ.ast hR rfl (tw_89 hn hx) ?_
    rintro _ rfl
    refine lQ.loadN rfl rfl ?_
    refine lQ.get hR rfl (tf_2_24 hn) ?_
    refine lQ.loadI rfl rfl ?_
    refine lQ.loadN rfl rfl ?_
    refine lQ.get hR rfl (tf_2_40 hn) ?_
    obtain ⟨s8, hx, hb2⟩ := bindC hb2
    refine lQ.ast hR rfl (tw_94 hn hx) ?_
    rintro _ rfl
    refine lQ.loadN rfl rfl ?_
    refine lQ.get hR rfl (tf_2_25 hn) ?_
    refine lQ.loadI rfl rfl ?_
    refine lQ.loadN rfl rfl ?_
    refine lQ.get hR rfl (tf_2_41 hn) ?_
    obtain ⟨s9, hx, hb2⟩ := bindC hb2
    refine lQ.lst hR rfl (tw_95 hn hx) ?_
    rintro _ rfl
    refine lQ.loadI rfl rfl ?_
    refine lQ.loadN rfl rfl ?_
    refine lQ.get hR rfl (tf_2_19 hn) ?_
    refine lQ.loadI rfl rfl ?_
    obtain ⟨x10, hx, hb2⟩ := bindC hb2
    refine lQ.ald hR rfl (ta_89 hn hx) ?_
    refine lQ.push rfl ?_
    obtain ⟨v62, hy3, h3⟩ := bindC hb2
    have hJ3 : lQ R E 6 cd_752 62 [(0, .ref (adr ad 2)), (1, .int v1), (3, .int p7.2.2)] [.int v62, .int p7.2.1] (tp ad s9 A0) Z := by
      refine lQ.binI rfl ?_
      refine lQ.stI rfl (lN2s rfl rfl) ?_
      refine lQ.inc rfl rfl (lN2s rfl rfl) ?_
      refine lQ.goto rfl ?_
      obtain rfl := Option.some.inj h3
      exact lQ.sub (lSb rfl (lSb rfl (lSb rfl (lSb rfl lSb0)))) (hI2 _ rfl)
    rcases iteC hy3 with ⟨hc, hy3⟩ | ⟨hc, hy3⟩
    · refine lQ.cmpF rfl (decide_eq_false (fun z => z hc)) ?_
      refine lQ.push rfl ?_
      refine lQ.goto rfl ?_
      obtain rfl := Option.some.inj hy3
      exact lQ.sub (lSb rfl (lSb rfl (lSb rfl lSb0))) hJ3
    · refine lQ.cmpT rfl (decide_eq_true hc) ?_
      refine lQ.push rfl ?_
      obtain rfl := Option.some.inj hy3
      exact lQ.sub (lSb rfl (lSb rfl (lSb rfl lSb0))) hJ3
  · refine lQ.cmpT rfl (decide_eq_true (Int32.not_lt.mp hc)) ?_
    obtain rfl := Option.some.inj hb2
    obtain rfl := hX2 _ rfl
    exact lQ.sub (lSb rfl lSb0) hJ1
theorem ts_580 {R : lAR} (hR : lRok R) {E : lE} {ad : List Nat} (hn : tOk ad) {v1 : Int32} {s : TS} {A0 : lMem} {x : Int32 × TS} (h : t_580 v1 s = some x) {Z : lZ} (hz : Z (.inl (some (.int x.1))) (tp ad x.2 A0)) : lSQ R E 8 580 [.ref (adr ad 0), .int v1] (tp ad s A0) Z := by
  refine lQ.sq pg_580 (Nat.le_of_ble_eq_true rfl) rfl ?_
  unfold t_580 at h
  refine lQ.loadN rfl rfl ?_
  refine lQ.loadI rfl rfl ?_
  obtain ⟨x1, hx, h⟩ := bindC h
  refine lQ.callI (F := (fun y A => x1 = y ∧ A = tp ad s A0)) (G := fun _ _ => False) (args := [.int v1]) (r := [.ref (adr ad 0)]) hR rfl rfl rfl (Nat.le_of_ble_eq_true rfl) (Nat.le_of_ble_eq_true rfl) (ts_581 hR hn hx (cI_mk ⟨rfl, rfl⟩)) ?_ (fun _ _ _ z => z.elim)
  rintro _ _ ⟨rfl, rfl⟩
  refine lQ.push rfl ?_
  obtain ⟨x2, hx, h⟩ := bindC h
  refine lQ.callVI (F := (fun y A => x2.1 = y ∧ A = tp ad x2.2 A0)) (G := fun _ _ => False) (args := [.ref (adr ad 0), .int x1, .int 1]) (r := []) hR rfl rfl rfl (Nat.le_of_ble_eq_true rfl) (Nat.le_of_ble_eq_true rfl) rfl (tk_0 hn rfl) (ts_558 hR hn hx (cI_mk ⟨rfl, rfl⟩)) ?_ (fun _ _ _ z => z.elim)
  rintro _ _ ⟨rfl, rfl⟩
  rcases iteC h with ⟨hc, h⟩ | ⟨hc, h⟩
  · refine lQ.ifT rfl (decide_eq_true hc) ?_
    refine lQ.push rfl ?_
    obtain rfl := Option.some.inj h
    exact lQ.retI rfl rfl hz
  · refine lQ.ifF rfl (decide_eq_false hc) ?_
    refine lQ.loadN rfl rfl ?_
    refine lQ.get hR rfl (tf_0_4 hn) ?_
    refine lQ.loadI rfl rfl ?_
    obtain ⟨x3, hx, h⟩ := bindC h
    refine lQ.callVI (F := (fun y A => x3.1 = y ∧ A = tp ad x3.2 A0)) (G := fun _ _ => False) (args := [.ref (adr ad 2), .int v1]) (r := []) hR rfl rfl rfl (Nat.le_of_ble_eq_true rfl) (Nat.le_of_ble_eq_true rfl) rfl (tk_2 hn rfl) (ts_752 hR hn hx (cI_mk ⟨rfl, rfl⟩)) ?_ (fun _ _ _ z => z.elim)
    rintro _ _ ⟨rfl, rfl⟩
    refine lQ.goto rfl ?_
    obtain rfl := Option.some.inj h
    exact lQ.retI rfl rfl hz
theorem ts_761 {R : lAR} (hR : lRok R) {E : lE} {ad : List Nat} (hn : tOk ad) {v1 : Int32} {v2 : Int32} {s : TS} {A0 : lMem} {x : Int64} (h : t_761 v1 v2 s = some x) {Z : lZ} (hz : Z (.inl (some (.long x))) (tp ad s A0)) : lSQ R E 1 761 [.ref (adr ad 2), .int v1, .int v2] (tp ad s A0) Z := by
  refine lQ.sq pg_761 (Nat.le_of_ble_eq_true rfl) rfl ?_
  unfold t_761 at h
  refine lQ.loadI rfl rfl ?_
  rcases iteC h with ⟨hc, h⟩ | ⟨hc, h⟩
  · refine lQ.sw (j := 2) rfl (by unfold swT; rw [hc]; rfl) ?_
    refine lQ.loadN rfl rfl ?_
    refine lQ.get hR rfl (tf_2_19 hn) ?_
    refine lQ.loadI rfl rfl ?_
    obtain ⟨x7, hx, h⟩ := bindC h
    refine lQ.ald hR rfl (ta_89 hn hx) ?_
    refine lQ.i2l rfl ?_
    obtain rfl := Option.some.inj h
    exact lQ.retL rfl hz
  · have e0 := hc
    rcases iteC h with ⟨hc, h⟩ | ⟨hc, h⟩
    · refine lQ.sw (j := 8) rfl (by unfold swT; rw [hc]; rfl) ?_
      refine lQ.loadN rfl rfl ?_
      refine lQ.get hR rfl (tf_2_20 hn) ?_
      refine lQ.loadI rfl rfl ?_
      obtain ⟨x6, hx, h⟩ := bindC h
      refine lQ.ald hR rfl (ta_90 hn hx) ?_
      obtain rfl := Option.some.inj h
      exact lQ.retL rfl hz
    · have e1 := hc
      rcases iteC h with ⟨hc, h⟩ | ⟨hc, h⟩
      · refine lQ.sw (j := 13) rfl (by unfold swT; rw [hc]; rfl) ?_
        refine lQ.loadN rfl rfl ?_
        refine lQ.get hR rfl (tf_2_21 hn) ?_
        refine lQ.loadI rfl rfl ?_
        obtain ⟨x5, hx, h⟩ := bindC h
        refine lQ.ald hR rfl (ta_91 hn hx) ?_
        obtain rfl := Option.some.inj h
        exact lQ.retL rfl hz
      · have e2 := hc
        rcases iteC h with ⟨hc, h⟩ | ⟨hc, h⟩
        · refine lQ.sw (j := 18) rfl (by unfold swT; rw [hc]; rfl) ?_
          refine lQ.loadN rfl rfl ?_
          refine lQ.get hR rfl (tf_2_22 hn) ?_
          refine lQ.loadI rfl rfl ?_
          obtain ⟨x4, hx, h⟩ := bindC h
          refine lQ.ald hR rfl (ta_92 hn hx) ?_
          obtain rfl := Option.some.inj h
          exact lQ.retL rfl hz
        · have e3 := hc
          rcases iteC h with ⟨hc, h⟩ | ⟨hc, h⟩
          · refine lQ.sw (j := 23) rfl (by unfold swT; rw [hc]; rfl) ?_
            refine lQ.loadN rfl rfl ?_
            refine lQ.get hR rfl (tf_2_23 hn) ?_
            refine lQ.loadI rfl rfl ?_
            obtain ⟨x3, hx, h⟩ := bindC h
            refine lQ.ald hR rfl (ta_93 hn hx) ?_
            obtain rfl := Option.some.inj h
            exact lQ.retL rfl hz
          · have e4 := hc
            rcases iteC h with ⟨hc, h⟩ | ⟨hc, h⟩
            · refine lQ.sw (j := 28) rfl (by unfold swT; rw [hc]; rfl) ?_
              refine lQ.loadN rfl rfl ?_
              refine lQ.get hR rfl (tf_2_24 hn) ?_
              refine lQ.loadI rfl rfl ?_
              obtain ⟨x2, hx, h⟩ := bindC h
              refine lQ.ald hR rfl (ta_94 hn hx) ?_
              refine lQ.i2l rfl ?_
              obtain rfl := Option.some.inj h
              exact lQ.retL rfl hz
            · have e5 := hc
              refine lQ.sw (j := 34) rfl (swT_all ⟨Or.inr e0, ⟨Or.inr e1, ⟨Or.inr e2, ⟨Or.inr e3, ⟨Or.inr e4, ⟨Or.inr e5, trivial⟩⟩⟩⟩⟩⟩) ?_
              refine lQ.loadN rfl rfl ?_
              refine lQ.get hR rfl (tf_2_25 hn) ?_
              refine lQ.loadI rfl rfl ?_
              obtain ⟨x1, hx, h⟩ := bindC h
              refine lQ.ald hR rfl (ta_95 hn hx) ?_
              obtain rfl := Option.some.inj h
              exact lQ.retL rfl hz
theorem ts_582 {R : lAR} (hR : lRok R) {E : lE} {ad : List Nat} (hn : tOk ad) {v1 : Int32} {v2 : Int32} {s : TS} {A0 : lMem} {x : Int64 × TS} (h : t_582 v1 v2 s = some x) {Z : lZ} (hz : Z (.inl (some (.long x.1))) (tp ad x.2 A0)) : lSQ R E 2 582 [.ref (adr ad 0), .int v1, .int v2] (tp ad s A0) Z := by
  refine lQ.sq pg_582 (Nat.le_of_ble_eq_true rfl) rfl ?_
  unfold t_582 at h
  refine lQ.loadN rfl rfl ?_
  refine lQ.loadI rfl rfl ?_
  refine lQ.loadN rfl rfl ?_
  refine lQ.get hR rfl (tf_0_4 hn) ?_
  refine lQ.get hR rfl (tf_2_5 hn) ?_
  obtain ⟨x1, hx, h⟩ := bindC h
  refine lQ.callI (F := (fun y A => x1 = y ∧ A = tp ad s A0)) (G := fun _ _ => False) (args := [.int v1, .int (s.1 205)]) (r := [.ref (adr ad 0)]) hR rfl rfl rfl (Nat.le_of_ble_eq_true rfl) (Nat.le_of_ble_eq_true rfl) (ts_560 hR hn hx (cI_mk ⟨rfl, rfl⟩)) ?_ (fun _ _ _ z => z.elim)
  rintro _ _ ⟨rfl, rfl⟩
  obtain ⟨v14, hy1, h1⟩ := bindC h
  have hJ1 : lQ R E 1 cd_582 14 [(0, .ref (adr ad 0)), (1, .int v1), (2, .int v2)] [.int v14, .ref (adr ad 0)] (tp ad s A0) Z := by
    refine lQ.loadN rfl rfl ?_
    refine lQ.get hR rfl (tf_0_4 hn) ?_
    refine lQ.get hR rfl (tf_2_18 hn) ?_
    obtain ⟨v21, hy2, h2⟩ := bindC h1
    have hJ2 : lQ R E 1 cd_582 21 [(0, .ref (adr ad 0)), (1, .int v1), (2, .int v2)] [.int v21, .int v14, .ref (adr ad 0)] (tp ad s A0) Z := by
      obtain ⟨x3, hx, h2⟩ := bindC h2
      refine lQ.callVI (F := (fun y A => x3.1 = y ∧ A = tp ad x3.2 A0)) (G := fun _ _ => False) (args := [.ref (adr ad 0), .int v14, .int v21]) (r := []) hR rfl rfl rfl (Nat.le_of_ble_eq_true rfl) (Nat.le_of_ble_eq_true rfl) rfl (tk_0 hn rfl) (ts_558 hR hn hx (cI_mk ⟨rfl, rfl⟩)) ?_ (fun _ _ _ z => z.elim)
      rintro _ _ ⟨rfl, rfl⟩
      rcases iteC h2 with ⟨hc, h2⟩ | ⟨hc, h2⟩
      · refine lQ.ifT rfl (decide_eq_true hc) ?_
        refine lQ.push rfl ?_
        obtain rfl := Option.some.inj h2
        exact lQ.retL rfl hz
      · refine lQ.ifF rfl (decide_eq_false hc) ?_
        refine lQ.loadN rfl rfl ?_
        refine lQ.get hR rfl (tf_0_4 hn) ?_
        refine lQ.loadI rfl rfl ?_
        refine lQ.loadI rfl rfl ?_
        obtain ⟨x4, hx, h2⟩ := bindC h2
        refine lQ.callVL (F := (fun y A => x4 = y ∧ A = tp ad x3.2 A0)) (G := fun _ _ => False) (args := [.ref (adr ad 2), .int v1, .int v2]) (r := []) hR rfl rfl rfl (Nat.le_of_ble_eq_true rfl) (Nat.le_of_ble_eq_true rfl) rfl (tk_2 hn rfl) (ts_761 hR hn hx (cL_mk ⟨rfl, rfl⟩)) ?_ (fun _ _ _ z => z.elim)
        rintro _ _ ⟨rfl, rfl⟩
        refine lQ.goto rfl ?_
        obtain rfl := Option.some.inj h2
        exact lQ.retL rfl hz
    rcases iteC hy2 with ⟨hc, hy2⟩ | ⟨hc, hy2⟩
    · refine lQ.ifT rfl (decide_eq_true hc) ?_
      refine lQ.push rfl ?_
      obtain rfl := Option.some.inj hy2
      exact lQ.sub (lSb rfl (lSb rfl (lSb rfl lSb0))) hJ2
    · refine lQ.ifF rfl (decide_eq_false hc) ?_
      refine lQ.push rfl ?_
      refine lQ.goto rfl ?_
      obtain rfl := Option.some.inj hy2
      exact lQ.sub (lSb rfl (lSb rfl (lSb rfl lSb0))) hJ2
  rcases iteC hy1 with ⟨hc, hy1⟩ | ⟨hc, hy1⟩
  · refine lQ.ifT rfl (decide_eq_true hc) ?_
    refine lQ.push rfl ?_
    obtain rfl := Option.some.inj hy1
    exact lQ.sub (lSb rfl (lSb rfl (lSb rfl lSb0))) hJ1
  · refine lQ.ifF rfl (decide_eq_false hc) ?_
    refine lQ.loadI rfl rfl ?_
    refine lQ.push rfl ?_
    obtain ⟨x2, hx, hy1⟩ := bindC hy1
    refine lQ.callI (F := (fun y A => x2 = y ∧ A = tp ad s A0)) (G := fun _ _ => False) (args := [.int v2, .int 7]) (r := [.ref (adr ad 0)]) hR rfl rfl rfl (Nat.le_of_ble_eq_true rfl) (Nat.le_of_ble_eq_true rfl) (ts_560 hR hn hx (cI_mk ⟨rfl, rfl⟩)) ?_ (fun _ _ _ z => z.elim)
    rintro _ _ ⟨rfl, rfl⟩
    rcases iteC hy1 with ⟨hc, hy1⟩ | ⟨hc, hy1⟩
    · refine lQ.ifT rfl (decide_eq_true hc) ?_
      refine lQ.push rfl ?_
      obtain rfl := Option.some.inj hy1
      exact lQ.sub (lSb rfl (lSb rfl (lSb rfl lSb0))) hJ1
    · refine lQ.ifF rfl (decide_eq_false hc) ?_
      refine lQ.push rfl ?_
      refine lQ.goto rfl ?_
      obtain rfl := Option.some.inj hy1
      exact lQ.sub (lSb rfl (lSb rfl (lSb rfl lSb0))) hJ1
theorem ts_722 {R : lAR} (hR : lRok R) {E : lE} {ad : List Nat} (hn : tOk ad) {v1 : Int32} {v2 : Int32} {s : TS} {A0 : lMem} {x : Int32} (h : t_722 v1 v2 s = some x) {Z : lZ} (hz : Z (.inl (some (.int x))) (tp ad s A0)) : lSQ R E 1 722 [.ref (adr ad 1), .int v1, .int v2] (tp ad s A0) Z := by
  refine lQ.sq pg_722 (Nat.le_of_ble_eq_true rfl) rfl ?_
  unfold t_722 at h
  refine lQ.loadI rfl rfl ?_
  refine lQ.stI rfl (lN2s rfl rfl) ?_
  refine lQ.push rfl ?_
  refine lQ.stI rfl (lN2s rfl rfl) ?_
  obtain ⟨y1, hy1, h1⟩ := bindC h
  have hJ1 : ∀ v21, y1 = .inl v21 → lQ R E 0 cd_722 21 [] [] (tp ad s A0) Z := by
    rintro v21 rfl
    have h1 := elimC h1
    refine lQ.push rfl ?_
    obtain rfl := Option.some.inj h1
    exact lQ.retI rfl rfl hz
  obtain ⟨y2, hy2, h2⟩ := bindC hy1
  have hJ2 : ∀ v16, y2 = .inl v16 → lQ R E 0 cd_722 16 [(4, .int v16)] [] (tp ad s A0) Z := by
    rintro v16 rfl
    have h2 := elimC h2
    refine lQ.loadI rfl rfl ?_
    obtain rfl := Option.some.inj h2
    obtain rfl := elimD h1
    exact lQ.retI rfl rfl hz
  refine lQ.sub (lSb rfl (lSb rfl (lSb rfl (lSb rfl lSb0)))) (wh_run (P := fun p4 => lQ R E 0 cd_722 4 [(0, .ref (adr ad 1)), (1, .int v1), (3, .int p4.1), (4, .int p4.2)] [] (tp ad s A0) Z) hy2 ?_)
  intro p4 r3 hb3 hI3 hX3
  refine lQ.loadI rfl rfl ?_
  refine lQ.loadN rfl rfl ?_
  refine lQ.get hR rfl (tf_1_30 hn) ?_
  rcases iteC hb3 with ⟨hc, hb3⟩ | ⟨hc, hb3⟩
  · refine lQ.cmpF rfl (decide_eq_false (Int32.not_le.mpr hc)) ?_
    refine lQ.loadN rfl rfl ?_
    refine lQ.get hR rfl (tf_1_31 hn) ?_
    refine lQ.loadI rfl rfl ?_
    obtain ⟨x1, hx, hb3⟩ := bindC hb3
    refine lQ.ald hR rfl (ta_68 hn hx) ?_
    refine lQ.loadI rfl rfl ?_
    obtain ⟨y4, hy4, h4⟩ := bindC hb3
    have hJ4 : ∀ v19, y4 = .inl v19 → lQ R E 0 cd_722 19 [(0, .ref (adr ad 1)), (1, .int v1), (3, .int v19), (4, .int p4.2)] [] (tp ad s A0) Z := by
      rintro v19 rfl
      have h4 := elimC h4
      refine lQ.inc rfl rfl (lN2s rfl rfl) ?_
      refine lQ.goto rfl ?_
      obtain rfl := Option.some.inj h4
      exact lQ.sub (lSb rfl (lSb rfl (lSb rfl (lSb rfl lSb0)))) (hI3 _ rfl)
    rcases iteC hy4 with ⟨hc, hy4⟩ | ⟨hc, hy4⟩
    · refine lQ.cmpF rfl (decide_eq_false (fun z => z hc)) ?_
      refine lQ.loadI rfl rfl ?_
      rcases iteC hy4 with ⟨hc, hy4⟩ | ⟨hc, hy4⟩
      · refine lQ.ifF rfl (decide_eq_false (fun z => z hc)) ?_
        obtain rfl := Option.some.inj hy4
        obtain rfl := elimD h4
        obtain rfl := hX3 _ rfl
        exact lQ.sub (lSb rfl lSb0) (hJ2 _ rfl)
      · refine lQ.ifT rfl (decide_eq_true hc) ?_
        refine lQ.dec rfl rfl (Int32.sub_eq_add_neg p4.1 1).symm (lN2n rfl) ?_
        obtain rfl := Option.some.inj hy4
        exact lQ.sub (lSb rfl (lSb rfl (lSb rfl (lSb rfl lSb0)))) (hJ4 _ rfl)
    · refine lQ.cmpT rfl (decide_eq_true hc) ?_
      obtain rfl := Option.some.inj hy4
      exact lQ.sub (lSb rfl (lSb rfl (lSb rfl (lSb rfl lSb0)))) (hJ4 _ rfl)
  · refine lQ.cmpT rfl (decide_eq_true (Int32.not_lt.mp hc)) ?_
    obtain rfl := Option.some.inj hb3
    obtain rfl := hX3 _ rfl
    obtain rfl := elimD h2
    exact lQ.sub lSb0 (hJ1 _ rfl)
theorem ts_723 {R : lAR} (hR : lRok R) {E : lE} {ad : List Nat} (hn : tOk ad) {v1 : Int32} {v2 : Int32} {s : TS} {A0 : lMem} {x : Int32} (h : t_723 v1 v2 s = some x) {Z : lZ} (hz : Z (.inl (some (.int x))) (tp ad s A0)) : lSQ R E 4 723 [.ref (adr ad 1), .int v1, .int v2] (tp ad s A0) Z := by
  refine lQ.sq pg_723 (Nat.le_of_ble_eq_true rfl) rfl ?_
  unfold t_723 at h
  refine lQ.loadI rfl rfl ?_
  rcases iteC h with ⟨hc, h⟩ | ⟨hc, h⟩
  · refine lQ.ifT rfl (decide_eq_true hc) ?_
    refine lQ.loadN rfl rfl ?_
    refine lQ.push rfl ?_
    refine lQ.loadI rfl rfl ?_
    refine lQ.binI rfl ?_
    obtain ⟨x1, hx, h⟩ := bindC h
    refine lQ.callVI (F := (fun y A => x1 = y ∧ A = tp ad s A0)) (G := fun _ _ => False) (args := [.ref (adr ad 1), .int (2 * v1)]) (r := []) hR rfl rfl rfl (Nat.le_of_ble_eq_true rfl) (Nat.le_of_ble_eq_true rfl) rfl (tk_1 hn rfl) (ts_712 hR hn hx (cI_mk ⟨rfl, rfl⟩)) ?_ (fun _ _ _ z => z.elim)
    rintro _ _ ⟨rfl, rfl⟩
    obtain rfl := Option.some.inj h
    exact lQ.retI rfl rfl hz
  · refine lQ.ifF rfl (decide_eq_false hc) ?_
    refine lQ.loadN rfl rfl ?_
    refine lQ.push rfl ?_
    refine lQ.loadI rfl rfl ?_
    refine lQ.binI rfl ?_
    obtain ⟨x2, hx, h⟩ := bindC h
    refine lQ.callVI (F := (fun y A => x2 = y ∧ A = tp ad s A0)) (G := fun _ _ => False) (args := [.ref (adr ad 1), .int (2 * v1)]) (r := []) hR rfl rfl rfl (Nat.le_of_ble_eq_true rfl) (Nat.le_of_ble_eq_true rfl) rfl (tk_1 hn rfl) (ts_702 hR hn hx (cI_mk ⟨rfl, rfl⟩)) ?_ (fun _ _ _ z => z.elim)
    rintro _ _ ⟨rfl, rfl⟩
    refine lQ.goto rfl ?_
    obtain rfl := Option.some.inj h
    exact lQ.retI rfl rfl hz
theorem ts_586 {R : lAR} (hR : lRok R) {E : lE} {ad : List Nat} (hn : tOk ad) {v1 : Int32} {s : TS} {A0 : lMem} {x : Int32} (h : t_586 v1 s = some x) {Z : lZ} (hz : Z (.inl (some (.int x))) (tp ad s A0)) : lSQ R E 1 586 [.ref (adr ad 0), .int v1] (tp ad s A0) Z := by
  refine lQ.sq pg_586 (Nat.le_of_ble_eq_true rfl) rfl ?_
  unfold t_586 at h
  refine lQ.loadI rfl rfl ?_
  rcases iteC h with ⟨hc, h⟩ | ⟨hc, h⟩
  · refine lQ.ifF rfl (decide_eq_false (Int32.not_le.mpr hc)) ?_
    refine lQ.loadN rfl rfl ?_
    refine lQ.get hR rfl (tf_0_9 hn) ?_
    refine lQ.goto rfl ?_
    obtain rfl := Option.some.inj h
    exact lQ.retI rfl rfl hz
  · refine lQ.ifT rfl (decide_eq_true (Int32.not_lt.mp hc)) ?_
    refine lQ.loadI rfl rfl ?_
    obtain rfl := Option.some.inj h
    exact lQ.retI rfl rfl hz
theorem ts_725 {R : lAR} (hR : lRok R) {E : lE} {ad : List Nat} (hn : tOk ad) {v1 : Int32} {s : TS} {A0 : lMem} {x : Int32} (h : t_725 v1 s = some x) {Z : lZ} (hz : Z (.inl (some (.int x))) (tp ad s A0)) : lSQ R E 1 725 [.ref (adr ad 1), .int v1] (tp ad s A0) Z := by
  refine lQ.sq pg_725 (Nat.le_of_ble_eq_true rfl) rfl ?_
  unfold t_725 at h
  refine lQ.loadN rfl rfl ?_
  refine lQ.get hR rfl (tf_1_31 hn) ?_
  refine lQ.loadI rfl rfl ?_
  obtain ⟨x1, hx, h⟩ := bindC h
  refine lQ.ald hR rfl (ta_68 hn hx) ?_
  refine lQ.stI rfl (lN2s rfl rfl) ?_
  refine lQ.loadN rfl rfl ?_
  refine lQ.get hR rfl (tf_1_28 hn) ?_
  refine lQ.loadN rfl rfl ?_
  refine lQ.get hR rfl (tf_1_32 hn) ?_
  refine lQ.loadI rfl rfl ?_
  obtain ⟨x2, hx, h⟩ := bindC h
  refine lQ.ald hR rfl (ta_69 hn hx) ?_
  obtain ⟨x3, hx, h⟩ := bindC h
  refine lQ.ald hR rfl (ta_66 hn hx) ?_
  refine lQ.loadN rfl rfl ?_
  refine lQ.get hR rfl (tf_1_1 hn) ?_
  refine lQ.loadI rfl rfl ?_
  obtain ⟨x4, hx, h⟩ := bindC h
  refine lQ.ald hR rfl (ta_50 hn hx) ?_
  refine lQ.binI rfl ?_
  refine lQ.loadN rfl rfl ?_
  refine lQ.get hR rfl (tf_1_29 hn) ?_
  refine lQ.loadN rfl rfl ?_
  refine lQ.get hR rfl (tf_1_32 hn) ?_
  refine lQ.loadI rfl rfl ?_
  obtain ⟨x5, hx, h⟩ := bindC h
  refine lQ.ald hR rfl (ta_69 hn hx) ?_
  obtain ⟨x6, hx, h⟩ := bindC h
  refine lQ.ald hR rfl (ta_67 hn hx) ?_
  refine lQ.binI rfl ?_
  refine lQ.loadN rfl rfl ?_
  refine lQ.get hR rfl (tf_1_2 hn) ?_
  refine lQ.loadI rfl rfl ?_
  obtain ⟨x7, hx, h⟩ := bindC h
  refine lQ.ald hR rfl (ta_51 hn hx) ?_
  refine lQ.binI rfl ?_
  obtain rfl := Option.some.inj h
  exact lQ.retI rfl rfl hz
theorem ts_724 {R : lAR} (hR : lRok R) {E : lE} {ad : List Nat} (hn : tOk ad) {v1 : Int32} {v2 : Int32} {s : TS} {A0 : lMem} {x : Int32} (h : t_724 v1 v2 s = some x) {Z : lZ} (hz : Z (.inl (some (.int x))) (tp ad s A0)) : lSQ R E 2 724 [.ref (adr ad 1), .int v1, .int v2] (tp ad s A0) Z := by
  refine lQ.sq pg_724 (Nat.le_of_ble_eq_true rfl) rfl ?_
  unfold t_724 at h
  refine lQ.push rfl ?_
  refine lQ.loadN rfl rfl ?_
  refine lQ.get hR rfl (tf_1_31 hn) ?_
  refine lQ.loadI rfl rfl ?_
  obtain ⟨x1, hx, h⟩ := bindC h
  refine lQ.ald hR rfl (ta_68 hn hx) ?_
  refine lQ.binI rfl ?_
  refine lQ.loadI rfl rfl ?_
  refine lQ.binI rfl ?_
  refine lQ.stI rfl (lN2s rfl rfl) ?_
  refine lQ.loadN rfl rfl ?_
  refine lQ.loadI rfl rfl ?_
  obtain ⟨x2, hx, h⟩ := bindC h
  refine lQ.callVI (F := (fun y A => x2 = y ∧ A = tp ad s A0)) (G := fun _ _ => False) (args := [.ref (adr ad 1), .int v1]) (r := []) hR rfl rfl rfl (Nat.le_of_ble_eq_true rfl) (Nat.le_of_ble_eq_true rfl) rfl (tk_1 hn rfl) (ts_725 hR hn hx (cI_mk ⟨rfl, rfl⟩)) ?_ (fun _ _ _ z => z.elim)
  rintro _ _ ⟨rfl, rfl⟩
  refine lQ.loadN rfl rfl ?_
  refine lQ.loadI rfl rfl ?_
  obtain ⟨x3, hx, h⟩ := bindC h
  refine lQ.callVI (F := (fun y A => x3 = y ∧ A = tp ad s A0)) (G := fun _ _ => False) (args := [.ref (adr ad 1), .int v1]) (r := [.int x2]) hR rfl rfl rfl (Nat.le_of_ble_eq_true rfl) (Nat.le_of_ble_eq_true rfl) rfl (tk_1 hn rfl) (ts_725 hR hn hx (cI_mk ⟨rfl, rfl⟩)) ?_ (fun _ _ _ z => z.elim)
  rintro _ _ ⟨rfl, rfl⟩
  refine lQ.loadN rfl rfl ?_
  refine lQ.push rfl ?_
  refine lQ.loadI rfl rfl ?_
  refine lQ.binI rfl ?_
  obtain ⟨x4, hx, h⟩ := bindC h
  refine lQ.callVI (F := (fun y A => x4 = y ∧ A = tp ad s A0)) (G := fun _ _ => False) (args := [.ref (adr ad 1), .int (2 * v1)]) (r := [.int x3, .int x2]) hR rfl rfl rfl (Nat.le_of_ble_eq_true rfl) (Nat.le_of_ble_eq_true rfl) rfl (tk_1 hn rfl) (ts_714 hR hn hx (cI_mk ⟨rfl, rfl⟩)) ?_ (fun _ _ _ z => z.elim)
  rintro _ _ ⟨rfl, rfl⟩
  refine lQ.binI rfl ?_
  refine lQ.loadN rfl rfl ?_
  refine lQ.get hR rfl (tf_1_6 hn) ?_
  refine lQ.loadI rfl rfl ?_
  obtain ⟨x5, hx, h⟩ := bindC h
  refine lQ.ald hR rfl (ta_55 hn hx) ?_
  refine lQ.loadN rfl rfl ?_
  refine lQ.get hR rfl (tf_1_7 hn) ?_
  refine lQ.loadI rfl rfl ?_
  obtain ⟨x6, hx, h⟩ := bindC h
  refine lQ.ald hR rfl (ta_56 hn hx) ?_
  obtain ⟨x7, hx, h⟩ := bindC h
  refine lQ.callI (F := (fun y A => x7 = y ∧ A = tp ad s A0)) (G := fun _ _ => False) (args := [.int x2, .int (x3 + x4), .int x5, .int x6]) (r := []) hR rfl rfl rfl (Nat.le_of_ble_eq_true rfl) (Nat.le_of_ble_eq_true rfl) (ts_706 hR hn hx (cI_mk ⟨rfl, rfl⟩)) ?_ (fun _ _ _ z => z.elim)
  rintro _ _ ⟨rfl, rfl⟩
  obtain ⟨v34, hy1, h1⟩ := bindC h
  have hJ1 : lQ R E 1 cd_724 34 [(0, .ref (adr ad 1)), (1, .int v1), (3, .int ((6 * x1) + v2))] [.int v34] (tp ad s A0) Z := by
    refine lQ.stI rfl (lN2s rfl rfl) ?_
    refine lQ.loadI rfl rfl ?_
    rcases iteC h1 with ⟨hc, h1⟩ | ⟨hc, h1⟩
    · refine lQ.ifF rfl (decide_eq_false (fun z => z hc)) ?_
      refine lQ.push rfl ?_
      refine lQ.goto rfl ?_
      obtain rfl := Option.some.inj h1
      exact lQ.retI rfl rfl hz
    · refine lQ.ifT rfl (decide_eq_true hc) ?_
      refine lQ.loadN rfl rfl ?_
      refine lQ.loadI rfl rfl ?_
      obtain ⟨x8, hx, h1⟩ := bindC h1
      refine lQ.callVI (F := (fun y A => x8 = y ∧ A = tp ad s A0)) (G := fun _ _ => False) (args := [.ref (adr ad 1), .int v1]) (r := []) hR rfl rfl rfl (Nat.le_of_ble_eq_true rfl) (Nat.le_of_ble_eq_true rfl) rfl (tk_1 hn rfl) (ts_725 hR hn hx (cI_mk ⟨rfl, rfl⟩)) ?_ (fun _ _ _ z => z.elim)
      rintro _ _ ⟨rfl, rfl⟩
      refine lQ.loadN rfl rfl ?_
      refine lQ.get hR rfl (tf_1_6 hn) ?_
      refine lQ.loadI rfl rfl ?_
      obtain ⟨x9, hx, h1⟩ := bindC h1
      refine lQ.ald hR rfl (ta_55 hn hx) ?_
      rcases iteC h1 with ⟨hc, h1⟩ | ⟨hc, h1⟩
      · refine lQ.cmpF rfl (decide_eq_false (Int32.not_le.mpr hc)) ?_
        refine lQ.loadN rfl rfl ?_
        refine lQ.loadI rfl rfl ?_
        obtain ⟨x11, hx, h1⟩ := bindC h1
        refine lQ.callVI (F := (fun y A => x11 = y ∧ A = tp ad s A0)) (G := fun _ _ => False) (args := [.ref (adr ad 1), .int v1]) (r := []) hR rfl rfl rfl (Nat.le_of_ble_eq_true rfl) (Nat.le_of_ble_eq_true rfl) rfl (tk_1 hn rfl) (ts_725 hR hn hx (cI_mk ⟨rfl, rfl⟩)) ?_ (fun _ _ _ z => z.elim)
        rintro _ _ ⟨rfl, rfl⟩
        refine lQ.goto rfl ?_
        obtain rfl := Option.some.inj h1
        exact lQ.retI rfl rfl hz
      · refine lQ.cmpT rfl (decide_eq_true (Int32.not_lt.mp hc)) ?_
        refine lQ.loadN rfl rfl ?_
        refine lQ.get hR rfl (tf_1_6 hn) ?_
        refine lQ.loadI rfl rfl ?_
        obtain ⟨x10, hx, h1⟩ := bindC h1
        refine lQ.ald hR rfl (ta_55 hn hx) ?_
        obtain rfl := Option.some.inj h1
        exact lQ.retI rfl rfl hz
  rcases iteC hy1 with ⟨hc, hy1⟩ | ⟨hc, hy1⟩
  · refine lQ.ifF rfl (decide_eq_false (Int32.not_le.mpr hc)) ?_
    refine lQ.push rfl ?_
    refine lQ.goto rfl ?_
    obtain rfl := Option.some.inj hy1
    exact lQ.sub (lSb rfl (lSb rfl (lSb rfl lSb0))) hJ1
  · refine lQ.ifT rfl (decide_eq_true (Int32.not_lt.mp hc)) ?_
    refine lQ.push rfl ?_
    obtain rfl := Option.some.inj hy1
    exact lQ.sub (lSb rfl (lSb rfl (lSb rfl lSb0))) hJ1
theorem ts_585 {R : lAR} (hR : lRok R) {E : lE} {ad : List Nat} (hn : tOk ad) {v1 : Int32} {v2 : Int32} {v3 : Int32} {s : TS} {A0 : lMem} {x : TS} (h : t_585 v1 v2 v3 s = some x) {Z : lZ} (hz : Z (.inl none) (tp ad x A0)) : lSQ R E 5 585 [.ref (adr ad 0), .int v1, .int v2, .int v3] (tp ad s A0) Z := by
  refine lQ.sq pg_585 (Nat.le_of_ble_eq_true rfl) rfl ?_
  unfold t_585 at h
  refine lQ.loadN rfl rfl ?_
  refine lQ.loadN rfl rfl ?_
  refine lQ.get hR rfl (tf_0_3 hn) ?_
  refine lQ.loadI rfl rfl ?_
  refine lQ.push rfl ?_
  obtain ⟨x1, hx, h⟩ := bindC h
  refine lQ.callVI (F := (fun y A => x1 = y ∧ A = tp ad s A0)) (G := fun _ _ => False) (args := [.ref (adr ad 1), .int v3, .int 1]) (r := [.ref (adr ad 0)]) hR rfl rfl rfl (Nat.le_of_ble_eq_true rfl) (Nat.le_of_ble_eq_true rfl) rfl (tk_1 hn rfl) (ts_723 hR hn hx (cI_mk ⟨rfl, rfl⟩)) ?_ (fun _ _ _ z => z.elim)
  rintro _ _ ⟨rfl, rfl⟩
  obtain ⟨x2, hx, h⟩ := bindC h
  refine lQ.callVI (F := (fun y A => x2 = y ∧ A = tp ad s A0)) (G := fun _ _ => False) (args := [.ref (adr ad 0), .int x1]) (r := []) hR rfl rfl rfl (Nat.le_of_ble_eq_true rfl) (Nat.le_of_ble_eq_true rfl) rfl (tk_0 hn rfl) (ts_586 hR hn hx (cI_mk ⟨rfl, rfl⟩)) ?_ (fun _ _ _ z => z.elim)
  rintro _ _ ⟨rfl, rfl⟩
  refine lQ.stI rfl (lN2s rfl rfl) ?_
  refine lQ.loadN rfl rfl ?_
  refine lQ.loadN rfl rfl ?_
  refine lQ.get hR rfl (tf_0_3 hn) ?_
  refine lQ.loadI rfl rfl ?_
  refine lQ.push rfl ?_
  obtain ⟨x3, hx, h⟩ := bindC h
  refine lQ.callVI (F := (fun y A => x3 = y ∧ A = tp ad s A0)) (G := fun _ _ => False) (args := [.ref (adr ad 1), .int v3, .int 0]) (r := [.ref (adr ad 0)]) hR rfl rfl rfl (Nat.le_of_ble_eq_true rfl) (Nat.le_of_ble_eq_true rfl) rfl (tk_1 hn rfl) (ts_723 hR hn hx (cI_mk ⟨rfl, rfl⟩)) ?_ (fun _ _ _ z => z.elim)
  rintro _ _ ⟨rfl, rfl⟩
  obtain ⟨x4, hx, h⟩ := bindC h
  refine lQ.callVI (F := (fun y A => x4 = y ∧ A = tp ad s A0)) (G := fun _ _ => False) (args := [.ref (adr ad 0), .int x3]) (r := []) hR rfl rfl rfl (Nat.le_of_ble_eq_true rfl) (Nat.le_of_ble_eq_true rfl) rfl (tk_0 hn rfl) (ts_586 hR hn hx (cI_mk ⟨rfl, rfl⟩)) ?_ (fun _ _ _ z => z.elim)
  rintro _ _ ⟨rfl, rfl⟩
  refine lQ.stI rfl (lN2s rfl rfl) ?_
  refine lQ.loadI rfl rfl ?_
  refine lQ.loadI rfl rfl ?_
  rcases iteC h with ⟨hc, h⟩ | ⟨hc, h⟩
  · refine lQ.cmpT rfl (decide_eq_true hc) ?_
    obtain rfl := Option.some.inj h
    exact lQ.retV rfl hz
  · refine lQ.cmpF rfl (decide_eq_false hc) ?_
    refine lQ.loadN rfl rfl ?_
    refine lQ.get hR rfl (tf_0_3 hn) ?_
    refine lQ.loadI rfl rfl ?_
    refine lQ.loadI rfl rfl ?_
    obtain ⟨x5, hx, h⟩ := bindC h
    refine lQ.callVI (F := (fun y A => x5 = y ∧ A = tp ad s A0)) (G := fun _ _ => False) (args := [.ref (adr ad 1), .int v3, .int v2]) (r := []) hR rfl rfl rfl (Nat.le_of_ble_eq_true rfl) (Nat.le_of_ble_eq_true rfl) rfl (tk_1 hn rfl) (ts_724 hR hn hx (cI_mk ⟨rfl, rfl⟩)) ?_ (fun _ _ _ z => z.elim)
    rintro _ _ ⟨rfl, rfl⟩
    rcases iteC h with ⟨hc, h⟩ | ⟨hc, h⟩
    · refine lQ.ifT rfl (decide_eq_true hc) ?_
      obtain rfl := Option.some.inj h
      exact lQ.retV rfl hz
    · refine lQ.ifF rfl (decide_eq_false hc) ?_
      refine lQ.loadN rfl rfl ?_
      refine lQ.get hR rfl (tf_0_11 hn) ?_
      refine lQ.loadN rfl rfl ?_
      refine lQ.get hR rfl (tf_0_10 hn) ?_
      refine lQ.loadI rfl rfl ?_
      obtain ⟨s6, hx, h⟩ := bindC h
      refine lQ.ast hR rfl (tw_7 hn hx) ?_
      rintro _ rfl
      refine lQ.loadN rfl rfl ?_
      refine lQ.get hR rfl (tf_0_12 hn) ?_
      refine lQ.loadN rfl rfl ?_
      refine lQ.get hR rfl (tf_0_10 hn) ?_
      refine lQ.loadI rfl rfl ?_
      obtain ⟨s7, hx, h⟩ := bindC h
      refine lQ.ast hR rfl (tw_8 hn hx) ?_
      rintro _ rfl
      refine lQ.loadN rfl rfl ?_
      refine lQ.get hR rfl (tf_0_13 hn) ?_
      refine lQ.loadN rfl rfl ?_
      refine lQ.get hR rfl (tf_0_10 hn) ?_
      refine lQ.loadI rfl rfl ?_
      obtain ⟨s8, hx, h⟩ := bindC h
      refine lQ.ast hR rfl (tw_9 hn hx) ?_
      rintro _ rfl
      refine lQ.loadN rfl rfl ?_
      refine lQ.get hR rfl (tf_0_14 hn) ?_
      refine lQ.loadN rfl rfl ?_
      refine lQ.get hR rfl (tf_0_10 hn) ?_
      refine lQ.loadI rfl rfl ?_
      obtain ⟨s9, hx, h⟩ := bindC h
      refine lQ.ast hR rfl (tw_10 hn hx) ?_
      rintro _ rfl
      refine lQ.loadN rfl rfl ?_
      refine lQ.get hR rfl (tf_0_15 hn) ?_
      refine lQ.loadN rfl rfl ?_
      refine lQ.get hR rfl (tf_0_10 hn) ?_
      refine lQ.loadN rfl rfl ?_
      refine lQ.get hR rfl (tf_0_3 hn) ?_
      refine lQ.loadI rfl rfl ?_
      refine lQ.loadI rfl rfl ?_
      obtain ⟨x10, hx, h⟩ := bindC h
      refine lQ.callVI (F := (fun y A => x10 = y ∧ A = tp ad s9 A0)) (G := fun _ _ => False) (args := [.ref (adr ad 1), .int v3, .int v2]) (r := [.int (s9.1 10), .ref (adr ad 11)]) hR rfl rfl rfl (Nat.le_of_ble_eq_true rfl) (Nat.le_of_ble_eq_true rfl) rfl (tk_1 hn rfl) (ts_724 hR hn hx (cI_mk ⟨rfl, rfl⟩)) ?_ (fun _ _ _ z => z.elim)
      rintro _ _ ⟨rfl, rfl⟩
      obtain ⟨s11, hx, h⟩ := bindC h
      refine lQ.ast hR rfl (tw_11 hn hx) ?_
      rintro _ rfl
      refine lQ.loadN rfl rfl ?_
      refine lQ.get hR rfl (tf_0_19 hn) ?_
      refine lQ.loadN rfl rfl ?_
      refine lQ.get hR rfl (tf_0_10 hn) ?_
      refine lQ.push rfl ?_
      obtain ⟨s12, hx, h⟩ := bindC h
      refine lQ.ast hR rfl (tw_15 hn hx) ?_
      rintro _ rfl
      refine lQ.loadN rfl rfl ?_
      refine lQ.dupN rfl ?_
      refine lQ.get hR rfl (tf_0_10 hn) ?_
      refine lQ.push rfl ?_
      refine lQ.binI rfl ?_
      obtain ⟨s13, hx, h⟩ := bindC h
      refine lQ.put hR rfl rfl (tq_0_10 hn hx) ?_
      rintro _ rfl
      obtain rfl := Option.some.inj h
      exact lQ.retV rfl hz
theorem ts_584 {R : lAR} (hR : lRok R) {E : lE} {ad : List Nat} (hn : tOk ad) {s : TS} {A0 : lMem} {x : TS} (h : t_584 s = some x) {Z : lZ} (hz : Z (.inl none) (tp ad x A0)) : lSQ R E 6 584 [.ref (adr ad 0)] (tp ad s A0) Z := by
  refine lQ.sq pg_584 (Nat.le_of_ble_eq_true rfl) rfl ?_
  unfold t_584 at h
  refine lQ.push rfl ?_
  refine lQ.stI rfl (lN2s rfl rfl) ?_
  obtain ⟨v43, hy1, h1⟩ := bindC h
  have hJ1 : lQ R E 5 cd_584 43 [] [] (tp ad v43 A0) Z := by
    obtain rfl := Option.some.inj h1
    exact lQ.retV rfl hz
  refine lQ.sub (lSb rfl (lSb rfl lSb0)) (wh_run (P := fun p2 => lQ R E 5 cd_584 2 [(0, .ref (adr ad 0)), (1, .int p2.2)] [] (tp ad p2.1 A0) Z) hy1 ?_)
  intro p2 r2 hb2 hI2 hX2
  refine lQ.loadI rfl rfl ?_
  refine lQ.loadN rfl rfl ?_
  refine lQ.get hR rfl (tf_0_3 hn) ?_
  refine lQ.get hR rfl (tf_1_0 hn) ?_
  rcases iteC hb2 with ⟨hc, hb2⟩ | ⟨hc, hb2⟩
  · refine lQ.cmpF rfl (decide_eq_false (Int32.not_le.mpr hc)) ?_
    refine lQ.push rfl ?_
    refine lQ.stI rfl (lN2s rfl rfl) ?_
    obtain ⟨v41, hy3, h3⟩ := bindC hb2
    have hJ3 : lQ R E 5 cd_584 41 [(0, .ref (adr ad 0)), (1, .int p2.2)] [] (tp ad v41 A0) Z := by
      refine lQ.inc rfl rfl (lN2s rfl rfl) ?_
      refine lQ.goto rfl ?_
      obtain rfl := Option.some.inj h3
      exact lQ.sub (lSb rfl (lSb rfl lSb0)) (hI2 _ rfl)
    refine lQ.sub (lSb rfl (lSb rfl (lSb rfl lSb0))) (wh_run (P := fun p9 => lQ R E 5 cd_584 9 [(0, .ref (adr ad 0)), (1, .int p2.2), (2, .int p9.2)] [] (tp ad p9.1 A0) Z) hy3 ?_)
    intro p9 r4 hb4 hI4 hX4
    refine lQ.loadI rfl rfl ?_
    refine lQ.loadN rfl rfl ?_
    refine lQ.get hR rfl (tf_0_3 hn) ?_
    refine lQ.get hR rfl (tf_1_5 hn) ?_
    refine lQ.loadI rfl rfl ?_
    obtain ⟨x1, hx, hb4⟩ := bindC hb4
    refine lQ.ald hR rfl (ta_54 hn hx) ?_
    rcases iteC hb4 with ⟨hc, hb4⟩ | ⟨hc, hb4⟩
    · refine lQ.cmpF rfl (decide_eq_false (Int32.not_le.mpr hc)) ?_
      refine lQ.loadN rfl rfl ?_
      refine lQ.get hR rfl (tf_0_3 hn) ?_
      refine lQ.loadI rfl rfl ?_
      refine lQ.push rfl ?_
      obtain ⟨x2, hx, hb4⟩ := bindC hb4
      refine lQ.callVI (F := (fun y A => x2 = y ∧ A = tp ad p9.1 A0)) (G := fun _ _ => False) (args := [.ref (adr ad 1), .int p2.2, .int 0]) (r := []) hR rfl rfl rfl (Nat.le_of_ble_eq_true rfl) (Nat.le_of_ble_eq_true rfl) rfl (tk_1 hn rfl) (ts_722 hR hn hx (cI_mk ⟨rfl, rfl⟩)) ?_ (fun _ _ _ z => z.elim)
      rintro _ _ ⟨rfl, rfl⟩
      refine lQ.stI rfl (lN2s rfl rfl) ?_
      refine lQ.push rfl ?_
      refine lQ.stI rfl (lN2s rfl rfl) ?_
      obtain ⟨v39, hy5, h5⟩ := bindC hb4
      have hJ5 : lQ R E 5 cd_584 39 [(0, .ref (adr ad 0)), (1, .int p2.2), (2, .int p9.2)] [] (tp ad v39 A0) Z := by
        refine lQ.inc rfl rfl (lN2s rfl rfl) ?_
        refine lQ.goto rfl ?_
        obtain rfl := Option.some.inj h5
        exact lQ.sub (lSb rfl (lSb rfl (lSb rfl lSb0))) (hI4 _ rfl)
      refine lQ.sub (lSb rfl (lSb rfl (lSb rfl (lSb rfl (lSb rfl lSb0))))) (wh_run (P := fun p24 => lQ R E 5 cd_584 24 [(0, .ref (adr ad 0)), (1, .int p2.2), (2, .int p9.2), (3, .int p24.2.1), (4, .int p24.2.2)] [] (tp ad p24.1 A0) Z) hy5 ?_)
      intro p24 r6 hb6 hI6 hX6
      refine lQ.loadI rfl rfl ?_
      rcases iteC hb6 with ⟨hc, hb6⟩ | ⟨hc, hb6⟩
      · refine lQ.ifT rfl (decide_eq_true hc) ?_
        obtain rfl := Option.some.inj hb6
        obtain rfl := hX6 _ rfl
        exact lQ.sub (lSb rfl (lSb rfl (lSb rfl lSb0))) hJ5
      · refine lQ.ifF rfl (decide_eq_false hc) ?_
        refine lQ.loadN rfl rfl ?_
        refine lQ.loadI rfl rfl ?_
        refine lQ.loadI rfl rfl ?_
        refine lQ.loadI rfl rfl ?_
        obtain ⟨x3, hx, hb6⟩ := bindC hb6
        refine lQ.callVV (F := (fun A => A = tp ad x3 A0)) (G := fun _ _ => False) (args := [.ref (adr ad 0), .int p2.2, .int p9.2, .int p24.2.1]) (r := []) hR rfl rfl rfl (Nat.le_of_ble_eq_true rfl) (Nat.le_of_ble_eq_true rfl) rfl (tk_0 hn rfl) (ts_585 hR hn hx (cV_mk rfl)) ?_ (fun _ _ _ z => z.elim)
        rintro _ rfl
        refine lQ.loadN rfl rfl ?_
        refine lQ.get hR rfl (tf_0_3 hn) ?_
        refine lQ.loadI rfl rfl ?_
        refine lQ.loadI rfl rfl ?_
        obtain ⟨x4, hx, hb6⟩ := bindC hb6
        refine lQ.callVI (F := (fun y A => x4 = y ∧ A = tp ad x3 A0)) (G := fun _ _ => False) (args := [.ref (adr ad 1), .int p2.2, .int p24.2.2]) (r := []) hR rfl rfl rfl (Nat.le_of_ble_eq_true rfl) (Nat.le_of_ble_eq_true rfl) rfl (tk_1 hn rfl) (ts_722 hR hn hx (cI_mk ⟨rfl, rfl⟩)) ?_ (fun _ _ _ z => z.elim)
        rintro _ _ ⟨rfl, rfl⟩
        refine lQ.stI rfl (lN2s rfl rfl) ?_
        refine lQ.inc rfl rfl (lN2s rfl rfl) ?_
        refine lQ.goto rfl ?_
        obtain rfl := Option.some.inj hb6
        exact lQ.sub (lSb rfl (lSb rfl (lSb rfl (lSb rfl (lSb rfl lSb0))))) (hI6 _ rfl)
    · refine lQ.cmpT rfl (decide_eq_true (Int32.not_lt.mp hc)) ?_
      obtain rfl := Option.some.inj hb4
      obtain rfl := hX4 _ rfl
      exact lQ.sub (lSb rfl (lSb rfl lSb0)) hJ3
  · refine lQ.cmpT rfl (decide_eq_true (Int32.not_lt.mp hc)) ?_
    obtain rfl := Option.some.inj hb2
    obtain rfl := hX2 _ rfl
    exact lQ.sub lSb0 hJ1
theorem ts_588 {R : lAR} (hR : lRok R) {E : lE} {ad : List Nat} (hn : tOk ad) {v1 : Int32} {v2 : Int32} {s : TS} {A0 : lMem} {x : Int32} (h : t_588 v1 v2 s = some x) {Z : lZ} (hz : Z (.inl (some (.int x))) (tp ad s A0)) : lSQ R E 3 588 [.ref (adr ad 0), .int v1, .int v2] (tp ad s A0) Z := by
  refine lQ.sq pg_588 (Nat.le_of_ble_eq_true rfl) rfl ?_
  unfold t_588 at h
  refine lQ.loadI rfl rfl ?_
  refine lQ.loadI rfl rfl ?_
  obtain ⟨x1, hx, h⟩ := bindC h
  refine lQ.callI (F := (fun y A => x1 = y ∧ A = tp ad s A0)) (G := fun _ _ => False) (args := [.int v1, .int v2]) (r := []) hR rfl rfl rfl (Nat.le_of_ble_eq_true rfl) (Nat.le_of_ble_eq_true rfl) (ts_569 hR hn hx (cI_mk ⟨rfl, rfl⟩)) ?_ (fun _ _ _ z => z.elim)
  rintro _ _ ⟨rfl, rfl⟩
  rcases iteC h with ⟨hc, h⟩ | ⟨hc, h⟩
  · refine lQ.ifT rfl (decide_eq_true hc) ?_
    refine lQ.push rfl ?_
    refine lQ.goto rfl ?_
    obtain rfl := Option.some.inj h
    exact lQ.retI rfl rfl hz
  · refine lQ.ifF rfl (decide_eq_false hc) ?_
    refine lQ.loadN rfl rfl ?_
    refine lQ.get hR rfl (tf_0_57 hn) ?_
    refine lQ.push rfl ?_
    refine lQ.loadI rfl rfl ?_
    refine lQ.binI rfl ?_
    refine lQ.loadI rfl rfl ?_
    refine lQ.binI rfl ?_
    obtain ⟨x2, hx, h⟩ := bindC h
    refine lQ.ald hR rfl (ta_47 hn hx) ?_
    rcases iteC h with ⟨hc, h⟩ | ⟨hc, h⟩
    · refine lQ.ifF rfl (decide_eq_false (Int32.not_le.mpr hc)) ?_
      refine lQ.push rfl ?_
      refine lQ.goto rfl ?_
      obtain rfl := Option.some.inj h
      exact lQ.retI rfl rfl hz
    · refine lQ.ifT rfl (decide_eq_true (Int32.not_lt.mp hc)) ?_
      refine lQ.push rfl ?_
      obtain rfl := Option.some.inj h
      exact lQ.retI rfl rfl hz
theorem ts_589 {R : lAR} (hR : lRok R) {E : lE} {ad : List Nat} (hn : tOk ad) {v0 : Int32} {v1 : Int32} {s : TS} {A0 : lMem} {x : Int32} (h : t_589 v0 v1 s = some x) {Z : lZ} (hz : Z (.inl (some (.int x))) (tp ad s A0)) : lSQ R E 1 589 [.int v0, .int v1] (tp ad s A0) Z := by
  refine lQ.sq pg_589 (Nat.le_of_ble_eq_true rfl) rfl ?_
  unfold t_589 at h
  refine lQ.loadI rfl rfl ?_
  refine lQ.loadI rfl rfl ?_
  rcases iteC h with ⟨hc, h⟩ | ⟨hc, h⟩
  · refine lQ.ifF rfl (decide_eq_false (fun z => z hc)) ?_
    refine lQ.push rfl ?_
    refine lQ.goto rfl ?_
    refine lQ.binI rfl ?_
    obtain rfl := Option.some.inj h
    exact lQ.retI rfl rfl hz
  · refine lQ.ifT rfl (decide_eq_true hc) ?_
    refine lQ.loadI rfl rfl ?_
    refine lQ.push rfl ?_
    rcases iteC h with ⟨hc, h⟩ | ⟨hc, h⟩
    · refine lQ.cmpF rfl (decide_eq_false (fun z => z hc)) ?_
      refine lQ.push rfl ?_
      refine lQ.goto rfl ?_
      refine lQ.binI rfl ?_
      obtain rfl := Option.some.inj h
      exact lQ.retI rfl rfl hz
    · refine lQ.cmpT rfl (decide_eq_true hc) ?_
      refine lQ.push rfl ?_
      refine lQ.binI rfl ?_
      obtain rfl := Option.some.inj h
      exact lQ.retI rfl rfl hz
theorem ts_590 {R : lAR} (hR : lRok R) {E : lE} {ad : List Nat} (hn : tOk ad) {v0 : Int32} {v1 : Int32} {s : TS} {A0 : lMem} {x : Int32} (h : t_590 v0 v1 s = some x) {Z : lZ} (hz : Z (.inl (some (.int x))) (tp ad s A0)) : lSQ R E 1 590 [.int v0, .int v1] (tp ad s A0) Z := by
  refine lQ.sq pg_590 (Nat.le_of_ble_eq_true rfl) rfl ?_
  unfold t_590 at h
  refine lQ.loadI rfl rfl ?_
  refine lQ.loadI rfl rfl ?_
  refine lQ.push rfl ?_
  rcases iteC h with ⟨hc, h⟩ | ⟨hc, h⟩
  · refine lQ.cmpF rfl (decide_eq_false (fun z => z hc)) ?_
    refine lQ.push rfl ?_
    refine lQ.goto rfl ?_
    refine lQ.binI rfl ?_
    obtain rfl := Option.some.inj h
    exact lQ.retI rfl rfl hz
  · refine lQ.cmpT rfl (decide_eq_true hc) ?_
    refine lQ.loadI rfl rfl ?_
    refine lQ.push rfl ?_
    rcases iteC h with ⟨hc, h⟩ | ⟨hc, h⟩
    · refine lQ.cmpF rfl (decide_eq_false (fun z => z hc)) ?_
      refine lQ.push rfl ?_
      refine lQ.goto rfl ?_
      refine lQ.binI rfl ?_
      obtain rfl := Option.some.inj h
      exact lQ.retI rfl rfl hz
    · refine lQ.cmpT rfl (decide_eq_true hc) ?_
      refine lQ.push rfl ?_
      refine lQ.binI rfl ?_
      obtain rfl := Option.some.inj h
      exact lQ.retI rfl rfl hz
theorem ts_726 {R : lAR} (hR : lRok R) {E : lE} {ad : List Nat} (hn : tOk ad) {v1 : Int32} {v2 : Int32} {v3 : Int32} {s : TS} {A0 : lMem} {x : Int32} (h : t_726 v1 v2 v3 s = some x) {Z : lZ} (hz : Z (.inl (some (.int x))) (tp ad s A0)) : lSQ R E 2 726 [.ref (adr ad 1), .int v1, .int v2, .int v3] (tp ad s A0) Z := by
  refine lQ.sq pg_726 (Nat.le_of_ble_eq_true rfl) rfl ?_
  unfold t_726 at h
  refine lQ.push rfl ?_
  refine lQ.stI rfl (lN2s rfl rfl) ?_
  refine lQ.push rfl ?_
  refine lQ.stI rfl (lN2s rfl rfl) ?_
  obtain ⟨v97, hy1, h1⟩ := bindC h
  have hJ1 : lQ R E 1 cd_726 97 [(4, .int v97)] [] (tp ad s A0) Z := by
    refine lQ.loadI rfl rfl ?_
    obtain rfl := Option.some.inj h1
    exact lQ.retI rfl rfl hz
  refine lQ.sub (lSb rfl (lSb rfl (lSb rfl (lSb rfl (lSb rfl (lSb rfl lSb0)))))) (wh_run (P := fun p4 => lQ R E 1 cd_726 4 [(0, .ref (adr ad 1)), (1, .int v1), (2, .int v2), (3, .int v3), (4, .int p4.1), (5, .int p4.2)] [] (tp ad s A0) Z) hy1 ?_)
  intro p4 r2 hb2 hI2 hX2
  refine lQ.loadI rfl rfl ?_
  refine lQ.loadN rfl rfl ?_
  refine lQ.get hR rfl (tf_1_0 hn) ?_
  rcases iteC hb2 with ⟨hc, hb2⟩ | ⟨hc, hb2⟩
  · refine lQ.cmpF rfl (decide_eq_false (Int32.not_le.mpr hc)) ?_
    refine lQ.loadI rfl rfl ?_
    refine lQ.push rfl ?_
    obtain ⟨v14, hy3, h3⟩ := bindC hb2
    have hJ3 : lQ R E 1 cd_726 14 [(0, .ref (adr ad 1)), (1, .int v1), (2, .int v2), (3, .int v3), (4, .int p4.1), (5, .int p4.2)] [.int v14] (tp ad s A0) Z := by
      refine lQ.stI rfl (lN2s rfl rfl) ?_
      refine lQ.loadI rfl rfl ?_
      obtain ⟨v34, hy4, h4⟩ := bindC h3
      have hJ4 : lQ R E 1 cd_726 34 [(0, .ref (adr ad 1)), (1, .int v1), (2, .int v2), (3, .int v3), (4, .int p4.1), (5, .int p4.2), (6, .int v14)] [.int v34] (tp ad s A0) Z := by
        refine lQ.stI rfl (lN2s rfl rfl) ?_
        refine lQ.loadI rfl rfl ?_
        obtain ⟨v88, hy5, h5⟩ := bindC h4
        have hJ5 : lQ R E 1 cd_726 88 [(0, .ref (adr ad 1)), (1, .int v1), (2, .int v2), (3, .int v3), (4, .int p4.1), (5, .int p4.2)] [.int v88] (tp ad s A0) Z := by
          refine lQ.stI rfl (lN2n rfl) ?_
          refine lQ.loadI rfl rfl ?_
          obtain ⟨v94, hy6, h6⟩ := bindC h5
          have hJ6 : lQ R E 1 cd_726 94 [(0, .ref (adr ad 1)), (1, .int v1), (2, .int v2), (3, .int v3), (5, .int p4.2)] [.int v94] (tp ad s A0) Z := by
            refine lQ.stI rfl (lN2s rfl rfl) ?_
            refine lQ.inc rfl rfl (lN2s rfl rfl) ?_
            refine lQ.goto rfl ?_
            obtain rfl := Option.some.inj h6
            exact lQ.sub (lSb rfl (lSb rfl (lSb rfl (lSb rfl (lSb rfl (lSb rfl lSb0)))))) (hI2 _ rfl)
          rcases iteC hy6 with ⟨hc, hy6⟩ | ⟨hc, hy6⟩
          · refine lQ.ifT rfl (decide_eq_true hc) ?_
            refine lQ.loadI rfl rfl ?_
            obtain rfl := Option.some.inj hy6
            exact lQ.sub (lSb rfl (lSb rfl (lSb rfl (lSb rfl (lSb rfl lSb0))))) hJ6
          · refine lQ.ifF rfl (decide_eq_false hc) ?_
            refine lQ.loadI rfl rfl ?_
            refine lQ.goto rfl ?_
            obtain rfl := Option.some.inj hy6
            exact lQ.sub (lSb rfl (lSb rfl (lSb rfl (lSb rfl (lSb rfl lSb0))))) hJ6
        rcases iteC hy5 with ⟨hc, hy5⟩ | ⟨hc, hy5⟩
        · refine lQ.ifT rfl (decide_eq_true hc) ?_
          refine lQ.loadN rfl rfl ?_
          refine lQ.get hR rfl (tf_1_3 hn) ?_
          refine lQ.loadI rfl rfl ?_
          obtain ⟨x1, hx, hy5⟩ := bindC hy5
          refine lQ.ald hR rfl (ta_52 hn hx) ?_
          rcases iteC hy5 with ⟨hc, hy5⟩ | ⟨hc, hy5⟩
          · refine lQ.ifT rfl (decide_eq_true hc) ?_
            refine lQ.push rfl ?_
            obtain rfl := Option.some.inj hy5
            exact lQ.sub (lSb rfl (lSb rfl (lSb rfl (lSb rfl (lSb rfl (lSb rfl lSb0)))))) hJ5
          · refine lQ.ifF rfl (decide_eq_false hc) ?_
            refine lQ.loadN rfl rfl ?_
            refine lQ.get hR rfl (tf_1_2 hn) ?_
            refine lQ.loadI rfl rfl ?_
            obtain ⟨x2, hx, hy5⟩ := bindC hy5
            refine lQ.ald hR rfl (ta_51 hn hx) ?_
            refine lQ.loadI rfl rfl ?_
            rcases iteC hy5 with ⟨hc, hy5⟩ | ⟨hc, hy5⟩
            · refine lQ.cmpF rfl (decide_eq_false (fun z => z hc)) ?_
              refine lQ.loadN rfl rfl ?_
              refine lQ.get hR rfl (tf_1_1 hn) ?_
              refine lQ.loadI rfl rfl ?_
              obtain ⟨x3, hx, hy5⟩ := bindC hy5
              refine lQ.ald hR rfl (ta_50 hn hx) ?_
              refine lQ.loadI rfl rfl ?_
              rcases iteC hy5 with ⟨hc, hy5⟩ | ⟨hc, hy5⟩
              · refine lQ.cmpT rfl (decide_eq_true hc) ?_
                refine lQ.push rfl ?_
                obtain rfl := Option.some.inj hy5
                exact lQ.sub (lSb rfl (lSb rfl (lSb rfl (lSb rfl (lSb rfl (lSb rfl lSb0)))))) hJ5
              · refine lQ.cmpF rfl (decide_eq_false hc) ?_
                refine lQ.loadN rfl rfl ?_
                refine lQ.loadI rfl rfl ?_
                obtain ⟨x4, hx, hy5⟩ := bindC hy5
                refine lQ.callVI (F := (fun y A => x4 = y ∧ A = tp ad s A0)) (G := fun _ _ => False) (args := [.ref (adr ad 1), .int p4.2]) (r := []) hR rfl rfl rfl (Nat.le_of_ble_eq_true rfl) (Nat.le_of_ble_eq_true rfl) rfl (tk_1 hn rfl) (ts_679 hR hn hx (cI_mk ⟨rfl, rfl⟩)) ?_ (fun _ _ _ z => z.elim)
                rintro _ _ ⟨rfl, rfl⟩
                refine lQ.loadI rfl rfl ?_
                rcases iteC hy5 with ⟨hc, hy5⟩ | ⟨hc, hy5⟩
                · refine lQ.cmpF rfl (decide_eq_false (Int32.not_le.mpr hc)) ?_
                  refine lQ.push rfl ?_
                  refine lQ.goto rfl ?_
                  obtain rfl := Option.some.inj hy5
                  exact lQ.sub (lSb rfl (lSb rfl (lSb rfl (lSb rfl (lSb rfl (lSb rfl lSb0)))))) hJ5
                · refine lQ.cmpT rfl (decide_eq_true (Int32.not_lt.mp hc)) ?_
                  refine lQ.push rfl ?_
                  obtain rfl := Option.some.inj hy5
                  exact lQ.sub (lSb rfl (lSb rfl (lSb rfl (lSb rfl (lSb rfl (lSb rfl lSb0)))))) hJ5
            · refine lQ.cmpT rfl (decide_eq_true hc) ?_
              refine lQ.push rfl ?_
              obtain rfl := Option.some.inj hy5
              exact lQ.sub (lSb rfl (lSb rfl (lSb rfl (lSb rfl (lSb rfl (lSb rfl lSb0)))))) hJ5
        · refine lQ.ifF rfl (decide_eq_false hc) ?_
          refine lQ.loadN rfl rfl ?_
          refine lQ.get hR rfl (tf_1_3 hn) ?_
          refine lQ.loadI rfl rfl ?_
          obtain ⟨x5, hx, hy5⟩ := bindC hy5
          refine lQ.ald hR rfl (ta_52 hn hx) ?_
          rcases iteC hy5 with ⟨hc, hy5⟩ | ⟨hc, hy5⟩
          · refine lQ.ifF rfl (decide_eq_false (fun z => z hc)) ?_
            refine lQ.loadN rfl rfl ?_
            refine lQ.get hR rfl (tf_1_1 hn) ?_
            refine lQ.loadI rfl rfl ?_
            obtain ⟨x6, hx, hy5⟩ := bindC hy5
            refine lQ.ald hR rfl (ta_50 hn hx) ?_
            refine lQ.loadI rfl rfl ?_
            rcases iteC hy5 with ⟨hc, hy5⟩ | ⟨hc, hy5⟩
            · refine lQ.cmpF rfl (decide_eq_false (fun z => z hc)) ?_
              refine lQ.loadN rfl rfl ?_
              refine lQ.get hR rfl (tf_1_2 hn) ?_
              refine lQ.loadI rfl rfl ?_
              obtain ⟨x7, hx, hy5⟩ := bindC hy5
              refine lQ.ald hR rfl (ta_51 hn hx) ?_
              refine lQ.loadI rfl rfl ?_
              rcases iteC hy5 with ⟨hc, hy5⟩ | ⟨hc, hy5⟩
              · refine lQ.cmpT rfl (decide_eq_true hc) ?_
                refine lQ.push rfl ?_
                refine lQ.goto rfl ?_
                obtain rfl := Option.some.inj hy5
                exact lQ.sub (lSb rfl (lSb rfl (lSb rfl (lSb rfl (lSb rfl (lSb rfl lSb0)))))) hJ5
              · refine lQ.cmpF rfl (decide_eq_false hc) ?_
                refine lQ.loadN rfl rfl ?_
                refine lQ.loadI rfl rfl ?_
                obtain ⟨x8, hx, hy5⟩ := bindC hy5
                refine lQ.callVI (F := (fun y A => x8 = y ∧ A = tp ad s A0)) (G := fun _ _ => False) (args := [.ref (adr ad 1), .int p4.2]) (r := []) hR rfl rfl rfl (Nat.le_of_ble_eq_true rfl) (Nat.le_of_ble_eq_true rfl) rfl (tk_1 hn rfl) (ts_680 hR hn hx (cI_mk ⟨rfl, rfl⟩)) ?_ (fun _ _ _ z => z.elim)
                rintro _ _ ⟨rfl, rfl⟩
                refine lQ.loadI rfl rfl ?_
                rcases iteC hy5 with ⟨hc, hy5⟩ | ⟨hc, hy5⟩
                · refine lQ.cmpF rfl (decide_eq_false (Int32.not_le.mpr hc)) ?_
                  refine lQ.push rfl ?_
                  refine lQ.goto rfl ?_
                  obtain rfl := Option.some.inj hy5
                  exact lQ.sub (lSb rfl (lSb rfl (lSb rfl (lSb rfl (lSb rfl (lSb rfl lSb0)))))) hJ5
                · refine lQ.cmpT rfl (decide_eq_true (Int32.not_lt.mp hc)) ?_
                  refine lQ.push rfl ?_
                  refine lQ.goto rfl ?_
                  obtain rfl := Option.some.inj hy5
                  exact lQ.sub (lSb rfl (lSb rfl (lSb rfl (lSb rfl (lSb rfl (lSb rfl lSb0)))))) hJ5
            · refine lQ.cmpT rfl (decide_eq_true hc) ?_
              refine lQ.push rfl ?_
              refine lQ.goto rfl ?_
              obtain rfl := Option.some.inj hy5
              exact lQ.sub (lSb rfl (lSb rfl (lSb rfl (lSb rfl (lSb rfl (lSb rfl lSb0)))))) hJ5
          · refine lQ.ifT rfl (decide_eq_true hc) ?_
            refine lQ.push rfl ?_
            refine lQ.goto rfl ?_
            obtain rfl := Option.some.inj hy5
            exact lQ.sub (lSb rfl (lSb rfl (lSb rfl (lSb rfl (lSb rfl (lSb rfl lSb0)))))) hJ5
      rcases iteC hy4 with ⟨hc, hy4⟩ | ⟨hc, hy4⟩
      · refine lQ.ifF rfl (decide_eq_false (fun z => z hc)) ?_
        refine lQ.loadI rfl rfl ?_
        refine lQ.push rfl ?_
        refine lQ.binI rfl ?_
        refine lQ.goto rfl ?_
        obtain rfl := Option.some.inj hy4
        exact lQ.sub (lSb rfl (lSb rfl (lSb rfl (lSb rfl (lSb rfl (lSb rfl (lSb rfl lSb0))))))) hJ4
      · refine lQ.ifT rfl (decide_eq_true hc) ?_
        refine lQ.loadI rfl rfl ?_
        refine lQ.push rfl ?_
        rcases iteC hy4 with ⟨hc, hy4⟩ | ⟨hc, hy4⟩
        · refine lQ.cmpF rfl (decide_eq_false (fun z => z hc)) ?_
          refine lQ.loadI rfl rfl ?_
          refine lQ.goto rfl ?_
          obtain rfl := Option.some.inj hy4
          exact lQ.sub (lSb rfl (lSb rfl (lSb rfl (lSb rfl (lSb rfl (lSb rfl (lSb rfl lSb0))))))) hJ4
        · refine lQ.cmpT rfl (decide_eq_true hc) ?_
          refine lQ.loadI rfl rfl ?_
          refine lQ.push rfl ?_
          rcases iteC hy4 with ⟨hc, hy4⟩ | ⟨hc, hy4⟩
          · refine lQ.cmpF rfl (decide_eq_false (fun z => z hc)) ?_
            refine lQ.loadI rfl rfl ?_
            refine lQ.push rfl ?_
            refine lQ.binI rfl ?_
            refine lQ.goto rfl ?_
            obtain rfl := Option.some.inj hy4
            exact lQ.sub (lSb rfl (lSb rfl (lSb rfl (lSb rfl (lSb rfl (lSb rfl (lSb rfl lSb0))))))) hJ4
          · refine lQ.cmpT rfl (decide_eq_true hc) ?_
            refine lQ.loadI rfl rfl ?_
            obtain rfl := Option.some.inj hy4
            exact lQ.sub (lSb rfl (lSb rfl (lSb rfl (lSb rfl (lSb rfl (lSb rfl (lSb rfl lSb0))))))) hJ4
    rcases iteC hy3 with ⟨hc, hy3⟩ | ⟨hc, hy3⟩
    · refine lQ.cmpF rfl (decide_eq_false (Int32.not_le.mpr hc)) ?_
      refine lQ.push rfl ?_
      refine lQ.goto rfl ?_
      obtain rfl := Option.some.inj hy3
      exact lQ.sub (lSb rfl (lSb rfl (lSb rfl (lSb rfl (lSb rfl (lSb rfl lSb0)))))) hJ3
    · refine lQ.cmpT rfl (decide_eq_true (Int32.not_lt.mp hc)) ?_
      refine lQ.push rfl ?_
      obtain rfl := Option.some.inj hy3
      exact lQ.sub (lSb rfl (lSb rfl (lSb rfl (lSb rfl (lSb rfl (lSb rfl lSb0)))))) hJ3
  · refine lQ.cmpT rfl (decide_eq_true (Int32.not_lt.mp hc)) ?_
    obtain rfl := Option.some.inj hb2
    obtain rfl := hX2 _ rfl
    exact lQ.sub (lSb rfl lSb0) hJ1
theorem ts_727 {R : lAR} (hR : lRok R) {E : lE} {ad : List Nat} (hn : tOk ad) {v1 : Int32} {v2 : Int32} {v3 : Int32} {v4 : Int32} {s : TS} {A0 : lMem} {x : Int32} (h : t_727 v1 v2 v3 v4 s = some x) {Z : lZ} (hz : Z (.inl (some (.int x))) (tp ad s A0)) : lSQ R E 1 727 [.ref (adr ad 1), .int v1, .int v2, .int v3, .int v4] (tp ad s A0) Z := by
  refine lQ.sq pg_727 (Nat.le_of_ble_eq_true rfl) rfl ?_
  unfold t_727 at h
  refine lQ.loadN rfl rfl ?_
  refine lQ.get hR rfl (tf_1_3 hn) ?_
  refine lQ.loadI rfl rfl ?_
  obtain ⟨x1, hx, h⟩ := bindC h
  refine lQ.ald hR rfl (ta_52 hn hx) ?_
  obtain ⟨v18, hy1, h1⟩ := bindC h
  have hJ1 : lQ R E 0 cd_727 18 [(0, .ref (adr ad 1)), (1, .int v1), (2, .int v2)] [.int v18] (tp ad s A0) Z := by
    refine lQ.stI rfl (lN2n rfl) ?_
    refine lQ.loadN rfl rfl ?_
    refine lQ.get hR rfl (tf_1_6 hn) ?_
    refine lQ.push rfl ?_
    refine lQ.loadI rfl rfl ?_
    refine lQ.binI rfl ?_
    refine lQ.loadI rfl rfl ?_
    refine lQ.binI rfl ?_
    obtain ⟨x4, hx, h1⟩ := bindC h1
    refine lQ.ald hR rfl (ta_55 hn hx) ?_
    refine lQ.loadI rfl rfl ?_
    rcases iteC h1 with ⟨hc, h1⟩ | ⟨hc, h1⟩
    · refine lQ.cmpT rfl (decide_eq_true hc) ?_
      refine lQ.push rfl ?_
      obtain rfl := Option.some.inj h1
      exact lQ.retI rfl rfl hz
    · refine lQ.cmpF rfl (decide_eq_false hc) ?_
      refine lQ.loadI rfl rfl ?_
      refine lQ.loadN rfl rfl ?_
      refine lQ.get hR rfl (tf_1_7 hn) ?_
      refine lQ.push rfl ?_
      refine lQ.loadI rfl rfl ?_
      refine lQ.binI rfl ?_
      refine lQ.loadI rfl rfl ?_
      refine lQ.binI rfl ?_
      obtain ⟨x5, hx, h1⟩ := bindC h1
      refine lQ.ald hR rfl (ta_56 hn hx) ?_
      rcases iteC h1 with ⟨hc, h1⟩ | ⟨hc, h1⟩
      · refine lQ.cmpF rfl (decide_eq_false (Int32.not_le.mpr hc)) ?_
        refine lQ.push rfl ?_
        refine lQ.goto rfl ?_
        obtain rfl := Option.some.inj h1
        exact lQ.retI rfl rfl hz
      · refine lQ.cmpT rfl (decide_eq_true (Int32.not_lt.mp hc)) ?_
        refine lQ.push rfl ?_
        obtain rfl := Option.some.inj h1
        exact lQ.retI rfl rfl hz
  rcases iteC hy1 with ⟨hc, hy1⟩ | ⟨hc, hy1⟩
  · refine lQ.ifT rfl (decide_eq_true hc) ?_
    refine lQ.loadI rfl rfl ?_
    refine lQ.loadN rfl rfl ?_
    refine lQ.get hR rfl (tf_1_2 hn) ?_
    refine lQ.loadI rfl rfl ?_
    obtain ⟨x2, hx, hy1⟩ := bindC hy1
    refine lQ.ald hR rfl (ta_51 hn hx) ?_
    refine lQ.binI rfl ?_
    obtain rfl := Option.some.inj hy1
    exact lQ.sub (lSb rfl (lSb rfl (lSb rfl lSb0))) hJ1
  · refine lQ.ifF rfl (decide_eq_false hc) ?_
    refine lQ.loadI rfl rfl ?_
    refine lQ.loadN rfl rfl ?_
    refine lQ.get hR rfl (tf_1_1 hn) ?_
    refine lQ.loadI rfl rfl ?_
    obtain ⟨x3, hx, hy1⟩ := bindC hy1
    refine lQ.ald hR rfl (ta_50 hn hx) ?_
    refine lQ.binI rfl ?_
    refine lQ.goto rfl ?_
    obtain rfl := Option.some.inj hy1
    exact lQ.sub (lSb rfl (lSb rfl (lSb rfl lSb0))) hJ1
theorem ts_591 {R : lAR} (hR : lRok R) {E : lE} {ad : List Nat} (hn : tOk ad) {v1 : Int32} {v2 : Int32} {v3 : Int32} {s : TS} {A0 : lMem} {x : Int32} (h : t_591 v1 v2 v3 s = some x) {Z : lZ} (hz : Z (.inl (some (.int x))) (tp ad s A0)) : lSQ R E 3 591 [.ref (adr ad 0), .int v1, .int v2, .int v3] (tp ad s A0) Z := by
  refine lQ.sq pg_591 (Nat.le_of_ble_eq_true rfl) rfl ?_
  unfold t_591 at h
  refine lQ.loadN rfl rfl ?_
  refine lQ.get hR rfl (tf_0_3 hn) ?_
  refine lQ.loadI rfl rfl ?_
  refine lQ.loadI rfl rfl ?_
  refine lQ.loadI rfl rfl ?_
  obtain ⟨x1, hx, h⟩ := bindC h
  refine lQ.callVI (F := (fun y A => x1 = y ∧ A = tp ad s A0)) (G := fun _ _ => False) (args := [.ref (adr ad 1), .int v1, .int v2, .int v3]) (r := []) hR rfl rfl rfl (Nat.le_of_ble_eq_true rfl) (Nat.le_of_ble_eq_true rfl) rfl (tk_1 hn rfl) (ts_726 hR hn hx (cI_mk ⟨rfl, rfl⟩)) ?_ (fun _ _ _ z => z.elim)
  rintro _ _ ⟨rfl, rfl⟩
  refine lQ.stI rfl (lN2s rfl rfl) ?_
  refine lQ.loadI rfl rfl ?_
  obtain ⟨v12, hy1, h1⟩ := bindC h
  have hJ1 : lQ R E 2 cd_591 12 [(0, .ref (adr ad 0)), (1, .int v1), (2, .int v2), (4, .int x1)] [.int v12] (tp ad s A0) Z := by
    refine lQ.stI rfl (lN2s rfl rfl) ?_
    refine lQ.push rfl ?_
    refine lQ.stI rfl (lN2s rfl rfl) ?_
    obtain ⟨v40, hy2, h2⟩ := bindC h1
    have hJ2 : lQ R E 2 cd_591 40 [(5, .int v40)] [] (tp ad s A0) Z := by
      refine lQ.loadI rfl rfl ?_
      rcases iteC h2 with ⟨hg, h2⟩ | ⟨_, h2⟩
      case inr => cases h2
      have hb := hg
      obtain rfl := Option.some.inj h2
      exact lQ.retI rfl (fitB hb) hz
    refine lQ.sub (lSb rfl (lSb rfl (lSb rfl (lSb rfl (lSb rfl (lSb rfl lSb0)))))) (wh_run (P := fun p15 => lQ R E 2 cd_591 15 [(0, .ref (adr ad 0)), (1, .int v1), (2, .int v2), (4, .int x1), (5, .int p15.1), (6, .int p15.2)] [] (tp ad s A0) Z) hy2 ?_)
    intro p15 r3 hb3 hI3 hX3
    refine lQ.loadI rfl rfl ?_
    rcases iteC hb3 with ⟨hc, hb3⟩ | ⟨hc, hb3⟩
    · refine lQ.ifT rfl (decide_eq_true hc) ?_
      obtain rfl := Option.some.inj hb3
      obtain rfl := hX3 _ rfl
      exact lQ.sub (lSb rfl lSb0) hJ2
    · refine lQ.ifF rfl (decide_eq_false hc) ?_
      refine lQ.loadI rfl rfl ?_
      refine lQ.loadN rfl rfl ?_
      refine lQ.get hR rfl (tf_0_3 hn) ?_
      refine lQ.get hR rfl (tf_1_5 hn) ?_
      refine lQ.loadI rfl rfl ?_
      obtain ⟨x2, hx, hb3⟩ := bindC hb3
      refine lQ.ald hR rfl (ta_54 hn hx) ?_
      rcases iteC hb3 with ⟨hc, hb3⟩ | ⟨hc, hb3⟩
      · refine lQ.cmpF rfl (decide_eq_false (Int32.not_le.mpr hc)) ?_
        refine lQ.loadI rfl rfl ?_
        obtain ⟨v37, hy4, h4⟩ := bindC hb3
        have hJ4 : lQ R E 2 cd_591 37 [(0, .ref (adr ad 0)), (1, .int v1), (2, .int v2), (4, .int x1), (6, .int p15.2)] [.int v37] (tp ad s A0) Z := by
          refine lQ.stI rfl (lN2s rfl rfl) ?_
          refine lQ.inc rfl rfl (lN2s rfl rfl) ?_
          refine lQ.goto rfl ?_
          obtain rfl := Option.some.inj h4
          exact lQ.sub (lSb rfl (lSb rfl (lSb rfl (lSb rfl (lSb rfl (lSb rfl lSb0)))))) (hI3 _ rfl)
        rcases iteC hy4 with ⟨hc, hy4⟩ | ⟨hc, hy4⟩
        · refine lQ.ifF rfl (decide_eq_false (fun z => z hc)) ?_
          refine lQ.loadN rfl rfl ?_
          refine lQ.get hR rfl (tf_0_3 hn) ?_
          refine lQ.loadI rfl rfl ?_
          refine lQ.loadI rfl rfl ?_
          refine lQ.loadI rfl rfl ?_
          refine lQ.loadI rfl rfl ?_
          obtain ⟨x3, hx, hy4⟩ := bindC hy4
          refine lQ.callVI (F := (fun y A => x3 = y ∧ A = tp ad s A0)) (G := fun _ _ => False) (args := [.ref (adr ad 1), .int x1, .int p15.2, .int v1, .int v2]) (r := []) hR rfl rfl rfl (Nat.le_of_ble_eq_true rfl) (Nat.le_of_ble_eq_true rfl) rfl (tk_1 hn rfl) (ts_727 hR hn hx (cI_mk ⟨rfl, rfl⟩)) ?_ (fun _ _ _ z => z.elim)
          rintro _ _ ⟨rfl, rfl⟩
          rcases iteC hy4 with ⟨hc, hy4⟩ | ⟨hc, hy4⟩
          · refine lQ.ifT rfl (decide_eq_true hc) ?_
            refine lQ.push rfl ?_
            obtain rfl := Option.some.inj hy4
            exact lQ.sub (lSb rfl (lSb rfl (lSb rfl (lSb rfl (lSb rfl lSb0))))) hJ4
          · refine lQ.ifF rfl (decide_eq_false hc) ?_
            refine lQ.push rfl ?_
            refine lQ.goto rfl ?_
            obtain rfl := Option.some.inj hy4
            exact lQ.sub (lSb rfl (lSb rfl (lSb rfl (lSb rfl (lSb rfl lSb0))))) hJ4
        · refine lQ.ifT rfl (decide_eq_true hc) ?_
          refine lQ.push rfl ?_
          refine lQ.goto rfl ?_
          obtain rfl := Option.some.inj hy4
          exact lQ.sub (lSb rfl (lSb rfl (lSb rfl (lSb rfl (lSb rfl lSb0))))) hJ4
      · refine lQ.cmpT rfl (decide_eq_true (Int32.not_lt.mp hc)) ?_
        obtain rfl := Option.some.inj hb3
        obtain rfl := hX3 _ rfl
        exact lQ.sub (lSb rfl lSb0) hJ2
  rcases iteC hy1 with ⟨hc, hy1⟩ | ⟨hc, hy1⟩
  · refine lQ.ifF rfl (decide_eq_false (Int32.not_le.mpr hc)) ?_
    refine lQ.push rfl ?_
    refine lQ.goto rfl ?_
    obtain rfl := Option.some.inj hy1
    exact lQ.sub (lSb rfl (lSb rfl (lSb rfl (lSb rfl lSb0)))) hJ1
  · refine lQ.ifT rfl (decide_eq_true (Int32.not_lt.mp hc)) ?_
    refine lQ.push rfl ?_
    obtain rfl := Option.some.inj hy1
    exact lQ.sub (lSb rfl (lSb rfl (lSb rfl (lSb rfl lSb0)))) hJ1
theorem ts_587 {R : lAR} (hR : lRok R) {E : lE} {ad : List Nat} (hn : tOk ad) {s : TS} {A0 : lMem} {x : TS} (h : t_587 s = some x) {Z : lZ} (hz : Z (.inl none) (tp ad x A0)) : lSQ R E 4 587 [.ref (adr ad 0)] (tp ad s A0) Z := by
  refine lQ.sq pg_587 (Nat.le_of_ble_eq_true rfl) rfl ?_
  unfold t_587 at h
  refine lQ.push rfl ?_
  refine lQ.stI rfl (lN2s rfl rfl) ?_
  refine lQ.push rfl ?_
  refine lQ.stI rfl (lN2s rfl rfl) ?_
  obtain ⟨v64, hy1, h1⟩ := bindC h
  have hJ1 : lQ R E 3 cd_587 64 [(0, .ref (adr ad 0)), (1, .int 1)] [] (tp ad v64 A0) Z := by
    obtain ⟨v154, hy2, h2⟩ := bindC h1
    have hJ2 : lQ R E 3 cd_587 154 [] [] (tp ad v154 A0) Z := by
      obtain rfl := Option.some.inj h2
      exact lQ.retV rfl hz
    refine lQ.sub (lSb rfl (lSb rfl lSb0)) (wh_run (P := fun p64 => lQ R E 3 cd_587 64 [(0, .ref (adr ad 0)), (1, .int p64.2)] [] (tp ad p64.1 A0) Z) hy2 ?_)
    intro p64 r3 hb3 hI3 hX3
    refine lQ.loadI rfl rfl ?_
    rcases iteC hb3 with ⟨hc, hb3⟩ | ⟨hc, hb3⟩
    · refine lQ.ifT rfl (decide_eq_true hc) ?_
      obtain rfl := Option.some.inj hb3
      obtain rfl := hX3 _ rfl
      exact lQ.sub lSb0 hJ2
    · refine lQ.ifF rfl (decide_eq_false hc) ?_
      refine lQ.push rfl ?_
      refine lQ.stI rfl (lN2s rfl rfl) ?_
      refine lQ.push rfl ?_
      refine lQ.stI rfl (lN2s rfl rfl) ?_
      obtain ⟨v153, hy4, h4⟩ := bindC hb3
      have hJ4 : lQ R E 3 cd_587 153 [(0, .ref (adr ad 0)), (1, .int v153.2)] [] (tp ad v153.1 A0) Z := by
        refine lQ.goto rfl ?_
        obtain rfl := Option.some.inj h4
        exact lQ.sub (lSb rfl (lSb rfl lSb0)) (hI3 _ rfl)
      refine lQ.sub (lSb rfl (lSb rfl (lSb rfl lSb0))) (wh_run (P := fun p70 => lQ R E 3 cd_587 70 [(0, .ref (adr ad 0)), (1, .int p70.2.1), (2, .int p70.2.2)] [] (tp ad p70.1 A0) Z) hy4 ?_)
      intro p70 r5 hb5 hI5 hX5
      refine lQ.loadI rfl rfl ?_
      refine lQ.push rfl ?_
      rcases iteC hb5 with ⟨hc, hb5⟩ | ⟨hc, hb5⟩
      · refine lQ.cmpF rfl (decide_eq_false (Int32.not_le.mpr hc)) ?_
        refine lQ.push rfl ?_
        refine lQ.stI rfl (lN2s rfl rfl) ?_
        obtain ⟨v151, hy6, h6⟩ := bindC hb5
        have hJ6 : lQ R E 3 cd_587 151 [(0, .ref (adr ad 0)), (1, .int v151.2), (2, .int p70.2.2)] [] (tp ad v151.1 A0) Z := by
          refine lQ.inc rfl rfl (lN2s rfl rfl) ?_
          refine lQ.goto rfl ?_
          obtain rfl := Option.some.inj h6
          exact lQ.sub (lSb rfl (lSb rfl (lSb rfl lSb0))) (hI5 _ rfl)
        refine lQ.sub (lSb rfl (lSb rfl (lSb rfl (lSb rfl lSb0)))) (wh_run (P := fun p75 => lQ R E 3 cd_587 75 [(0, .ref (adr ad 0)), (1, .int p75.2.1), (2, .int p70.2.2), (3, .int p75.2.2)] [] (tp ad p75.1 A0) Z) hy6 ?_)
        intro p75 r7 hb7 hI7 hX7
        refine lQ.loadI rfl rfl ?_
        refine lQ.push rfl ?_
        rcases iteC hb7 with ⟨hc, hb7⟩ | ⟨hc, hb7⟩
        · refine lQ.cmpF rfl (decide_eq_false (Int32.not_le.mpr hc)) ?_
          refine lQ.loadN rfl rfl ?_
          refine lQ.loadI rfl rfl ?_
          refine lQ.push rfl ?_
          refine lQ.divI rfl (by decide) ?_
          refine lQ.loadI rfl rfl ?_
          refine lQ.push rfl ?_
          refine lQ.divI rfl (by decide) ?_
          obtain ⟨x8, hx, hb7⟩ := bindC hb7
          refine lQ.callVI (F := (fun y A => x8 = y ∧ A = tp ad p75.1 A0)) (G := fun _ _ => False) (args := [.ref (adr ad 0), .int (p70.2.2 - p70.2.2 / (24 : Int32) * (24 : Int32)), .int (p70.2.2 / 24)]) (r := []) hR rfl rfl rfl (Nat.le_of_ble_eq_true rfl) (Nat.le_of_ble_eq_true rfl) rfl (tk_0 hn rfl) (ts_588 hR hn hx (cI_mk ⟨rfl, rfl⟩)) ?_ (fun _ _ _ z => z.elim)
          rintro _ _ ⟨rfl, rfl⟩
          rcases iteC hb7 with ⟨hc, hb7⟩ | ⟨hc, hb7⟩
          · refine lQ.ifF rfl (decide_eq_false (fun z => z hc)) ?_
            refine lQ.loadI rfl rfl ?_
            refine lQ.push rfl ?_
            refine lQ.divI rfl (by decide) ?_
            refine lQ.loadI rfl rfl ?_
            obtain ⟨x9, hx, hb7⟩ := bindC hb7
            refine lQ.callI (F := (fun y A => x9 = y ∧ A = tp ad p75.1 A0)) (G := fun _ _ => False) (args := [.int (p70.2.2 - p70.2.2 / (24 : Int32) * (24 : Int32)), .int p75.2.2]) (r := []) hR rfl rfl rfl (Nat.le_of_ble_eq_true rfl) (Nat.le_of_ble_eq_true rfl) (ts_589 hR hn hx (cI_mk ⟨rfl, rfl⟩)) ?_ (fun _ _ _ z => z.elim)
            rintro _ _ ⟨rfl, rfl⟩
            refine lQ.stI rfl (lN2s rfl rfl) ?_
            refine lQ.loadI rfl rfl ?_
            refine lQ.push rfl ?_
            refine lQ.divI rfl (by decide) ?_
            refine lQ.loadI rfl rfl ?_
            obtain ⟨x10, hx, hb7⟩ := bindC hb7
            refine lQ.callI (F := (fun y A => x10 = y ∧ A = tp ad p75.1 A0)) (G := fun _ _ => False) (args := [.int (p70.2.2 / 24), .int p75.2.2]) (r := []) hR rfl rfl rfl (Nat.le_of_ble_eq_true rfl) (Nat.le_of_ble_eq_true rfl) (ts_590 hR hn hx (cI_mk ⟨rfl, rfl⟩)) ?_ (fun _ _ _ z => z.elim)
            rintro _ _ ⟨rfl, rfl⟩
            refine lQ.stI rfl (lN2s rfl rfl) ?_
            refine lQ.loadN rfl rfl ?_
            refine lQ.loadI rfl rfl ?_
            refine lQ.loadI rfl rfl ?_
            obtain ⟨x11, hx, hb7⟩ := bindC hb7
            refine lQ.callVI (F := (fun y A => x11 = y ∧ A = tp ad p75.1 A0)) (G := fun _ _ => False) (args := [.ref (adr ad 0), .int x9, .int x10]) (r := []) hR rfl rfl rfl (Nat.le_of_ble_eq_true rfl) (Nat.le_of_ble_eq_true rfl) rfl (tk_0 hn rfl) (ts_588 hR hn hx (cI_mk ⟨rfl, rfl⟩)) ?_ (fun _ _ _ z => z.elim)
            rintro _ _ ⟨rfl, rfl⟩
            obtain ⟨v124, hy8, h8⟩ := bindC hb7
            have hJ8 : lQ R E 3 cd_587 124 [(0, .ref (adr ad 0)), (1, .int p75.2.1), (2, .int p70.2.2), (3, .int p75.2.2)] [.int v124] (tp ad p75.1 A0) Z := by
              refine lQ.stI rfl (lN2n rfl) ?_
              refine lQ.loadI rfl rfl ?_
              obtain ⟨v149, hy9, h9⟩ := bindC h8
              have hJ9 : lQ R E 3 cd_587 149 [(0, .ref (adr ad 0)), (1, .int v149.2), (2, .int p70.2.2), (3, .int p75.2.2)] [] (tp ad v149.1 A0) Z := by
                refine lQ.inc rfl rfl (lN2s rfl rfl) ?_
                refine lQ.goto rfl ?_
                obtain rfl := Option.some.inj h9
                exact lQ.sub (lSb rfl (lSb rfl (lSb rfl (lSb rfl lSb0)))) (hI7 _ rfl)
              rcases iteC hy9 with ⟨hc, hy9⟩ | ⟨hc, hy9⟩
              · refine lQ.ifF rfl (decide_eq_false (Int32.not_le.mpr hc)) ?_
                refine lQ.loadN rfl rfl ?_
                refine lQ.get hR rfl (tf_0_56 hn) ?_
                refine lQ.loadI rfl rfl ?_
                obtain ⟨x14, hx, hy9⟩ := bindC hy9
                refine lQ.ald hR rfl (ta_46 hn hx) ?_
                obtain ⟨y10, hy10, h10⟩ := bindC hy9
                have hJ10 : ∀ v140, y10 = .inl v140 → lQ R E 3 cd_587 140 [(0, .ref (adr ad 0)), (2, .int p70.2.2), (3, .int p75.2.2), (6, .int v124)] [] (tp ad p75.1 A0) Z := by
                  rintro v140 rfl
                  have h10 := elimC h10
                  refine lQ.loadN rfl rfl ?_
                  refine lQ.get hR rfl (tf_0_56 hn) ?_
                  refine lQ.loadI rfl rfl ?_
                  refine lQ.loadI rfl rfl ?_
                  refine lQ.push rfl ?_
                  refine lQ.binI rfl ?_
                  obtain ⟨s16, hx, h10⟩ := bindC h10
                  refine lQ.ast hR rfl (tw_46 hn hx) ?_
                  rintro _ rfl
                  refine lQ.push rfl ?_
                  refine lQ.stI rfl (lN2s rfl rfl) ?_
                  obtain rfl := Option.some.inj h10
                  exact lQ.sub (lSb rfl (lSb rfl (lSb rfl (lSb rfl lSb0)))) hJ9
                rcases iteC hy10 with ⟨hc, hy10⟩ | ⟨hc, hy10⟩
                · refine lQ.ifT rfl (decide_eq_true hc) ?_
                  obtain rfl := Option.some.inj hy10
                  exact lQ.sub (lSb rfl (lSb rfl (lSb rfl (lSb rfl lSb0)))) (hJ10 _ rfl)
                · refine lQ.ifF rfl (decide_eq_false hc) ?_
                  refine lQ.loadN rfl rfl ?_
                  refine lQ.get hR rfl (tf_0_56 hn) ?_
                  refine lQ.loadI rfl rfl ?_
                  obtain ⟨x15, hx, hy10⟩ := bindC hy10
                  refine lQ.ald hR rfl (ta_46 hn hx) ?_
                  refine lQ.loadI rfl rfl ?_
                  refine lQ.push rfl ?_
                  refine lQ.binI rfl ?_
                  rcases iteC hy10 with ⟨hc, hy10⟩ | ⟨hc, hy10⟩
                  · refine lQ.cmpF rfl (decide_eq_false (Int32.not_le.mpr hc)) ?_
                    obtain rfl := Option.some.inj hy10
                    exact lQ.sub (lSb rfl (lSb rfl (lSb rfl (lSb rfl lSb0)))) (hJ10 _ rfl)
                  · refine lQ.cmpT rfl (decide_eq_true (Int32.not_lt.mp hc)) ?_
                    obtain rfl := Option.some.inj hy10
                    obtain rfl := elimD h10
                    exact lQ.sub (lSb rfl (lSb rfl (lSb rfl (lSb rfl lSb0)))) hJ9
              · refine lQ.ifT rfl (decide_eq_true (Int32.not_lt.mp hc)) ?_
                obtain rfl := Option.some.inj hy9
                exact lQ.sub (lSb rfl (lSb rfl (lSb rfl (lSb rfl lSb0)))) hJ9
            rcases iteC hy8 with ⟨hc, hy8⟩ | ⟨hc, hy8⟩
            · refine lQ.ifF rfl (decide_eq_false (fun z => z hc)) ?_
              refine lQ.loadN rfl rfl ?_
              refine lQ.loadI rfl rfl ?_
              refine lQ.push rfl ?_
              refine lQ.divI rfl (by decide) ?_
              refine lQ.loadI rfl rfl ?_
              refine lQ.push rfl ?_
              refine lQ.divI rfl (by decide) ?_
              refine lQ.loadI rfl rfl ?_
              obtain ⟨x12, hx, hy8⟩ := bindC hy8
              refine lQ.callVI (F := (fun y A => x12 = y ∧ A = tp ad p75.1 A0)) (G := fun _ _ => False) (args := [.ref (adr ad 0), .int (p70.2.2 - p70.2.2 / (24 : Int32) * (24 : Int32)), .int (p70.2.2 / 24), .int p75.2.2]) (r := []) hR rfl rfl rfl (Nat.le_of_ble_eq_true rfl) (Nat.le_of_ble_eq_true rfl) rfl (tk_0 hn rfl) (ts_591 hR hn hx (cI_mk ⟨rfl, rfl⟩)) ?_ (fun _ _ _ z => z.elim)
              rintro _ _ ⟨rfl, rfl⟩
              rcases iteC hy8 with ⟨hc, hy8⟩ | ⟨hc, hy8⟩
              · refine lQ.ifF rfl (decide_eq_false (fun z => z hc)) ?_
                refine lQ.push rfl ?_
                refine lQ.goto rfl ?_
                obtain rfl := Option.some.inj hy8
                exact lQ.sub (lSb rfl (lSb rfl (lSb rfl (lSb rfl lSb0)))) hJ8
              · refine lQ.ifT rfl (decide_eq_true hc) ?_
                refine lQ.loadN rfl rfl ?_
                refine lQ.get hR rfl (tf_0_56 hn) ?_
                refine lQ.push rfl ?_
                refine lQ.loadI rfl rfl ?_
                refine lQ.binI rfl ?_
                refine lQ.loadI rfl rfl ?_
                refine lQ.binI rfl ?_
                obtain ⟨x13, hx, hy8⟩ := bindC hy8
                refine lQ.ald hR rfl (ta_46 hn hx) ?_
                obtain rfl := Option.some.inj hy8
                exact lQ.sub (lSb rfl (lSb rfl (lSb rfl (lSb rfl lSb0)))) hJ8
            · refine lQ.ifT rfl (decide_eq_true hc) ?_
              refine lQ.push rfl ?_
              refine lQ.goto rfl ?_
              obtain rfl := Option.some.inj hy8
              exact lQ.sub (lSb rfl (lSb rfl (lSb rfl (lSb rfl lSb0)))) hJ8
          · refine lQ.ifT rfl (decide_eq_true hc) ?_
            obtain rfl := Option.some.inj hb7
            obtain rfl := hX7 _ rfl
            exact lQ.sub (lSb rfl (lSb rfl (lSb rfl lSb0))) hJ6
        · refine lQ.cmpT rfl (decide_eq_true (Int32.not_lt.mp hc)) ?_
          obtain rfl := Option.some.inj hb7
          obtain rfl := hX7 _ rfl
          exact lQ.sub (lSb rfl (lSb rfl (lSb rfl lSb0))) hJ6
      · refine lQ.cmpT rfl (decide_eq_true (Int32.not_lt.mp hc)) ?_
        obtain rfl := Option.some.inj hb5
        obtain rfl := hX5 _ rfl
        exact lQ.sub (lSb rfl (lSb rfl lSb0)) hJ4
  refine lQ.sub (lSb rfl (lSb rfl (lSb rfl lSb0))) (wh_run (P := fun p4 => lQ R E 3 cd_587 4 [(0, .ref (adr ad 0)), (1, .int 1), (2, .int p4.2)] [] (tp ad p4.1 A0) Z) hy1 ?_)
  intro p4 r11 hb11 hI11 hX11
  refine lQ.loadI rfl rfl ?_
  refine lQ.push rfl ?_
  rcases iteC hb11 with ⟨hc, hb11⟩ | ⟨hc, hb11⟩
  · refine lQ.cmpF rfl (decide_eq_false (Int32.not_le.mpr hc)) ?_
    refine lQ.push rfl ?_
    refine lQ.stI rfl (lN2s rfl rfl) ?_
    obtain ⟨v62, hy12, h12⟩ := bindC hb11
    have hJ12 : lQ R E 3 cd_587 62 [(0, .ref (adr ad 0)), (1, .int 1), (2, .int p4.2)] [] (tp ad v62 A0) Z := by
      refine lQ.inc rfl rfl (lN2s rfl rfl) ?_
      refine lQ.goto rfl ?_
      obtain rfl := Option.some.inj h12
      exact lQ.sub (lSb rfl (lSb rfl (lSb rfl lSb0))) (hI11 _ rfl)
    refine lQ.sub (lSb rfl (lSb rfl (lSb rfl (lSb rfl lSb0)))) (wh_run (P := fun p9 => lQ R E 3 cd_587 9 [(0, .ref (adr ad 0)), (1, .int 1), (2, .int p4.2), (3, .int p9.2)] [] (tp ad p9.1 A0) Z) hy12 ?_)
    intro p9 r13 hb13 hI13 hX13
    refine lQ.loadI rfl rfl ?_
    refine lQ.push rfl ?_
    rcases iteC hb13 with ⟨hc, hb13⟩ | ⟨hc, hb13⟩
    · refine lQ.cmpF rfl (decide_eq_false (Int32.not_le.mpr hc)) ?_
      refine lQ.loadN rfl rfl ?_
      refine lQ.loadI rfl rfl ?_
      refine lQ.push rfl ?_
      refine lQ.divI rfl (by decide) ?_
      refine lQ.loadI rfl rfl ?_
      refine lQ.push rfl ?_
      refine lQ.divI rfl (by decide) ?_
      obtain ⟨x1, hx, hb13⟩ := bindC hb13
      refine lQ.callVI (F := (fun y A => x1 = y ∧ A = tp ad p9.1 A0)) (G := fun _ _ => False) (args := [.ref (adr ad 0), .int (p4.2 - p4.2 / (24 : Int32) * (24 : Int32)), .int (p4.2 / 24)]) (r := []) hR rfl rfl rfl (Nat.le_of_ble_eq_true rfl) (Nat.le_of_ble_eq_true rfl) rfl (tk_0 hn rfl) (ts_588 hR hn hx (cI_mk ⟨rfl, rfl⟩)) ?_ (fun _ _ _ z => z.elim)
      rintro _ _ ⟨rfl, rfl⟩
      rcases iteC hb13 with ⟨hc, hb13⟩ | ⟨hc, hb13⟩
      · refine lQ.ifF rfl (decide_eq_false (fun z => z hc)) ?_
        refine lQ.loadN rfl rfl ?_
        refine lQ.loadI rfl rfl ?_
        refine lQ.push rfl ?_
        refine lQ.divI rfl (by decide) ?_
        refine lQ.loadI rfl rfl ?_
        obtain ⟨x2, hx, hb13⟩ := bindC hb13
        refine lQ.callI (F := (fun y A => x2 = y ∧ A = tp ad p9.1 A0)) (G := fun _ _ => False) (args := [.int (p4.2 - p4.2 / (24 : Int32) * (24 : Int32)), .int p9.2]) (r := [.ref (adr ad 0)]) hR rfl rfl rfl (Nat.le_of_ble_eq_true rfl) (Nat.le_of_ble_eq_true rfl) (ts_589 hR hn hx (cI_mk ⟨rfl, rfl⟩)) ?_ (fun _ _ _ z => z.elim)
        rintro _ _ ⟨rfl, rfl⟩
        refine lQ.loadI rfl rfl ?_
        refine lQ.push rfl ?_
        refine lQ.divI rfl (by decide) ?_
        refine lQ.loadI rfl rfl ?_
        obtain ⟨x3, hx, hb13⟩ := bindC hb13
        refine lQ.callI (F := (fun y A => x3 = y ∧ A = tp ad p9.1 A0)) (G := fun _ _ => False) (args := [.int (p4.2 / 24), .int p9.2]) (r := [.int x2, .ref (adr ad 0)]) hR rfl rfl rfl (Nat.le_of_ble_eq_true rfl) (Nat.le_of_ble_eq_true rfl) (ts_590 hR hn hx (cI_mk ⟨rfl, rfl⟩)) ?_ (fun _ _ _ z => z.elim)
        rintro _ _ ⟨rfl, rfl⟩
        obtain ⟨x4, hx, hb13⟩ := bindC hb13
        refine lQ.callVI (F := (fun y A => x4 = y ∧ A = tp ad p9.1 A0)) (G := fun _ _ => False) (args := [.ref (adr ad 0), .int x2, .int x3]) (r := []) hR rfl rfl rfl (Nat.le_of_ble_eq_true rfl) (Nat.le_of_ble_eq_true rfl) rfl (tk_0 hn rfl) (ts_588 hR hn hx (cI_mk ⟨rfl, rfl⟩)) ?_ (fun _ _ _ z => z.elim)
        rintro _ _ ⟨rfl, rfl⟩
        obtain ⟨v47, hy14, h14⟩ := bindC hb13
        have hJ14 : lQ R E 3 cd_587 47 [(0, .ref (adr ad 0)), (1, .int 1), (2, .int p4.2), (3, .int p9.2)] [.int v47] (tp ad p9.1 A0) Z := by
          refine lQ.stI rfl (lN2s rfl rfl) ?_
          refine lQ.loadN rfl rfl ?_
          refine lQ.get hR rfl (tf_0_56 hn) ?_
          refine lQ.loadI rfl rfl ?_
          refine lQ.loadI rfl rfl ?_
          obtain ⟨v59, hy15, h15⟩ := bindC h14
          have hJ15 : lQ R E 3 cd_587 59 [(0, .ref (adr ad 0)), (1, .int 1), (2, .int p4.2), (3, .int p9.2)] [.int v59, .int p4.2, .ref (adr ad 46)] (tp ad p9.1 A0) Z := by
            obtain ⟨s7, hx, h15⟩ := bindC h15
            refine lQ.ast hR rfl (tw_46 hn hx) ?_
            rintro _ rfl
            refine lQ.inc rfl rfl (lN2s rfl rfl) ?_
            refine lQ.goto rfl ?_
            obtain rfl := Option.some.inj h15
            exact lQ.sub (lSb rfl (lSb rfl (lSb rfl (lSb rfl lSb0)))) (hI13 _ rfl)
          rcases iteC hy15 with ⟨hc, hy15⟩ | ⟨hc, hy15⟩
          · refine lQ.ifT rfl (decide_eq_true hc) ?_
            refine lQ.loadN rfl rfl ?_
            refine lQ.get hR rfl (tf_0_56 hn) ?_
            refine lQ.loadI rfl rfl ?_
            obtain ⟨x6, hx, hy15⟩ := bindC hy15
            refine lQ.ald hR rfl (ta_46 hn hx) ?_
            obtain rfl := Option.some.inj hy15
            exact lQ.sub (lSb rfl (lSb rfl (lSb rfl (lSb rfl lSb0)))) hJ15
          · refine lQ.ifF rfl (decide_eq_false hc) ?_
            refine lQ.push rfl ?_
            refine lQ.goto rfl ?_
            obtain rfl := Option.some.inj hy15
            exact lQ.sub (lSb rfl (lSb rfl (lSb rfl (lSb rfl lSb0)))) hJ15
        rcases iteC hy14 with ⟨hc, hy14⟩ | ⟨hc, hy14⟩
        · refine lQ.ifT rfl (decide_eq_true hc) ?_
          refine lQ.push rfl ?_
          obtain rfl := Option.some.inj hy14
          exact lQ.sub (lSb rfl (lSb rfl (lSb rfl (lSb rfl lSb0)))) hJ14
        · refine lQ.ifF rfl (decide_eq_false hc) ?_
          refine lQ.loadN rfl rfl ?_
          refine lQ.loadI rfl rfl ?_
          refine lQ.push rfl ?_
          refine lQ.divI rfl (by decide) ?_
          refine lQ.loadI rfl rfl ?_
          refine lQ.push rfl ?_
          refine lQ.divI rfl (by decide) ?_
          refine lQ.loadI rfl rfl ?_
          obtain ⟨x5, hx, hy14⟩ := bindC hy14
          refine lQ.callVI (F := (fun y A => x5 = y ∧ A = tp ad p9.1 A0)) (G := fun _ _ => False) (args := [.ref (adr ad 0), .int (p4.2 - p4.2 / (24 : Int32) * (24 : Int32)), .int (p4.2 / 24), .int p9.2]) (r := []) hR rfl rfl rfl (Nat.le_of_ble_eq_true rfl) (Nat.le_of_ble_eq_true rfl) rfl (tk_0 hn rfl) (ts_591 hR hn hx (cI_mk ⟨rfl, rfl⟩)) ?_ (fun _ _ _ z => z.elim)
          rintro _ _ ⟨rfl, rfl⟩
          rcases iteC hy14 with ⟨hc, hy14⟩ | ⟨hc, hy14⟩
          · refine lQ.ifT rfl (decide_eq_true hc) ?_
            refine lQ.push rfl ?_
            obtain rfl := Option.some.inj hy14
            exact lQ.sub (lSb rfl (lSb rfl (lSb rfl (lSb rfl lSb0)))) hJ14
          · refine lQ.ifF rfl (decide_eq_false hc) ?_
            refine lQ.push rfl ?_
            refine lQ.goto rfl ?_
            obtain rfl := Option.some.inj hy14
            exact lQ.sub (lSb rfl (lSb rfl (lSb rfl (lSb rfl lSb0)))) hJ14
      · refine lQ.ifT rfl (decide_eq_true hc) ?_
        obtain rfl := Option.some.inj hb13
        obtain rfl := hX13 _ rfl
        exact lQ.sub (lSb rfl (lSb rfl (lSb rfl lSb0))) hJ12
    · refine lQ.cmpT rfl (decide_eq_true (Int32.not_lt.mp hc)) ?_
      obtain rfl := Option.some.inj hb13
      obtain rfl := hX13 _ rfl
      exact lQ.sub (lSb rfl (lSb rfl (lSb rfl lSb0))) hJ12
  · refine lQ.cmpT rfl (decide_eq_true (Int32.not_lt.mp hc)) ?_
    obtain rfl := Option.some.inj hb11
    obtain rfl := hX11 _ rfl
    exact lQ.sub (lSb rfl (lSb rfl lSb0)) hJ1
theorem ts_583 {R : lAR} (hR : lRok R) {E : lE} {ad : List Nat} (hn : tOk ad) {v1 : Int32} {s : TS} {A0 : lMem} {x : Int32 × TS} (h : t_583 v1 s = some x) {Z : lZ} (hz : Z (.inl (some (.int x.1))) (tp ad x.2 A0)) : lSQ R E 8 583 [.ref (adr ad 0), .int v1] (tp ad s A0) Z := by
  refine lQ.sq pg_583 (Nat.le_of_ble_eq_true rfl) rfl ?_
  unfold t_583 at h
  refine lQ.loadN rfl rfl ?_
  refine lQ.loadI rfl rfl ?_
  obtain ⟨x1, hx, h⟩ := bindC h
  refine lQ.callI (F := (fun y A => x1 = y ∧ A = tp ad s A0)) (G := fun _ _ => False) (args := [.int v1]) (r := [.ref (adr ad 0)]) hR rfl rfl rfl (Nat.le_of_ble_eq_true rfl) (Nat.le_of_ble_eq_true rfl) (ts_581 hR hn hx (cI_mk ⟨rfl, rfl⟩)) ?_ (fun _ _ _ z => z.elim)
  rintro _ _ ⟨rfl, rfl⟩
  refine lQ.loadN rfl rfl ?_
  refine lQ.get hR rfl (tf_0_1 hn) ?_
  obtain ⟨v22, hy1, h1⟩ := bindC h
  have hJ1 : lQ R E 7 cd_583 22 [(0, .ref (adr ad 0)), (1, .int v1)] [.int v22, .int x1, .ref (adr ad 0)] (tp ad s A0) Z := by
    obtain ⟨x2, hx, h1⟩ := bindC h1
    refine lQ.callVI (F := (fun y A => x2.1 = y ∧ A = tp ad x2.2 A0)) (G := fun _ _ => False) (args := [.ref (adr ad 0), .int x1, .int v22]) (r := []) hR rfl rfl rfl (Nat.le_of_ble_eq_true rfl) (Nat.le_of_ble_eq_true rfl) rfl (tk_0 hn rfl) (ts_558 hR hn hx (cI_mk ⟨rfl, rfl⟩)) ?_ (fun _ _ _ z => z.elim)
    rintro _ _ ⟨rfl, rfl⟩
    rcases iteC h1 with ⟨hc, h1⟩ | ⟨hc, h1⟩
    · refine lQ.ifF rfl (decide_eq_false (fun z => z hc)) ?_
      refine lQ.push rfl ?_
      obtain rfl := Option.some.inj h1
      exact lQ.retI rfl rfl hz
    · refine lQ.ifT rfl (decide_eq_true hc) ?_
      refine lQ.loadN rfl rfl ?_
      refine lQ.get hR rfl (tf_0_4 hn) ?_
      refine lQ.loadI rfl rfl ?_
      obtain ⟨x3, hx, h1⟩ := bindC h1
      refine lQ.callVI (F := (fun y A => x3.1 = y ∧ A = tp ad x3.2 A0)) (G := fun _ _ => False) (args := [.ref (adr ad 2), .int v1]) (r := []) hR rfl rfl rfl (Nat.le_of_ble_eq_true rfl) (Nat.le_of_ble_eq_true rfl) rfl (tk_2 hn rfl) (ts_752 hR hn hx (cI_mk ⟨rfl, rfl⟩)) ?_ (fun _ _ _ z => z.elim)
      rintro _ _ ⟨rfl, rfl⟩
      refine lQ.stI rfl (lN2s rfl rfl) ?_
      refine lQ.push rfl ?_
      refine lQ.stI rfl (lN2s rfl rfl) ?_
      obtain ⟨y2, hy2, h2⟩ := bindC h1
      have hJ2 : ∀ v58, y2 = .inl v58 → lQ R E 7 cd_583 58 [(0, .ref (adr ad 0))] [] (tp ad x3.2 A0) Z := by
        rintro v58 rfl
        have h2 := elimC h2
        refine lQ.loadN rfl rfl ?_
        refine lQ.push rfl ?_
        obtain ⟨s6, hx, h2⟩ := bindC h2
        refine lQ.put hR rfl rfl (tq_0_1 hn hx) ?_
        rintro _ rfl
        refine lQ.loadN rfl rfl ?_
        refine lQ.loadN rfl rfl ?_
        refine lQ.get hR rfl (tf_0_3 hn) ?_
        refine lQ.get hR rfl (tf_1_17 hn) ?_
        obtain ⟨s7, hx, h2⟩ := bindC h2
        refine lQ.put hR rfl rfl (tq_0_9 hn hx) ?_
        rintro _ rfl
        refine lQ.loadN rfl rfl ?_
        refine lQ.get hR rfl (tf_0_5 hn) ?_
        refine lQ.loadN rfl rfl ?_
        refine lQ.get hR rfl (tf_0_9 hn) ?_
        refine lQ.push rfl ?_
        refine lQ.binI rfl ?_
        obtain ⟨s8, hx, h2⟩ := bindC h2
        refine lQ.put hR rfl rfl (tq_3_0 hn hx) ?_
        rintro _ rfl
        refine lQ.push rfl ?_
        refine lQ.stI rfl (lN2n rfl) ?_
        obtain ⟨v93, hy3, h3⟩ := bindC h2
        have hJ3 : lQ R E 7 cd_583 93 [(0, .ref (adr ad 0))] [] (tp ad v93 A0) Z := by
          refine lQ.loadN rfl rfl ?_
          obtain ⟨x11, hx, h3⟩ := bindC h3
          refine lQ.callVV (F := (fun A => A = tp ad x11 A0)) (G := fun _ _ => False) (args := [.ref (adr ad 0)]) (r := []) hR rfl rfl rfl (Nat.le_of_ble_eq_true rfl) (Nat.le_of_ble_eq_true rfl) rfl (tk_0 hn rfl) (ts_584 hR hn hx (cV_mk rfl)) ?_ (fun _ _ _ z => z.elim)
          rintro _ rfl
          refine lQ.loadN rfl rfl ?_
          obtain ⟨x12, hx, h3⟩ := bindC h3
          refine lQ.callVV (F := (fun A => A = tp ad x12 A0)) (G := fun _ _ => False) (args := [.ref (adr ad 0)]) (r := []) hR rfl rfl rfl (Nat.le_of_ble_eq_true rfl) (Nat.le_of_ble_eq_true rfl) rfl (tk_0 hn rfl) (ts_587 hR hn hx (cV_mk rfl)) ?_ (fun _ _ _ z => z.elim)
          rintro _ rfl
          refine lQ.loadN rfl rfl ?_
          refine lQ.get hR rfl (tf_0_10 hn) ?_
          obtain rfl := Option.some.inj h3
          exact lQ.retI rfl rfl hz
        refine lQ.sub (lSb rfl (lSb rfl lSb0)) (wh_run (P := fun p75 => lQ R E 7 cd_583 75 [(0, .ref (adr ad 0)), (3, .int p75.2)] [] (tp ad p75.1 A0) Z) hy3 ?_)
        intro p75 r4 hb4 hI4 hX4
        refine lQ.loadI rfl rfl ?_
        refine lQ.push rfl ?_
        rcases iteC hb4 with ⟨hc, hb4⟩ | ⟨hc, hb4⟩
        · refine lQ.cmpF rfl (decide_eq_false (Int32.not_le.mpr hc)) ?_
          refine lQ.loadN rfl rfl ?_
          refine lQ.get hR rfl (tf_0_57 hn) ?_
          refine lQ.loadI rfl rfl ?_
          refine lQ.loadN rfl rfl ?_
          refine lQ.get hR rfl (tf_0_3 hn) ?_
          refine lQ.loadI rfl rfl ?_
          refine lQ.push rfl ?_
          refine lQ.divI rfl (by decide) ?_
          refine lQ.loadI rfl rfl ?_
          refine lQ.push rfl ?_
          refine lQ.divI rfl (by decide) ?_
          obtain ⟨x9, hx, hb4⟩ := bindC hb4
          refine lQ.callVI (F := (fun y A => x9 = y ∧ A = tp ad p75.1 A0)) (G := fun _ _ => False) (args := [.ref (adr ad 1), .int (p75.2 - p75.2 / (24 : Int32) * (24 : Int32)), .int (p75.2 / 24)]) (r := [.int p75.2, .ref (adr ad 47)]) hR rfl rfl rfl (Nat.le_of_ble_eq_true rfl) (Nat.le_of_ble_eq_true rfl) rfl (tk_1 hn rfl) (ts_716 hR hn hx (cI_mk ⟨rfl, rfl⟩)) ?_ (fun _ _ _ z => z.elim)
          rintro _ _ ⟨rfl, rfl⟩
          obtain ⟨s10, hx, hb4⟩ := bindC hb4
          refine lQ.ast hR rfl (tw_47 hn hx) ?_
          rintro _ rfl
          refine lQ.inc rfl rfl (lN2n rfl) ?_
          refine lQ.goto rfl ?_
          obtain rfl := Option.some.inj hb4
          exact lQ.sub (lSb rfl (lSb rfl lSb0)) (hI4 _ rfl)
        · refine lQ.cmpT rfl (decide_eq_true (Int32.not_lt.mp hc)) ?_
          obtain rfl := Option.some.inj hb4
          obtain rfl := hX4 _ rfl
          exact lQ.sub (lSb rfl lSb0) hJ3
      obtain ⟨y5, hy5, h5⟩ := bindC hy2
      have hJ5 : ∀ v52, y5 = .inl v52 → lQ R E 7 cd_583 52 [(3, .int v52)] [] (tp ad x3.2 A0) Z := by
        rintro v52 rfl
        have h5 := elimC h5
        refine lQ.push rfl ?_
        refine lQ.loadI rfl rfl ?_
        refine lQ.binI rfl ?_
        obtain rfl := Option.some.inj h5
        obtain rfl := elimD h2
        exact lQ.retI rfl rfl hz
      refine lQ.sub (lSb rfl (lSb rfl lSb0)) (wh_run (P := fun p33 => lQ R E 7 cd_583 33 [(0, .ref (adr ad 0)), (3, .int p33)] [] (tp ad x3.2 A0) Z) hy5 ?_)
      intro p33 r6 hb6 hI6 hX6
      refine lQ.loadI rfl rfl ?_
      refine lQ.loadN rfl rfl ?_
      refine lQ.get hR rfl (tf_0_4 hn) ?_
      refine lQ.get hR rfl (tf_2_5 hn) ?_
      rcases iteC hb6 with ⟨hc, hb6⟩ | ⟨hc, hb6⟩
      · refine lQ.cmpF rfl (decide_eq_false (Int32.not_le.mpr hc)) ?_
        refine lQ.loadN rfl rfl ?_
        refine lQ.get hR rfl (tf_0_4 hn) ?_
        refine lQ.get hR rfl (tf_2_19 hn) ?_
        refine lQ.loadI rfl rfl ?_
        obtain ⟨x4, hx, hb6⟩ := bindC hb6
        refine lQ.ald hR rfl (ta_89 hn hx) ?_
        refine lQ.push rfl ?_
        rcases iteC hb6 with ⟨hc, hb6⟩ | ⟨hc, hb6⟩
        · refine lQ.cmpT rfl (decide_eq_true hc) ?_
          obtain rfl := Option.some.inj hb6
          obtain rfl := hX6 _ rfl
          exact lQ.sub (lSb rfl lSb0) (hJ5 _ rfl)
        · refine lQ.cmpF rfl (decide_eq_false hc) ?_
          refine lQ.loadN rfl rfl ?_
          refine lQ.get hR rfl (tf_0_4 hn) ?_
          refine lQ.get hR rfl (tf_2_19 hn) ?_
          refine lQ.loadI rfl rfl ?_
          obtain ⟨x5, hx, hb6⟩ := bindC hb6
          refine lQ.ald hR rfl (ta_89 hn hx) ?_
          refine lQ.push rfl ?_
          rcases iteC hb6 with ⟨hc, hb6⟩ | ⟨hc, hb6⟩
          · refine lQ.cmpF rfl (decide_eq_false (fun z => z hc)) ?_
            obtain rfl := Option.some.inj hb6
            obtain rfl := hX6 _ rfl
            exact lQ.sub (lSb rfl lSb0) (hJ5 _ rfl)
          · refine lQ.cmpT rfl (decide_eq_true hc) ?_
            refine lQ.inc rfl rfl (lN2n rfl) ?_
            refine lQ.goto rfl ?_
            obtain rfl := Option.some.inj hb6
            exact lQ.sub (lSb rfl (lSb rfl lSb0)) (hI6 _ rfl)
      · refine lQ.cmpT rfl (decide_eq_true (Int32.not_lt.mp hc)) ?_
        obtain rfl := Option.some.inj hb6
        obtain rfl := hX6 _ rfl
        obtain rfl := elimD h5
        exact lQ.sub (lSb rfl lSb0) (hJ2 _ rfl)
  rcases iteC hy1 with ⟨hc, hy1⟩ | ⟨hc, hy1⟩
  · refine lQ.ifF rfl (decide_eq_false (fun z => z hc)) ?_
    refine lQ.loadN rfl rfl ?_
    refine lQ.get hR rfl (tf_0_3 hn) ?_
    refine lQ.get hR rfl (tf_1_10 hn) ?_
    rcases iteC hy1 with ⟨hc, hy1⟩ | ⟨hc, hy1⟩
    · refine lQ.ifT rfl (decide_eq_true hc) ?_
      refine lQ.push rfl ?_
      obtain rfl := Option.some.inj hy1
      exact lQ.sub (lSb rfl (lSb rfl lSb0)) hJ1
    · refine lQ.ifF rfl (decide_eq_false hc) ?_
      refine lQ.loadN rfl rfl ?_
      refine lQ.get hR rfl (tf_0_3 hn) ?_
      refine lQ.get hR rfl (tf_1_17 hn) ?_
      rcases iteC hy1 with ⟨hc, hy1⟩ | ⟨hc, hy1⟩
      · refine lQ.ifF rfl (decide_eq_false (Int32.not_le.mpr hc)) ?_
        refine lQ.loadN rfl rfl ?_
        refine lQ.get hR rfl (tf_0_3 hn) ?_
        refine lQ.get hR rfl (tf_1_17 hn) ?_
        refine lQ.push rfl ?_
        rcases iteC hy1 with ⟨hc, hy1⟩ | ⟨hc, hy1⟩
        · refine lQ.cmpT rfl (decide_eq_true hc) ?_
          refine lQ.push rfl ?_
          obtain rfl := Option.some.inj hy1
          exact lQ.sub (lSb rfl (lSb rfl lSb0)) hJ1
        · refine lQ.cmpF rfl (decide_eq_false hc) ?_
          refine lQ.push rfl ?_
          refine lQ.goto rfl ?_
          obtain rfl := Option.some.inj hy1
          exact lQ.sub (lSb rfl (lSb rfl lSb0)) hJ1
      · refine lQ.ifT rfl (decide_eq_true (Int32.not_lt.mp hc)) ?_
        refine lQ.push rfl ?_
        obtain rfl := Option.some.inj hy1
        exact lQ.sub (lSb rfl (lSb rfl lSb0)) hJ1
  · refine lQ.ifT rfl (decide_eq_true hc) ?_
    refine lQ.push rfl ?_
    obtain rfl := Option.some.inj hy1
    exact lQ.sub (lSb rfl (lSb rfl lSb0)) hJ1
theorem ts_728 {R : lAR} (hR : lRok R) {E : lE} {ad : List Nat} (hn : tOk ad) {v1 : Int32} {v2 : Int32} {v3 : Int32} {v4 : Int32} {s : TS} {A0 : lMem} {x : Int32} (h : t_728 v1 v2 v3 v4 s = some x) {Z : lZ} (hz : Z (.inl (some (.int x))) (tp ad s A0)) : lSQ R E 1 728 [.ref (adr ad 1), .int v1, .int v2, .int v3, .int v4] (tp ad s A0) Z := by
  refine lQ.sq pg_728 (Nat.le_of_ble_eq_true rfl) rfl ?_
  unfold t_728 at h
  refine lQ.loadN rfl rfl ?_
  refine lQ.get hR rfl (tf_1_3 hn) ?_
  refine lQ.loadI rfl rfl ?_
  obtain ⟨x1, hx, h⟩ := bindC h
  refine lQ.ald hR rfl (ta_52 hn hx) ?_
  rcases iteC h with ⟨hc, h⟩ | ⟨hc, h⟩
  · refine lQ.ifT rfl (decide_eq_true hc) ?_
    refine lQ.loadI rfl rfl ?_
    rcases iteC h with ⟨hc, h⟩ | ⟨hc, h⟩
    · refine lQ.ifT rfl (decide_eq_true hc) ?_
      refine lQ.loadN rfl rfl ?_
      refine lQ.get hR rfl (tf_1_2 hn) ?_
      refine lQ.loadI rfl rfl ?_
      obtain ⟨x2, hx, h⟩ := bindC h
      refine lQ.ald hR rfl (ta_51 hn hx) ?_
      refine lQ.loadI rfl rfl ?_
      refine lQ.binI rfl ?_
      obtain rfl := Option.some.inj h
      exact lQ.retI rfl rfl hz
    · refine lQ.ifF rfl (decide_eq_false hc) ?_
      refine lQ.loadN rfl rfl ?_
      refine lQ.get hR rfl (tf_1_1 hn) ?_
      refine lQ.loadI rfl rfl ?_
      obtain ⟨x3, hx, h⟩ := bindC h
      refine lQ.ald hR rfl (ta_50 hn hx) ?_
      refine lQ.loadI rfl rfl ?_
      rcases iteC h with ⟨hc, h⟩ | ⟨hc, h⟩
      · refine lQ.ifT rfl (decide_eq_true hc) ?_
        refine lQ.push rfl ?_
        refine lQ.binI rfl ?_
        refine lQ.goto rfl ?_
        obtain rfl := Option.some.inj h
        exact lQ.retI rfl rfl hz
      · refine lQ.ifF rfl (decide_eq_false hc) ?_
        refine lQ.push rfl ?_
        refine lQ.goto rfl ?_
        refine lQ.binI rfl ?_
        refine lQ.goto rfl ?_
        obtain rfl := Option.some.inj h
        exact lQ.retI rfl rfl hz
  · refine lQ.ifF rfl (decide_eq_false hc) ?_
    refine lQ.loadI rfl rfl ?_
    rcases iteC h with ⟨hc, h⟩ | ⟨hc, h⟩
    · refine lQ.ifT rfl (decide_eq_true hc) ?_
      refine lQ.loadN rfl rfl ?_
      refine lQ.get hR rfl (tf_1_2 hn) ?_
      refine lQ.loadI rfl rfl ?_
      obtain ⟨x4, hx, h⟩ := bindC h
      refine lQ.ald hR rfl (ta_51 hn hx) ?_
      refine lQ.loadI rfl rfl ?_
      rcases iteC h with ⟨hc, h⟩ | ⟨hc, h⟩
      · refine lQ.ifT rfl (decide_eq_true hc) ?_
        refine lQ.push rfl ?_
        refine lQ.binI rfl ?_
        obtain rfl := Option.some.inj h
        exact lQ.retI rfl rfl hz
      · refine lQ.ifF rfl (decide_eq_false hc) ?_
        refine lQ.push rfl ?_
        refine lQ.goto rfl ?_
        refine lQ.binI rfl ?_
        obtain rfl := Option.some.inj h
        exact lQ.retI rfl rfl hz
    · refine lQ.ifF rfl (decide_eq_false hc) ?_
      refine lQ.loadN rfl rfl ?_
      refine lQ.get hR rfl (tf_1_1 hn) ?_
      refine lQ.loadI rfl rfl ?_
      obtain ⟨x5, hx, h⟩ := bindC h
      refine lQ.ald hR rfl (ta_50 hn hx) ?_
      refine lQ.loadI rfl rfl ?_
      refine lQ.binI rfl ?_
      refine lQ.goto rfl ?_
      obtain rfl := Option.some.inj h
      exact lQ.retI rfl rfl hz
theorem ts_592 {R : lAR} (hR : lRok R) {E : lE} {ad : List Nat} (hn : tOk ad) {v1 : Int32} {v2 : Int32} {s : TS} {A0 : lMem} {x : Int32 × TS} (h : t_592 v1 v2 s = some x) {Z : lZ} (hz : Z (.inl (some (.int x.1))) (tp ad x.2 A0)) : lSQ R E 2 592 [.ref (adr ad 0), .int v1, .int v2] (tp ad s A0) Z := by
  refine lQ.sq pg_592 (Nat.le_of_ble_eq_true rfl) rfl ?_
  unfold t_592 at h
  refine lQ.loadN rfl rfl ?_
  refine lQ.loadI rfl rfl ?_
  refine lQ.loadN rfl rfl ?_
  refine lQ.get hR rfl (tf_0_10 hn) ?_
  obtain ⟨x1, hx, h⟩ := bindC h
  refine lQ.callI (F := (fun y A => x1 = y ∧ A = tp ad s A0)) (G := fun _ _ => False) (args := [.int v1, .int (s.1 10)]) (r := [.ref (adr ad 0)]) hR rfl rfl rfl (Nat.le_of_ble_eq_true rfl) (Nat.le_of_ble_eq_true rfl) (ts_560 hR hn hx (cI_mk ⟨rfl, rfl⟩)) ?_ (fun _ _ _ z => z.elim)
  rintro _ _ ⟨rfl, rfl⟩
  obtain ⟨v13, hy1, h1⟩ := bindC h
  have hJ1 : lQ R E 1 cd_592 13 [(0, .ref (adr ad 0)), (1, .int v1), (2, .int v2)] [.int v13, .ref (adr ad 0)] (tp ad s A0) Z := by
    refine lQ.loadN rfl rfl ?_
    refine lQ.get hR rfl (tf_0_1 hn) ?_
    obtain ⟨x3, hx, h1⟩ := bindC h1
    refine lQ.callVI (F := (fun y A => x3.1 = y ∧ A = tp ad x3.2 A0)) (G := fun _ _ => False) (args := [.ref (adr ad 0), .int v13, .int (s.1 1)]) (r := []) hR rfl rfl rfl (Nat.le_of_ble_eq_true rfl) (Nat.le_of_ble_eq_true rfl) rfl (tk_0 hn rfl) (ts_558 hR hn hx (cI_mk ⟨rfl, rfl⟩)) ?_ (fun _ _ _ z => z.elim)
    rintro _ _ ⟨rfl, rfl⟩
    rcases iteC h1 with ⟨hc, h1⟩ | ⟨hc, h1⟩
    · refine lQ.ifF rfl (decide_eq_false (fun z => z hc)) ?_
      refine lQ.push rfl ?_
      obtain rfl := Option.some.inj h1
      exact lQ.retI rfl rfl hz
    · refine lQ.ifT rfl (decide_eq_true hc) ?_
      refine lQ.loadI rfl rfl ?_
      rcases iteC h1 with ⟨hc, h1⟩ | ⟨hc, h1⟩
      · refine lQ.sw (j := 21) rfl (by unfold swT; rw [hc]; rfl) ?_
        refine lQ.loadN rfl rfl ?_
        refine lQ.get hR rfl (tf_0_11 hn) ?_
        refine lQ.loadI rfl rfl ?_
        obtain ⟨x10, hx, h1⟩ := bindC h1
        refine lQ.ald hR rfl (ta_7 hn hx) ?_
        obtain rfl := Option.some.inj h1
        exact lQ.retI rfl rfl hz
      · have e0 := hc
        rcases iteC h1 with ⟨hc, h1⟩ | ⟨hc, h1⟩
        · refine lQ.sw (j := 26) rfl (by unfold swT; rw [hc]; rfl) ?_
          refine lQ.loadN rfl rfl ?_
          refine lQ.get hR rfl (tf_0_12 hn) ?_
          refine lQ.loadI rfl rfl ?_
          obtain ⟨x9, hx, h1⟩ := bindC h1
          refine lQ.ald hR rfl (ta_8 hn hx) ?_
          obtain rfl := Option.some.inj h1
          exact lQ.retI rfl rfl hz
        · have e1 := hc
          rcases iteC h1 with ⟨hc, h1⟩ | ⟨hc, h1⟩
          · refine lQ.sw (j := 31) rfl (by unfold swT; rw [hc]; rfl) ?_
            refine lQ.loadN rfl rfl ?_
            refine lQ.get hR rfl (tf_0_13 hn) ?_
            refine lQ.loadI rfl rfl ?_
            obtain ⟨x8, hx, h1⟩ := bindC h1
            refine lQ.ald hR rfl (ta_9 hn hx) ?_
            obtain rfl := Option.some.inj h1
            exact lQ.retI rfl rfl hz
          · have e2 := hc
            rcases iteC h1 with ⟨hc, h1⟩ | ⟨hc, h1⟩
            · refine lQ.sw (j := 36) rfl (by unfold swT; rw [hc]; rfl) ?_
              refine lQ.loadN rfl rfl ?_
              refine lQ.get hR rfl (tf_0_14 hn) ?_
              refine lQ.loadI rfl rfl ?_
              obtain ⟨x7, hx, h1⟩ := bindC h1
              refine lQ.ald hR rfl (ta_10 hn hx) ?_
              obtain rfl := Option.some.inj h1
              exact lQ.retI rfl rfl hz
            · have e3 := hc
              refine lQ.sw (j := 41) rfl (swT_all ⟨Or.inr e0, ⟨Or.inr e1, ⟨Or.inr e2, ⟨Or.inr e3, trivial⟩⟩⟩⟩) ?_
              refine lQ.loadN rfl rfl ?_
              refine lQ.get hR rfl (tf_0_3 hn) ?_
              refine lQ.loadN rfl rfl ?_
              refine lQ.get hR rfl (tf_0_13 hn) ?_
              refine lQ.loadI rfl rfl ?_
              obtain ⟨x4, hx, h1⟩ := bindC h1
              refine lQ.ald hR rfl (ta_9 hn hx) ?_
              refine lQ.loadN rfl rfl ?_
              refine lQ.get hR rfl (tf_0_15 hn) ?_
              refine lQ.loadI rfl rfl ?_
              obtain ⟨x5, hx, h1⟩ := bindC h1
              refine lQ.ald hR rfl (ta_11 hn hx) ?_
              refine lQ.push rfl ?_
              refine lQ.loadI rfl rfl ?_
              refine lQ.push rfl ?_
              obtain ⟨v58, hy2, h2⟩ := bindC h1
              have hJ2 : lQ R E 1 cd_592 58 [] [.int v58, .int 1, .int x5, .int x4, .ref (adr ad 1)] (tp ad x3.2 A0) Z := by
                obtain ⟨x6, hx, h2⟩ := bindC h2
                refine lQ.callVI (F := (fun y A => x6 = y ∧ A = tp ad x3.2 A0)) (G := fun _ _ => False) (args := [.ref (adr ad 1), .int x4, .int x5, .int 1, .int v58]) (r := []) hR rfl rfl rfl (Nat.le_of_ble_eq_true rfl) (Nat.le_of_ble_eq_true rfl) rfl (tk_1 hn rfl) (ts_728 hR hn hx (cI_mk ⟨rfl, rfl⟩)) ?_ (fun _ _ _ z => z.elim)
                rintro _ _ ⟨rfl, rfl⟩
                obtain rfl := Option.some.inj h2
                exact lQ.retI rfl rfl hz
              rcases iteC hy2 with ⟨hc, hy2⟩ | ⟨hc, hy2⟩
              · refine lQ.cmpF rfl (decide_eq_false (fun z => z hc)) ?_
                refine lQ.push rfl ?_
                refine lQ.goto rfl ?_
                obtain rfl := Option.some.inj hy2
                exact lQ.sub lSb0 hJ2
              · refine lQ.cmpT rfl (decide_eq_true hc) ?_
                refine lQ.push rfl ?_
                obtain rfl := Option.some.inj hy2
                exact lQ.sub lSb0 hJ2
  rcases iteC hy1 with ⟨hc, hy1⟩ | ⟨hc, hy1⟩
  · refine lQ.ifT rfl (decide_eq_true hc) ?_
    refine lQ.push rfl ?_
    obtain rfl := Option.some.inj hy1
    exact lQ.sub (lSb rfl (lSb rfl (lSb rfl lSb0))) hJ1
  · refine lQ.ifF rfl (decide_eq_false hc) ?_
    refine lQ.loadI rfl rfl ?_
    refine lQ.push rfl ?_
    obtain ⟨x2, hx, hy1⟩ := bindC hy1
    refine lQ.callI (F := (fun y A => x2 = y ∧ A = tp ad s A0)) (G := fun _ _ => False) (args := [.int v2, .int 6]) (r := [.ref (adr ad 0)]) hR rfl rfl rfl (Nat.le_of_ble_eq_true rfl) (Nat.le_of_ble_eq_true rfl) (ts_560 hR hn hx (cI_mk ⟨rfl, rfl⟩)) ?_ (fun _ _ _ z => z.elim)
    rintro _ _ ⟨rfl, rfl⟩
    rcases iteC hy1 with ⟨hc, hy1⟩ | ⟨hc, hy1⟩
    · refine lQ.ifT rfl (decide_eq_true hc) ?_
      refine lQ.push rfl ?_
      obtain rfl := Option.some.inj hy1
      exact lQ.sub (lSb rfl (lSb rfl (lSb rfl lSb0))) hJ1
    · refine lQ.ifF rfl (decide_eq_false hc) ?_
      refine lQ.push rfl ?_
      refine lQ.goto rfl ?_
      obtain rfl := Option.some.inj hy1
      exact lQ.sub (lSb rfl (lSb rfl (lSb rfl lSb0))) hJ1
