set_option maxRecDepth 100000
theorem ts_695 {R : lAR} (hR : lRok R) {E : lE} {ad : List Nat} (hn : tOk ad) {s : TS} {A0 : lMem} {x : TS} (h : t_695 s = some x) {Z : lZ} (hz : Z (.inl none) (tp ad x A0)) : lSQ R E 4 695 [.ref (adr ad 1)] (tp ad s A0) Z := by
  refine lQ.sq pg_695 (Nat.le_of_ble_eq_true rfl) rfl ?_
  unfold t_695 at h
  refine lQ.loadN rfl rfl ?_
  refine lQ.push rfl ?_
  obtain ⟨s1, hx, h⟩ := bindC h
  refine lQ.put hR rfl rfl (tq_1_35 hn hx) ?_
  rintro _ rfl
  refine lQ.push rfl ?_
  refine lQ.stI rfl (lN2s rfl rfl) ?_
  obtain ⟨v18, hy1, h1⟩ := bindC h
  have hJ1 : lQ R E 3 cd_695 18 [(0, .ref (adr ad 1))] [] (tp ad v18 A0) Z := by
    refine lQ.push rfl ?_
    refine lQ.stI rfl (lN2s rfl rfl) ?_
    obtain ⟨v87, hy2, h2⟩ := bindC h1
    have hJ2 : lQ R E 3 cd_695 87 [] [] (tp ad v87 A0) Z := by
      obtain rfl := Option.some.inj h2
      exact lQ.retV rfl hz
    refine lQ.sub (lSb rfl (lSb rfl lSb0)) (wh_run (P := fun p20 => lQ R E 3 cd_695 20 [(0, .ref (adr ad 1)), (1, .int p20.2)] [] (tp ad p20.1 A0) Z) hy2 ?_)
    intro p20 r3 hb3 hI3 hX3
    refine lQ.loadI rfl rfl ?_
    refine lQ.loadN rfl rfl ?_
    refine lQ.get hR rfl (tf_1_27 hn) ?_
    rcases iteC hb3 with ⟨hc, hb3⟩ | ⟨hc, hb3⟩
    · refine lQ.cmpF rfl (decide_eq_false (Int32.not_le.mpr hc)) ?_
      refine lQ.push rfl ?_
      refine lQ.stI rfl (lN2s rfl rfl) ?_
      obtain ⟨v85, hy4, h4⟩ := bindC hb3
      have hJ4 : lQ R E 3 cd_695 85 [(0, .ref (adr ad 1)), (1, .int p20.2)] [] (tp ad v85 A0) Z := by
        refine lQ.inc rfl rfl (lN2s rfl rfl) ?_
        refine lQ.goto rfl ?_
        obtain rfl := Option.some.inj h4
        exact lQ.sub (lSb rfl (lSb rfl lSb0)) (hI3 _ rfl)
      refine lQ.sub (lSb rfl (lSb rfl (lSb rfl lSb0))) (wh_run (P := fun p26 => lQ R E 3 cd_695 26 [(0, .ref (adr ad 1)), (1, .int p20.2), (2, .int p26.2)] [] (tp ad p26.1 A0) Z) hy4 ?_)
      intro p26 r5 hb5 hI5 hX5
      refine lQ.loadI rfl rfl ?_
      refine lQ.push rfl ?_
      rcases iteC hb5 with ⟨hc, hb5⟩ | ⟨hc, hb5⟩
      · refine lQ.cmpF rfl (decide_eq_false (Int32.not_le.mpr hc)) ?_
        refine lQ.loadN rfl rfl ?_
        refine lQ.loadI rfl rfl ?_
        refine lQ.loadI rfl rfl ?_
        obtain ⟨x3, hx, hb5⟩ := bindC hb5
        refine lQ.callVI (F := (fun y A => x3 = y ∧ A = tp ad p26.1 A0)) (G := fun _ _ => False) (args := [.ref (adr ad 1), .int p20.2, .int p26.2]) (r := []) hR rfl rfl rfl (Nat.le_of_ble_eq_true rfl) (Nat.le_of_ble_eq_true rfl) rfl (tk_1 hn rfl) (ts_696 hR hn hx (cI_mk ⟨rfl, rfl⟩)) ?_ (fun _ _ _ z => z.elim)
        rintro _ _ ⟨rfl, rfl⟩
        refine lQ.stI rfl (lN2s rfl rfl) ?_
        refine lQ.loadI rfl rfl ?_
        obtain ⟨v83, hy6, h6⟩ := bindC hb5
        have hJ6 : lQ R E 3 cd_695 83 [(0, .ref (adr ad 1)), (1, .int p20.2), (2, .int p26.2)] [] (tp ad v83 A0) Z := by
          refine lQ.inc rfl rfl (lN2s rfl rfl) ?_
          refine lQ.goto rfl ?_
          obtain rfl := Option.some.inj h6
          exact lQ.sub (lSb rfl (lSb rfl (lSb rfl lSb0))) (hI5 _ rfl)
        rcases iteC hy6 with ⟨hc, hy6⟩ | ⟨hc, hy6⟩
        · refine lQ.ifT rfl (decide_eq_true hc) ?_
          obtain rfl := Option.some.inj hy6
          exact lQ.sub (lSb rfl (lSb rfl (lSb rfl lSb0))) hJ6
        · refine lQ.ifF rfl (decide_eq_false hc) ?_
          refine lQ.loadN rfl rfl ?_
          refine lQ.get hR rfl (tf_1_34 hn) ?_
          refine lQ.loadI rfl rfl ?_
          obtain ⟨x4, hx, hy6⟩ := bindC hy6
          refine lQ.ald hR rfl (ta_71 hn hx) ?_
          rcases iteC hy6 with ⟨hc, hy6⟩ | ⟨hc, hy6⟩
          · refine lQ.ifF rfl (decide_eq_false (fun z => z hc)) ?_
            refine lQ.loadN rfl rfl ?_
            refine lQ.get hR rfl (tf_1_36 hn) ?_
            refine lQ.loadN rfl rfl ?_
            refine lQ.get hR rfl (tf_1_35 hn) ?_
            refine lQ.loadI rfl rfl ?_
            obtain ⟨s5, hx, hy6⟩ := bindC hy6
            refine lQ.ast hR rfl (tw_72 hn hx) ?_
            rintro _ rfl
            refine lQ.loadN rfl rfl ?_
            refine lQ.get hR rfl (tf_1_37 hn) ?_
            refine lQ.loadN rfl rfl ?_
            refine lQ.get hR rfl (tf_1_35 hn) ?_
            refine lQ.push rfl ?_
            obtain ⟨s6, hx, hy6⟩ := bindC hy6
            refine lQ.ast hR rfl (tw_73 hn hx) ?_
            rintro _ rfl
            obtain ⟨v77, hy7, h7⟩ := bindC hy6
            have hJ7 : lQ R E 3 cd_695 77 [(0, .ref (adr ad 1)), (1, .int p20.2), (2, .int p26.2)] [] (tp ad v77 A0) Z := by
              refine lQ.loadN rfl rfl ?_
              refine lQ.dupN rfl ?_
              refine lQ.get hR rfl (tf_1_35 hn) ?_
              refine lQ.push rfl ?_
              refine lQ.binI rfl ?_
              obtain ⟨s12, hx, h7⟩ := bindC h7
              refine lQ.put hR rfl rfl (tq_1_35 hn hx) ?_
              rintro _ rfl
              obtain rfl := Option.some.inj h7
              exact lQ.sub (lSb rfl (lSb rfl (lSb rfl lSb0))) hJ6
            refine lQ.sub (lSb rfl (lSb rfl (lSb rfl (lSb rfl lSb0)))) (wh_run (P := fun p53 => lQ R E 3 cd_695 53 [(0, .ref (adr ad 1)), (1, .int p20.2), (2, .int p26.2), (3, .int p53.2)] [] (tp ad p53.1 A0) Z) hy7 ?_)
            intro p53 r8 hb8 hI8 hX8
            refine lQ.loadN rfl rfl ?_
            refine lQ.get hR rfl (tf_1_34 hn) ?_
            refine lQ.loadI rfl rfl ?_
            obtain ⟨x7, hx, hb8⟩ := bindC hb8
            refine lQ.ald hR rfl (ta_71 hn hx) ?_
            rcases iteC hb8 with ⟨hc, hb8⟩ | ⟨hc, hb8⟩
            · refine lQ.ifF rfl (decide_eq_false (fun z => z hc)) ?_
              refine lQ.loadN rfl rfl ?_
              refine lQ.get hR rfl (tf_1_34 hn) ?_
              refine lQ.loadI rfl rfl ?_
              refine lQ.push rfl ?_
              obtain ⟨s8, hx, hb8⟩ := bindC hb8
              refine lQ.bst hR rfl (tw_71 hn hx) ?_
              rintro _ rfl
              refine lQ.loadN rfl rfl ?_
              refine lQ.get hR rfl (tf_1_37 hn) ?_
              refine lQ.loadN rfl rfl ?_
              refine lQ.get hR rfl (tf_1_35 hn) ?_
              refine lQ.dup2 rfl rfl rfl ?_
              obtain ⟨x9, hx, hb8⟩ := bindC hb8
              refine lQ.ald hR rfl (ta_73 hn hx) ?_
              refine lQ.push rfl ?_
              refine lQ.binI rfl ?_
              obtain ⟨s10, hx, hb8⟩ := bindC hb8
              refine lQ.ast hR rfl (tw_73 hn hx) ?_
              rintro _ rfl
              refine lQ.loadN rfl rfl ?_
              refine lQ.loadI rfl rfl ?_
              obtain ⟨x11, hx, hb8⟩ := bindC hb8
              refine lQ.callVI (F := (fun y A => x11 = y ∧ A = tp ad s10 A0)) (G := fun _ _ => False) (args := [.ref (adr ad 1), .int p53.2]) (r := []) hR rfl rfl rfl (Nat.le_of_ble_eq_true rfl) (Nat.le_of_ble_eq_true rfl) rfl (tk_1 hn rfl) (ts_699 hR hn hx (cI_mk ⟨rfl, rfl⟩)) ?_ (fun _ _ _ z => z.elim)
              rintro _ _ ⟨rfl, rfl⟩
              refine lQ.stI rfl (lN2s rfl rfl) ?_
              refine lQ.goto rfl ?_
              obtain rfl := Option.some.inj hb8
              exact lQ.sub (lSb rfl (lSb rfl (lSb rfl (lSb rfl lSb0)))) (hI8 _ rfl)
            · refine lQ.ifT rfl (decide_eq_true hc) ?_
              obtain rfl := Option.some.inj hb8
              obtain rfl := hX8 _ rfl
              exact lQ.sub (lSb rfl (lSb rfl (lSb rfl lSb0))) hJ7
          · refine lQ.ifT rfl (decide_eq_true hc) ?_
            obtain rfl := Option.some.inj hy6
            exact lQ.sub (lSb rfl (lSb rfl (lSb rfl lSb0))) hJ6
      · refine lQ.cmpT rfl (decide_eq_true (Int32.not_lt.mp hc)) ?_
        obtain rfl := Option.some.inj hb5
        obtain rfl := hX5 _ rfl
        exact lQ.sub (lSb rfl (lSb rfl lSb0)) hJ4
    · refine lQ.cmpT rfl (decide_eq_true (Int32.not_lt.mp hc)) ?_
      obtain rfl := Option.some.inj hb3
      obtain rfl := hX3 _ rfl
      exact lQ.sub lSb0 hJ2
  refine lQ.sub (lSb rfl (lSb rfl lSb0)) (wh_run (P := fun p5 => lQ R E 3 cd_695 5 [(0, .ref (adr ad 1)), (1, .int p5.2)] [] (tp ad p5.1 A0) Z) hy1 ?_)
  intro p5 r9 hb9 hI9 hX9
  refine lQ.loadI rfl rfl ?_
  refine lQ.push rfl ?_
  refine lQ.loadN rfl rfl ?_
  refine lQ.get hR rfl (tf_1_30 hn) ?_
  refine lQ.binI rfl ?_
  rcases iteC hb9 with ⟨hc, hb9⟩ | ⟨hc, hb9⟩
  · refine lQ.cmpF rfl (decide_eq_false (Int32.not_le.mpr hc)) ?_
    refine lQ.loadN rfl rfl ?_
    refine lQ.get hR rfl (tf_1_34 hn) ?_
    refine lQ.loadI rfl rfl ?_
    refine lQ.push rfl ?_
    obtain ⟨s2, hx, hb9⟩ := bindC hb9
    refine lQ.bst hR rfl (tw_71 hn hx) ?_
    rintro _ rfl
    refine lQ.inc rfl rfl (lN2s rfl rfl) ?_
    refine lQ.goto rfl ?_
    obtain rfl := Option.some.inj hb9
    exact lQ.sub (lSb rfl (lSb rfl lSb0)) (hI9 _ rfl)
  · refine lQ.cmpT rfl (decide_eq_true (Int32.not_lt.mp hc)) ?_
    obtain rfl := Option.some.inj hb9
    obtain rfl := hX9 _ rfl
    exact lQ.sub (lSb rfl lSb0) hJ1
theorem ts_703 {R : lAR} (hR : lRok R) {E : lE} {ad : List Nat} (hn : tOk ad) {v0 : Nat} {v1 : Int32} (hv0 : v0 = 58 ∨ v0 = 59) {s : TS} {A0 : lMem} {x : Int32} (h : t_703 v0 v1 s = some x) {Z : lZ} (hz : Z (.inl (some (.int x))) (tp ad s A0)) : lSQ R E 1 703 [.ref (adr ad v0), .int v1] (tp ad s A0) Z := by
  refine lQ.sq pg_703 (Nat.le_of_ble_eq_true rfl) rfl ?_
  unfold t_703 at h
  refine lQ.push rfl ?_
  refine lQ.stI rfl (lN2s rfl rfl) ?_
  obtain ⟨v9, hy1, h1⟩ := bindC h
  have hJ1 : lQ R E 0 cd_703 9 [(2, .int v9)] [] (tp ad s A0) Z := by
    refine lQ.loadI rfl rfl ?_
    obtain rfl := Option.some.inj h1
    exact lQ.retI rfl rfl hz
  refine lQ.sub (lSb rfl (lSb rfl (lSb rfl lSb0))) (wh_run (P := fun p2 => lQ R E 0 cd_703 2 [(0, .ref (adr ad v0)), (1, .int v1), (2, .int p2)] [] (tp ad s A0) Z) hy1 ?_)
  intro p2 r2 hb2 hI2 hX2
  refine lQ.loadN rfl rfl ?_
  refine lQ.loadI rfl rfl ?_
  obtain ⟨x1, hx, hb2⟩ := bindC hb2
  refine lQ.ald hR rfl (ta_x hn hv0 hx) ?_
  refine lQ.loadI rfl rfl ?_
  rcases iteC hb2 with ⟨hc, hb2⟩ | ⟨hc, hb2⟩
  · refine lQ.cmpT rfl (decide_eq_true hc) ?_
    obtain rfl := Option.some.inj hb2
    obtain rfl := hX2 _ rfl
    exact lQ.sub (lSb rfl lSb0) hJ1
  · refine lQ.cmpF rfl (decide_eq_false hc) ?_
    refine lQ.inc rfl rfl (lN2s rfl rfl) ?_
    refine lQ.goto rfl ?_
    obtain rfl := Option.some.inj hb2
    exact lQ.sub (lSb rfl (lSb rfl (lSb rfl lSb0))) (hI2 _ rfl)
theorem ts_702 {R : lAR} (hR : lRok R) {E : lE} {ad : List Nat} (hn : tOk ad) {v1 : Int32} {s : TS} {A0 : lMem} {x : Int32} (h : t_702 v1 s = some x) {Z : lZ} (hz : Z (.inl (some (.int x))) (tp ad s A0)) : lSQ R E 2 702 [.ref (adr ad 1), .int v1] (tp ad s A0) Z := by
  refine lQ.sq pg_702 (Nat.le_of_ble_eq_true rfl) rfl ?_
  unfold t_702 at h
  refine lQ.loadN rfl rfl ?_
  refine lQ.get hR rfl (tf_1_32 hn) ?_
  refine lQ.loadI rfl rfl ?_
  refine lQ.push rfl ?_
  refine lQ.divI rfl (by decide) ?_
  obtain ⟨x1, hx, h⟩ := bindC h
  refine lQ.ald hR rfl (ta_69 hn hx) ?_
  refine lQ.stI rfl (lN2s rfl rfl) ?_
  refine lQ.loadN rfl rfl ?_
  refine lQ.get hR rfl (tf_1_14 hn) ?_
  refine lQ.loadN rfl rfl ?_
  refine lQ.get hR rfl (tf_1_28 hn) ?_
  refine lQ.loadI rfl rfl ?_
  obtain ⟨x2, hx, h⟩ := bindC h
  refine lQ.ald hR rfl (ta_66 hn hx) ?_
  obtain ⟨x3, hx, h⟩ := bindC h
  refine lQ.callI (F := (fun y A => x3 = y ∧ A = tp ad s A0)) (G := fun _ _ => False) (args := [.ref (adr ad 58), .int x2]) (r := []) hR rfl rfl rfl (Nat.le_of_ble_eq_true rfl) (Nat.le_of_ble_eq_true rfl) (ts_703 hR hn (Or.inl rfl) hx (cI_mk ⟨rfl, rfl⟩)) ?_ (fun _ _ _ z => z.elim)
  rintro _ _ ⟨rfl, rfl⟩
  refine lQ.stI rfl (lN2s rfl rfl) ?_
  refine lQ.loadN rfl rfl ?_
  refine lQ.get hR rfl (tf_1_15 hn) ?_
  refine lQ.loadN rfl rfl ?_
  refine lQ.get hR rfl (tf_1_29 hn) ?_
  refine lQ.loadI rfl rfl ?_
  obtain ⟨x4, hx, h⟩ := bindC h
  refine lQ.ald hR rfl (ta_67 hn hx) ?_
  obtain ⟨x5, hx, h⟩ := bindC h
  refine lQ.callI (F := (fun y A => x5 = y ∧ A = tp ad s A0)) (G := fun _ _ => False) (args := [.ref (adr ad 59), .int x4]) (r := []) hR rfl rfl rfl (Nat.le_of_ble_eq_true rfl) (Nat.le_of_ble_eq_true rfl) (ts_703 hR hn (Or.inr rfl) hx (cI_mk ⟨rfl, rfl⟩)) ?_ (fun _ _ _ z => z.elim)
  rintro _ _ ⟨rfl, rfl⟩
  refine lQ.stI rfl (lN2s rfl rfl) ?_
  refine lQ.loadN rfl rfl ?_
  refine lQ.loadI rfl rfl ?_
  obtain ⟨x6, hx, h⟩ := bindC h
  refine lQ.callVI (F := (fun y A => x6 = y ∧ A = tp ad s A0)) (G := fun _ _ => False) (args := [.ref (adr ad 1), .int v1]) (r := []) hR rfl rfl rfl (Nat.le_of_ble_eq_true rfl) (Nat.le_of_ble_eq_true rfl) rfl (tk_1 hn rfl) (ts_698 hR hn hx (cI_mk ⟨rfl, rfl⟩)) ?_ (fun _ _ _ z => z.elim)
  rintro _ _ ⟨rfl, rfl⟩
  rcases iteC h with ⟨hc, h⟩ | ⟨hc, h⟩
  · refine lQ.sw (j := 27) rfl (by unfold swT; rw [hc]; rfl) ?_
    refine lQ.loadN rfl rfl ?_
    refine lQ.get hR rfl (tf_1_16 hn) ?_
    refine lQ.push rfl ?_
    refine lQ.loadI rfl rfl ?_
    refine lQ.push rfl ?_
    refine lQ.binI rfl ?_
    refine lQ.binI rfl ?_
    refine lQ.loadI rfl rfl ?_
    refine lQ.binI rfl ?_
    refine lQ.push rfl ?_
    refine lQ.binI rfl ?_
    obtain ⟨x10, hx, h⟩ := bindC h
    refine lQ.ald hR rfl (ta_60 hn hx) ?_
    obtain rfl := Option.some.inj h
    exact lQ.retI rfl rfl hz
  · have e0 := hc
    rcases iteC h with ⟨hc, h⟩ | ⟨hc, h⟩
    · refine lQ.sw (j := 51) rfl (by unfold swT; rw [hc]; rfl) ?_
      refine lQ.loadN rfl rfl ?_
      refine lQ.get hR rfl (tf_1_16 hn) ?_
      refine lQ.push rfl ?_
      refine lQ.loadI rfl rfl ?_
      refine lQ.push rfl ?_
      refine lQ.binI rfl ?_
      refine lQ.binI rfl ?_
      refine lQ.loadI rfl rfl ?_
      refine lQ.binI rfl ?_
      obtain ⟨x9, hx, h⟩ := bindC h
      refine lQ.ald hR rfl (ta_60 hn hx) ?_
      obtain rfl := Option.some.inj h
      exact lQ.retI rfl rfl hz
    · have e1 := hc
      rcases iteC h with ⟨hc, h⟩ | ⟨hc, h⟩
      · refine lQ.sw (j := 40) rfl (by unfold swT; rw [hc]; rfl) ?_
        refine lQ.loadN rfl rfl ?_
        refine lQ.get hR rfl (tf_1_16 hn) ?_
        refine lQ.push rfl ?_
        refine lQ.loadI rfl rfl ?_
        refine lQ.binI rfl ?_
        refine lQ.loadI rfl rfl ?_
        refine lQ.binI rfl ?_
        refine lQ.push rfl ?_
        refine lQ.binI rfl ?_
        obtain ⟨x8, hx, h⟩ := bindC h
        refine lQ.ald hR rfl (ta_60 hn hx) ?_
        obtain rfl := Option.some.inj h
        exact lQ.retI rfl rfl hz
      · have e2 := hc
        refine lQ.sw (j := 62) rfl (swT_all ⟨Or.inr e0, ⟨Or.inr e1, ⟨Or.inr e2, trivial⟩⟩⟩) ?_
        refine lQ.loadN rfl rfl ?_
        refine lQ.get hR rfl (tf_1_16 hn) ?_
        refine lQ.push rfl ?_
        refine lQ.loadI rfl rfl ?_
        refine lQ.push rfl ?_
        refine lQ.binI rfl ?_
        refine lQ.binI rfl ?_
        refine lQ.loadI rfl rfl ?_
        refine lQ.binI rfl ?_
        refine lQ.push rfl ?_
        refine lQ.binI rfl ?_
        obtain ⟨x7, hx, h⟩ := bindC h
        refine lQ.ald hR rfl (ta_60 hn hx) ?_
        obtain rfl := Option.some.inj h
        exact lQ.retI rfl rfl hz
theorem ts_701 {R : lAR} (hR : lRok R) {E : lE} {ad : List Nat} (hn : tOk ad) {s : TS} {A0 : lMem} {x : TS} (h : t_701 s = some x) {Z : lZ} (hz : Z (.inl none) (tp ad x A0)) : lSQ R E 3 701 [.ref (adr ad 1)] (tp ad s A0) Z := by
  refine lQ.sq pg_701 (Nat.le_of_ble_eq_true rfl) rfl ?_
  unfold t_701 at h
  refine lQ.loadN rfl rfl ?_
  refine lQ.push rfl ?_
  obtain ⟨s1, hx, h⟩ := bindC h
  refine lQ.put hR rfl rfl (tq_1_17 hn hx) ?_
  rintro _ rfl
  refine lQ.loadN rfl rfl ?_
  refine lQ.get hR rfl (tf_1_16 hn) ?_
  refine lQ.push rfl ?_
  obtain ⟨x2, hx, h⟩ := bindC h
  refine lQ.ald hR rfl (ta_60 hn hx) ?_
  refine lQ.stI rfl (lN2s rfl rfl) ?_
  refine lQ.push rfl ?_
  refine lQ.stI rfl (lN2s rfl rfl) ?_
  obtain ⟨v20, hy1, h1⟩ := bindC h
  have hJ1 : lQ R E 2 cd_701 20 [(0, .ref (adr ad 1)), (1, .int x2)] [] (tp ad v20 A0) Z := by
    refine lQ.loadN rfl rfl ?_
    refine lQ.get hR rfl (tf_1_38 hn) ?_
    refine lQ.loadI rfl rfl ?_
    refine lQ.push rfl ?_
    obtain ⟨s4, hx, h1⟩ := bindC h1
    refine lQ.ast hR rfl (tw_74 hn hx) ?_
    rintro _ rfl
    refine lQ.push rfl ?_
    refine lQ.stI rfl (lN2s rfl rfl) ?_
    obtain ⟨v58, hy2, h2⟩ := bindC h1
    have hJ2 : lQ R E 2 cd_701 58 [(0, .ref (adr ad 1))] [] (tp ad v58 A0) Z := by
      refine lQ.push rfl ?_
      refine lQ.stI rfl (lN2n rfl) ?_
      obtain ⟨v93, hy3, h3⟩ := bindC h2
      have hJ3 : lQ R E 2 cd_701 93 [] [] (tp ad v93 A0) Z := by
        obtain rfl := Option.some.inj h3
        exact lQ.retV rfl hz
      refine lQ.sub (lSb rfl (lSb rfl lSb0)) (wh_run (P := fun p60 => lQ R E 2 cd_701 60 [(0, .ref (adr ad 1)), (2, .int p60.2)] [] (tp ad p60.1 A0) Z) hy3 ?_)
      intro p60 r4 hb4 hI4 hX4
      refine lQ.loadI rfl rfl ?_
      refine lQ.loadN rfl rfl ?_
      refine lQ.get hR rfl (tf_1_13 hn) ?_
      rcases iteC hb4 with ⟨hc, hb4⟩ | ⟨hc, hb4⟩
      · refine lQ.cmpT rfl (decide_eq_true hc) ?_
        obtain rfl := Option.some.inj hb4
        obtain rfl := hX4 _ rfl
        exact lQ.sub lSb0 hJ3
      · refine lQ.cmpF rfl (decide_eq_false hc) ?_
        refine lQ.push rfl ?_
        refine lQ.stI rfl (lN2s rfl rfl) ?_
        obtain ⟨v91, hy5, h5⟩ := bindC hb4
        have hJ5 : lQ R E 2 cd_701 91 [(0, .ref (adr ad 1)), (2, .int p60.2)] [] (tp ad v91 A0) Z := by
          refine lQ.inc rfl rfl (lN2n rfl) ?_
          refine lQ.goto rfl ?_
          obtain rfl := Option.some.inj h5
          exact lQ.sub (lSb rfl (lSb rfl lSb0)) (hI4 _ rfl)
        refine lQ.sub (lSb rfl (lSb rfl (lSb rfl lSb0))) (wh_run (P := fun p66 => lQ R E 2 cd_701 66 [(0, .ref (adr ad 1)), (2, .int p60.2), (3, .int p66.2)] [] (tp ad p66.1 A0) Z) hy5 ?_)
        intro p66 r6 hb6 hI6 hX6
        refine lQ.loadI rfl rfl ?_
        refine lQ.loadN rfl rfl ?_
        refine lQ.get hR rfl (tf_1_12 hn) ?_
        rcases iteC hb6 with ⟨hc, hb6⟩ | ⟨hc, hb6⟩
        · refine lQ.cmpT rfl (decide_eq_true hc) ?_
          obtain rfl := Option.some.inj hb6
          obtain rfl := hX6 _ rfl
          exact lQ.sub (lSb rfl (lSb rfl lSb0)) hJ5
        · refine lQ.cmpF rfl (decide_eq_false hc) ?_
          refine lQ.loadN rfl rfl ?_
          refine lQ.get hR rfl (tf_1_16 hn) ?_
          refine lQ.push rfl ?_
          refine lQ.loadI rfl rfl ?_
          refine lQ.binI rfl ?_
          refine lQ.loadI rfl rfl ?_
          refine lQ.binI rfl ?_
          refine lQ.loadN rfl rfl ?_
          refine lQ.get hR rfl (tf_1_38 hn) ?_
          refine lQ.loadN rfl rfl ?_
          refine lQ.get hR rfl (tf_1_16 hn) ?_
          refine lQ.push rfl ?_
          refine lQ.loadI rfl rfl ?_
          refine lQ.binI rfl ?_
          refine lQ.loadI rfl rfl ?_
          refine lQ.binI rfl ?_
          obtain ⟨x10, hx, hb6⟩ := bindC hb6
          refine lQ.ald hR rfl (ta_60 hn hx) ?_
          obtain ⟨x11, hx, hb6⟩ := bindC hb6
          refine lQ.ald hR rfl (ta_74 hn hx) ?_
          obtain ⟨s12, hx, hb6⟩ := bindC hb6
          refine lQ.ast hR rfl (tw_60 hn hx) ?_
          rintro _ rfl
          refine lQ.inc rfl rfl (lN2s rfl rfl) ?_
          refine lQ.goto rfl ?_
          obtain rfl := Option.some.inj hb6
          exact lQ.sub (lSb rfl (lSb rfl (lSb rfl lSb0))) (hI6 _ rfl)
    refine lQ.sub (lSb rfl (lSb rfl lSb0)) (wh_run (P := fun p27 => lQ R E 2 cd_701 27 [(0, .ref (adr ad 1)), (2, .int p27.2)] [] (tp ad p27.1 A0) Z) hy2 ?_)
    intro p27 r7 hb7 hI7 hX7
    refine lQ.loadI rfl rfl ?_
    refine lQ.loadN rfl rfl ?_
    refine lQ.get hR rfl (tf_1_35 hn) ?_
    rcases iteC hb7 with ⟨hc, hb7⟩ | ⟨hc, hb7⟩
    · refine lQ.cmpF rfl (decide_eq_false (Int32.not_le.mpr hc)) ?_
      refine lQ.loadN rfl rfl ?_
      refine lQ.loadN rfl rfl ?_
      refine lQ.get hR rfl (tf_1_36 hn) ?_
      refine lQ.loadI rfl rfl ?_
      obtain ⟨x5, hx, hb7⟩ := bindC hb7
      refine lQ.ald hR rfl (ta_72 hn hx) ?_
      obtain ⟨x6, hx, hb7⟩ := bindC hb7
      refine lQ.callVI (F := (fun y A => x6 = y ∧ A = tp ad p27.1 A0)) (G := fun _ _ => False) (args := [.ref (adr ad 1), .int x5]) (r := []) hR rfl rfl rfl (Nat.le_of_ble_eq_true rfl) (Nat.le_of_ble_eq_true rfl) rfl (tk_1 hn rfl) (ts_702 hR hn hx (cI_mk ⟨rfl, rfl⟩)) ?_ (fun _ _ _ z => z.elim)
      rintro _ _ ⟨rfl, rfl⟩
      refine lQ.stI rfl (lN2s rfl rfl) ?_
      refine lQ.loadN rfl rfl ?_
      refine lQ.get hR rfl (tf_1_38 hn) ?_
      refine lQ.loadI rfl rfl ?_
      obtain ⟨x7, hx, hb7⟩ := bindC hb7
      refine lQ.ald hR rfl (ta_74 hn hx) ?_
      refine lQ.push rfl ?_
      obtain ⟨v56, hy8, h8⟩ := bindC hb7
      have hJ8 : lQ R E 2 cd_701 56 [(0, .ref (adr ad 1)), (2, .int p27.2)] [] (tp ad v56 A0) Z := by
        refine lQ.inc rfl rfl (lN2n rfl) ?_
        refine lQ.goto rfl ?_
        obtain rfl := Option.some.inj h8
        exact lQ.sub (lSb rfl (lSb rfl lSb0)) (hI7 _ rfl)
      rcases iteC hy8 with ⟨hc, hy8⟩ | ⟨hc, hy8⟩
      · refine lQ.cmpF rfl (decide_eq_false (fun z => z hc)) ?_
        refine lQ.loadN rfl rfl ?_
        refine lQ.get hR rfl (tf_1_38 hn) ?_
        refine lQ.loadI rfl rfl ?_
        refine lQ.loadN rfl rfl ?_
        refine lQ.get hR rfl (tf_1_17 hn) ?_
        obtain ⟨s8, hx, hy8⟩ := bindC hy8
        refine lQ.ast hR rfl (tw_74 hn hx) ?_
        rintro _ rfl
        refine lQ.loadN rfl rfl ?_
        refine lQ.dupN rfl ?_
        refine lQ.get hR rfl (tf_1_17 hn) ?_
        refine lQ.push rfl ?_
        refine lQ.binI rfl ?_
        obtain ⟨s9, hx, hy8⟩ := bindC hy8
        refine lQ.put hR rfl rfl (tq_1_17 hn hx) ?_
        rintro _ rfl
        obtain rfl := Option.some.inj hy8
        exact lQ.sub (lSb rfl (lSb rfl lSb0)) hJ8
      · refine lQ.cmpT rfl (decide_eq_true hc) ?_
        obtain rfl := Option.some.inj hy8
        exact lQ.sub (lSb rfl (lSb rfl lSb0)) hJ8
    · refine lQ.cmpT rfl (decide_eq_true (Int32.not_lt.mp hc)) ?_
      obtain rfl := Option.some.inj hb7
      obtain rfl := hX7 _ rfl
      exact lQ.sub (lSb rfl lSb0) hJ2
  refine lQ.sub (lSb rfl (lSb rfl (lSb rfl lSb0))) (wh_run (P := fun p10 => lQ R E 2 cd_701 10 [(0, .ref (adr ad 1)), (1, .int x2), (2, .int p10.2)] [] (tp ad p10.1 A0) Z) hy1 ?_)
  intro p10 r9 hb9 hI9 hX9
  refine lQ.loadI rfl rfl ?_
  refine lQ.push rfl ?_
  rcases iteC hb9 with ⟨hc, hb9⟩ | ⟨hc, hb9⟩
  · refine lQ.cmpF rfl (decide_eq_false (Int32.not_le.mpr hc)) ?_
    refine lQ.loadN rfl rfl ?_
    refine lQ.get hR rfl (tf_1_38 hn) ?_
    refine lQ.loadI rfl rfl ?_
    refine lQ.push rfl ?_
    obtain ⟨s3, hx, hb9⟩ := bindC hb9
    refine lQ.ast hR rfl (tw_74 hn hx) ?_
    rintro _ rfl
    refine lQ.inc rfl rfl (lN2s rfl rfl) ?_
    refine lQ.goto rfl ?_
    obtain rfl := Option.some.inj hb9
    exact lQ.sub (lSb rfl (lSb rfl (lSb rfl lSb0))) (hI9 _ rfl)
  · refine lQ.cmpT rfl (decide_eq_true (Int32.not_lt.mp hc)) ?_
    obtain rfl := Option.some.inj hb9
    obtain rfl := hX9 _ rfl
    exact lQ.sub (lSb rfl (lSb rfl lSb0)) hJ1
theorem ts_706 {R : lAR} (hR : lRok R) {E : lE} {ad : List Nat} (hn : tOk ad) {v0 : Int32} {v1 : Int32} {v2 : Int32} {v3 : Int32} {s : TS} {A0 : lMem} {x : Int32} (h : t_706 v0 v1 v2 v3 s = some x) {Z : lZ} (hz : Z (.inl (some (.int x))) (tp ad s A0)) : lSQ R E 1 706 [.int v0, .int v1, .int v2, .int v3] (tp ad s A0) Z := by
  refine lQ.sq pg_706 (Nat.le_of_ble_eq_true rfl) rfl ?_
  unfold t_706 at h
  refine lQ.loadI rfl rfl ?_
  refine lQ.loadI rfl rfl ?_
  obtain ⟨v6, hy1, h1⟩ := bindC h
  have hJ1 : lQ R E 0 cd_706 6 [(1, .int v1), (3, .int v3)] [.int v6] (tp ad s A0) Z := by
    refine lQ.stI rfl (lN2s rfl rfl) ?_
    refine lQ.loadI rfl rfl ?_
    refine lQ.loadI rfl rfl ?_
    obtain ⟨v13, hy2, h2⟩ := bindC h1
    have hJ2 : lQ R E 0 cd_706 13 [(4, .int v6)] [.int v13] (tp ad s A0) Z := by
      refine lQ.stI rfl (lN2s rfl rfl) ?_
      refine lQ.loadI rfl rfl ?_
      refine lQ.loadI rfl rfl ?_
      rcases iteC h2 with ⟨hc, h2⟩ | ⟨hc, h2⟩
      · refine lQ.cmpF rfl (decide_eq_false (Int32.not_le.mpr hc)) ?_
        refine lQ.loadI rfl rfl ?_
        refine lQ.loadI rfl rfl ?_
        refine lQ.binI rfl ?_
        refine lQ.goto rfl ?_
        obtain rfl := Option.some.inj h2
        exact lQ.retI rfl rfl hz
      · refine lQ.cmpT rfl (decide_eq_true (Int32.not_lt.mp hc)) ?_
        refine lQ.push rfl ?_
        obtain rfl := Option.some.inj h2
        exact lQ.retI rfl rfl hz
    rcases iteC hy2 with ⟨hc, hy2⟩ | ⟨hc, hy2⟩
    · refine lQ.cmpF rfl (decide_eq_false (Int32.not_le.mpr hc)) ?_
      refine lQ.loadI rfl rfl ?_
      refine lQ.goto rfl ?_
      obtain rfl := Option.some.inj hy2
      exact lQ.sub (lSb rfl lSb0) hJ2
    · refine lQ.cmpT rfl (decide_eq_true (Int32.not_lt.mp hc)) ?_
      refine lQ.loadI rfl rfl ?_
      obtain rfl := Option.some.inj hy2
      exact lQ.sub (lSb rfl lSb0) hJ2
  rcases iteC hy1 with ⟨hc, hy1⟩ | ⟨hc, hy1⟩
  · refine lQ.cmpF rfl (decide_eq_false (Int32.not_le.mpr hc)) ?_
    refine lQ.loadI rfl rfl ?_
    refine lQ.goto rfl ?_
    obtain rfl := Option.some.inj hy1
    exact lQ.sub (lSb rfl (lSb rfl lSb0)) hJ1
  · refine lQ.cmpT rfl (decide_eq_true (Int32.not_lt.mp hc)) ?_
    refine lQ.loadI rfl rfl ?_
    obtain rfl := Option.some.inj hy1
    exact lQ.sub (lSb rfl (lSb rfl lSb0)) hJ1
theorem ts_705 {R : lAR} (hR : lRok R) {E : lE} {ad : List Nat} (hn : tOk ad) {v1 : Int32} {v2 : Int32} {s : TS} {A0 : lMem} {x : Int32} (h : t_705 v1 v2 s = some x) {Z : lZ} (hz : Z (.inl (some (.int x))) (tp ad s A0)) : lSQ R E 2 705 [.ref (adr ad 1), .int v1, .int v2] (tp ad s A0) Z := by
  refine lQ.sq pg_705 (Nat.le_of_ble_eq_true rfl) rfl ?_
  unfold t_705 at h
  refine lQ.push rfl ?_
  refine lQ.stI rfl (lN2s rfl rfl) ?_
  refine lQ.push rfl ?_
  refine lQ.stI rfl (lN2s rfl rfl) ?_
  obtain ⟨v106, hy1, h1⟩ := bindC h
  have hJ1 : lQ R E 1 cd_705 106 [(3, .int v106)] [] (tp ad s A0) Z := by
    refine lQ.loadI rfl rfl ?_
    obtain rfl := Option.some.inj h1
    exact lQ.retI rfl rfl hz
  refine lQ.sub (lSb rfl (lSb rfl (lSb rfl (lSb rfl (lSb rfl lSb0))))) (wh_run (P := fun p4 => lQ R E 1 cd_705 4 [(0, .ref (adr ad 1)), (1, .int v1), (2, .int v2), (3, .int p4.1), (4, .int p4.2)] [] (tp ad s A0) Z) hy1 ?_)
  intro p4 r2 hb2 hI2 hX2
  refine lQ.loadI rfl rfl ?_
  refine lQ.loadN rfl rfl ?_
  refine lQ.get hR rfl (tf_1_13 hn) ?_
  rcases iteC hb2 with ⟨hc, hb2⟩ | ⟨hc, hb2⟩
  · refine lQ.cmpF rfl (decide_eq_false (Int32.not_le.mpr hc)) ?_
    refine lQ.push rfl ?_
    refine lQ.stI rfl (lN2s rfl rfl) ?_
    obtain ⟨v104, hy3, h3⟩ := bindC hb2
    have hJ3 : lQ R E 1 cd_705 104 [(0, .ref (adr ad 1)), (1, .int v1), (2, .int v2), (3, .int v104), (4, .int p4.2)] [] (tp ad s A0) Z := by
      refine lQ.inc rfl rfl (lN2s rfl rfl) ?_
      refine lQ.goto rfl ?_
      obtain rfl := Option.some.inj h3
      exact lQ.sub (lSb rfl (lSb rfl (lSb rfl (lSb rfl (lSb rfl lSb0))))) (hI2 _ rfl)
    refine lQ.sub (lSb rfl (lSb rfl (lSb rfl (lSb rfl (lSb rfl (lSb rfl lSb0)))))) (wh_run (P := fun p10 => lQ R E 1 cd_705 10 [(0, .ref (adr ad 1)), (1, .int v1), (2, .int v2), (3, .int p10.1), (4, .int p4.2), (5, .int p10.2)] [] (tp ad s A0) Z) hy3 ?_)
    intro p10 r4 hb4 hI4 hX4
    refine lQ.loadI rfl rfl ?_
    refine lQ.loadN rfl rfl ?_
    refine lQ.get hR rfl (tf_1_12 hn) ?_
    rcases iteC hb4 with ⟨hc, hb4⟩ | ⟨hc, hb4⟩
    · refine lQ.cmpF rfl (decide_eq_false (Int32.not_le.mpr hc)) ?_
      refine lQ.push rfl ?_
      refine lQ.stI rfl (lN2s rfl rfl) ?_
      obtain ⟨v102, hy5, h5⟩ := bindC hb4
      have hJ5 : lQ R E 1 cd_705 102 [(0, .ref (adr ad 1)), (1, .int v1), (2, .int v2), (3, .int v102), (4, .int p4.2), (5, .int p10.2)] [] (tp ad s A0) Z := by
        refine lQ.inc rfl rfl (lN2s rfl rfl) ?_
        refine lQ.goto rfl ?_
        obtain rfl := Option.some.inj h5
        exact lQ.sub (lSb rfl (lSb rfl (lSb rfl (lSb rfl (lSb rfl (lSb rfl lSb0)))))) (hI4 _ rfl)
      refine lQ.sub (lSb rfl (lSb rfl (lSb rfl (lSb rfl (lSb rfl (lSb rfl (lSb rfl lSb0))))))) (wh_run (P := fun p16 => lQ R E 1 cd_705 16 [(0, .ref (adr ad 1)), (1, .int v1), (2, .int v2), (3, .int p16.1), (4, .int p4.2), (5, .int p10.2), (6, .int p16.2)] [] (tp ad s A0) Z) hy5 ?_)
      intro p16 r6 hb6 hI6 hX6
      refine lQ.loadI rfl rfl ?_
      refine lQ.loadN rfl rfl ?_
      refine lQ.get hR rfl (tf_1_20 hn) ?_
      rcases iteC hb6 with ⟨hc, hb6⟩ | ⟨hc, hb6⟩
      · refine lQ.cmpF rfl (decide_eq_false (Int32.not_le.mpr hc)) ?_
        refine lQ.loadN rfl rfl ?_
        refine lQ.get hR rfl (tf_1_16 hn) ?_
        refine lQ.push rfl ?_
        refine lQ.loadI rfl rfl ?_
        refine lQ.binI rfl ?_
        refine lQ.loadI rfl rfl ?_
        refine lQ.binI rfl ?_
        obtain ⟨x1, hx, hb6⟩ := bindC hb6
        refine lQ.ald hR rfl (ta_60 hn hx) ?_
        refine lQ.loadI rfl rfl ?_
        rcases iteC hb6 with ⟨hc, hb6⟩ | ⟨hc, hb6⟩
        · refine lQ.cmpF rfl (decide_eq_false (fun z => z hc)) ?_
          refine lQ.loadN rfl rfl ?_
          refine lQ.get hR rfl (tf_1_15 hn) ?_
          refine lQ.loadI rfl rfl ?_
          refine lQ.push rfl ?_
          refine lQ.binI rfl ?_
          obtain ⟨x2, hx, hb6⟩ := bindC hb6
          refine lQ.ald hR rfl (ta_59 hn hx) ?_
          refine lQ.loadN rfl rfl ?_
          refine lQ.get hR rfl (tf_1_15 hn) ?_
          refine lQ.loadI rfl rfl ?_
          obtain ⟨x3, hx, hb6⟩ := bindC hb6
          refine lQ.ald hR rfl (ta_59 hn hx) ?_
          refine lQ.loadN rfl rfl ?_
          refine lQ.get hR rfl (tf_1_22 hn) ?_
          refine lQ.loadI rfl rfl ?_
          refine lQ.push rfl ?_
          refine lQ.binI rfl ?_
          obtain ⟨x4, hx, hb6⟩ := bindC hb6
          refine lQ.ald hR rfl (ta_62 hn hx) ?_
          refine lQ.loadN rfl rfl ?_
          refine lQ.get hR rfl (tf_1_22 hn) ?_
          refine lQ.loadI rfl rfl ?_
          obtain ⟨x5, hx, hb6⟩ := bindC hb6
          refine lQ.ald hR rfl (ta_62 hn hx) ?_
          obtain ⟨x6, hx, hb6⟩ := bindC hb6
          refine lQ.callI (F := (fun y A => x6 = y ∧ A = tp ad s A0)) (G := fun _ _ => False) (args := [.int x2, .int x3, .int x4, .int x5]) (r := []) hR rfl rfl rfl (Nat.le_of_ble_eq_true rfl) (Nat.le_of_ble_eq_true rfl) (ts_706 hR hn hx (cI_mk ⟨rfl, rfl⟩)) ?_ (fun _ _ _ z => z.elim)
          rintro _ _ ⟨rfl, rfl⟩
          refine lQ.stI rfl (lN2s rfl rfl) ?_
          refine lQ.push rfl ?_
          refine lQ.stI rfl (lN2s rfl rfl) ?_
          obtain ⟨v100, hy7, h7⟩ := bindC hb6
          have hJ7 : lQ R E 1 cd_705 100 [(0, .ref (adr ad 1)), (1, .int v1), (2, .int v2), (3, .int v100), (4, .int p4.2), (5, .int p10.2), (6, .int p16.2)] [] (tp ad s A0) Z := by
            refine lQ.inc rfl rfl (lN2s rfl rfl) ?_
            refine lQ.goto rfl ?_
            obtain rfl := Option.some.inj h7
            exact lQ.sub (lSb rfl (lSb rfl (lSb rfl (lSb rfl (lSb rfl (lSb rfl (lSb rfl lSb0))))))) (hI6 _ rfl)
          refine lQ.sub (lSb rfl (lSb rfl (lSb rfl (lSb rfl (lSb rfl (lSb rfl (lSb rfl (lSb rfl (lSb rfl lSb0))))))))) (wh_run (P := fun p54 => lQ R E 1 cd_705 54 [(0, .ref (adr ad 1)), (1, .int v1), (2, .int v2), (3, .int p54.1), (4, .int p4.2), (5, .int p10.2), (6, .int p16.2), (7, .int x6), (8, .int p54.2)] [] (tp ad s A0) Z) hy7 ?_)
          intro p54 r8 hb8 hI8 hX8
          refine lQ.loadI rfl rfl ?_
          refine lQ.loadN rfl rfl ?_
          refine lQ.get hR rfl (tf_1_19 hn) ?_
          rcases iteC hb8 with ⟨hc, hb8⟩ | ⟨hc, hb8⟩
          · refine lQ.cmpF rfl (decide_eq_false (Int32.not_le.mpr hc)) ?_
            refine lQ.loadI rfl rfl ?_
            rcases iteC hb8 with ⟨hc, hb8⟩ | ⟨hc, hb8⟩
            · refine lQ.ifF rfl (decide_eq_false (Int32.not_le.mpr hc)) ?_
              refine lQ.loadI rfl rfl ?_
              refine lQ.loadN rfl rfl ?_
              refine lQ.get hR rfl (tf_1_23 hn) ?_
              refine lQ.push rfl ?_
              refine lQ.loadI rfl rfl ?_
              refine lQ.binI rfl ?_
              refine lQ.loadI rfl rfl ?_
              refine lQ.binI rfl ?_
              obtain ⟨x7, hx, hb8⟩ := bindC hb8
              refine lQ.ald hR rfl (ta_63 hn hx) ?_
              refine lQ.loadI rfl rfl ?_
              obtain ⟨v96, hy9, h9⟩ := bindC hb8
              have hJ9 : lQ R E 1 cd_705 96 [(0, .ref (adr ad 1)), (1, .int v1), (2, .int v2), (4, .int p4.2), (5, .int p10.2), (6, .int p16.2), (7, .int x6), (8, .int p54.2)] [.int v96, .int p54.1] (tp ad s A0) Z := by
                refine lQ.binI rfl ?_
                refine lQ.stI rfl (lN2s rfl rfl) ?_
                refine lQ.inc rfl rfl (lN2s rfl rfl) ?_
                refine lQ.goto rfl ?_
                obtain rfl := Option.some.inj h9
                exact lQ.sub (lSb rfl (lSb rfl (lSb rfl (lSb rfl (lSb rfl (lSb rfl (lSb rfl (lSb rfl (lSb rfl lSb0))))))))) (hI8 _ rfl)
              rcases iteC hy9 with ⟨hc, hy9⟩ | ⟨hc, hy9⟩
              · refine lQ.cmpF rfl (decide_eq_false (fun z => z hc)) ?_
                refine lQ.loadI rfl rfl ?_
                refine lQ.loadN rfl rfl ?_
                refine lQ.get hR rfl (tf_1_14 hn) ?_
                refine lQ.loadI rfl rfl ?_
                refine lQ.push rfl ?_
                refine lQ.binI rfl ?_
                obtain ⟨x8, hx, hy9⟩ := bindC hy9
                refine lQ.ald hR rfl (ta_58 hn hx) ?_
                refine lQ.loadN rfl rfl ?_
                refine lQ.get hR rfl (tf_1_14 hn) ?_
                refine lQ.loadI rfl rfl ?_
                obtain ⟨x9, hx, hy9⟩ := bindC hy9
                refine lQ.ald hR rfl (ta_58 hn hx) ?_
                refine lQ.loadN rfl rfl ?_
                refine lQ.get hR rfl (tf_1_21 hn) ?_
                refine lQ.loadI rfl rfl ?_
                refine lQ.push rfl ?_
                refine lQ.binI rfl ?_
                obtain ⟨x10, hx, hy9⟩ := bindC hy9
                refine lQ.ald hR rfl (ta_61 hn hx) ?_
                refine lQ.loadN rfl rfl ?_
                refine lQ.get hR rfl (tf_1_21 hn) ?_
                refine lQ.loadI rfl rfl ?_
                obtain ⟨x11, hx, hy9⟩ := bindC hy9
                refine lQ.ald hR rfl (ta_61 hn hx) ?_
                obtain ⟨x12, hx, hy9⟩ := bindC hy9
                refine lQ.callI (F := (fun y A => x12 = y ∧ A = tp ad s A0)) (G := fun _ _ => False) (args := [.int x8, .int x9, .int x10, .int x11]) (r := [.int x6, .int p54.1]) hR rfl rfl rfl (Nat.le_of_ble_eq_true rfl) (Nat.le_of_ble_eq_true rfl) (ts_706 hR hn hx (cI_mk ⟨rfl, rfl⟩)) ?_ (fun _ _ _ z => z.elim)
                rintro _ _ ⟨rfl, rfl⟩
                refine lQ.binI rfl ?_
                refine lQ.goto rfl ?_
                obtain rfl := Option.some.inj hy9
                exact lQ.sub (lSb rfl (lSb rfl (lSb rfl (lSb rfl (lSb rfl (lSb rfl (lSb rfl (lSb rfl lSb0)))))))) hJ9
              · refine lQ.cmpT rfl (decide_eq_true hc) ?_
                refine lQ.push rfl ?_
                obtain rfl := Option.some.inj hy9
                exact lQ.sub (lSb rfl (lSb rfl (lSb rfl (lSb rfl (lSb rfl (lSb rfl (lSb rfl (lSb rfl lSb0)))))))) hJ9
            · refine lQ.ifT rfl (decide_eq_true (Int32.not_lt.mp hc)) ?_
              obtain rfl := Option.some.inj hb8
              obtain rfl := hX8 _ rfl
              exact lQ.sub (lSb rfl (lSb rfl (lSb rfl (lSb rfl (lSb rfl (lSb rfl (lSb rfl lSb0))))))) hJ7
          · refine lQ.cmpT rfl (decide_eq_true (Int32.not_lt.mp hc)) ?_
            obtain rfl := Option.some.inj hb8
            obtain rfl := hX8 _ rfl
            exact lQ.sub (lSb rfl (lSb rfl (lSb rfl (lSb rfl (lSb rfl (lSb rfl (lSb rfl lSb0))))))) hJ7
        · refine lQ.cmpT rfl (decide_eq_true hc) ?_
          obtain rfl := Option.some.inj hb6
          obtain rfl := hX6 _ rfl
          exact lQ.sub (lSb rfl (lSb rfl (lSb rfl (lSb rfl (lSb rfl (lSb rfl lSb0)))))) hJ5
      · refine lQ.cmpT rfl (decide_eq_true (Int32.not_lt.mp hc)) ?_
        obtain rfl := Option.some.inj hb6
        obtain rfl := hX6 _ rfl
        exact lQ.sub (lSb rfl (lSb rfl (lSb rfl (lSb rfl (lSb rfl (lSb rfl lSb0)))))) hJ5
    · refine lQ.cmpT rfl (decide_eq_true (Int32.not_lt.mp hc)) ?_
      obtain rfl := Option.some.inj hb4
      obtain rfl := hX4 _ rfl
      exact lQ.sub (lSb rfl (lSb rfl (lSb rfl (lSb rfl (lSb rfl lSb0))))) hJ3
  · refine lQ.cmpT rfl (decide_eq_true (Int32.not_lt.mp hc)) ?_
    obtain rfl := Option.some.inj hb2
    obtain rfl := hX2 _ rfl
    exact lQ.sub (lSb rfl lSb0) hJ1
theorem ts_704 {R : lAR} (hR : lRok R) {E : lE} {ad : List Nat} (hn : tOk ad) {s : TS} {A0 : lMem} {x : TS} (h : t_704 s = some x) {Z : lZ} (hz : Z (.inl none) (tp ad x A0)) : lSQ R E 3 704 [.ref (adr ad 1)] (tp ad s A0) Z := by
  refine lQ.sq pg_704 (Nat.le_of_ble_eq_true rfl) rfl ?_
  unfold t_704 at h
  refine lQ.push rfl ?_
  refine lQ.stI rfl (lN2s rfl rfl) ?_
  obtain ⟨v13, hy1, h1⟩ := bindC h
  have hJ1 : lQ R E 2 cd_704 13 [(0, .ref (adr ad 1))] [] (tp ad v13 A0) Z := by
    refine lQ.push rfl ?_
    refine lQ.stI rfl (lN2s rfl rfl) ?_
    obtain ⟨v78, hy2, h2⟩ := bindC h1
    have hJ2 : lQ R E 2 cd_704 78 [] [] (tp ad v78 A0) Z := by
      obtain rfl := Option.some.inj h2
      exact lQ.retV rfl hz
    refine lQ.sub (lSb rfl (lSb rfl lSb0)) (wh_run (P := fun p15 => lQ R E 2 cd_704 15 [(0, .ref (adr ad 1)), (1, .int p15.2)] [] (tp ad p15.1 A0) Z) hy2 ?_)
    intro p15 r3 hb3 hI3 hX3
    refine lQ.loadI rfl rfl ?_
    refine lQ.loadN rfl rfl ?_
    refine lQ.get hR rfl (tf_1_24 hn) ?_
    rcases iteC hb3 with ⟨hc, hb3⟩ | ⟨hc, hb3⟩
    · refine lQ.cmpF rfl (decide_eq_false (Int32.not_le.mpr hc)) ?_
      refine lQ.push rfl ?_
      refine lQ.stI rfl (lN2s rfl rfl) ?_
      refine lQ.push rfl ?_
      refine lQ.stI rfl (lN2s rfl rfl) ?_
      refine lQ.push rfl ?_
      refine lQ.stI rfl (lN2s rfl rfl) ?_
      obtain ⟨v55, hy4, h4⟩ := bindC hb3
      have hJ4 : lQ R E 2 cd_704 55 [(0, .ref (adr ad 1)), (1, .int p15.2), (2, .int v55.1), (3, .int v55.2)] [] (tp ad p15.1 A0) Z := by
        refine lQ.loadI rfl rfl ?_
        obtain ⟨v76, hy5, h5⟩ := bindC h4
        have hJ5 : lQ R E 2 cd_704 76 [(0, .ref (adr ad 1)), (1, .int p15.2)] [] (tp ad v76 A0) Z := by
          refine lQ.inc rfl rfl (lN2s rfl rfl) ?_
          refine lQ.goto rfl ?_
          obtain rfl := Option.some.inj h5
          exact lQ.sub (lSb rfl (lSb rfl lSb0)) (hI3 _ rfl)
        rcases iteC hy5 with ⟨hc, hy5⟩ | ⟨hc, hy5⟩
        · refine lQ.ifT rfl (decide_eq_true hc) ?_
          obtain rfl := Option.some.inj hy5
          exact lQ.sub (lSb rfl (lSb rfl lSb0)) hJ5
        · refine lQ.ifF rfl (decide_eq_false hc) ?_
          refine lQ.loadI rfl rfl ?_
          refine lQ.loadN rfl rfl ?_
          refine lQ.get hR rfl (tf_1_39 hn) ?_
          refine lQ.loadI rfl rfl ?_
          obtain ⟨x4, hx, hy5⟩ := bindC hy5
          refine lQ.ald hR rfl (ta_75 hn hx) ?_
          rcases iteC hy5 with ⟨hc, hy5⟩ | ⟨hc, hy5⟩
          · refine lQ.cmpF rfl (decide_eq_false (Int32.not_le.mpr hc)) ?_
            refine lQ.loadN rfl rfl ?_
            refine lQ.get hR rfl (tf_1_39 hn) ?_
            refine lQ.loadI rfl rfl ?_
            refine lQ.loadI rfl rfl ?_
            obtain ⟨s5, hx, hy5⟩ := bindC hy5
            refine lQ.ast hR rfl (tw_75 hn hx) ?_
            rintro _ rfl
            refine lQ.loadN rfl rfl ?_
            refine lQ.get hR rfl (tf_1_25 hn) ?_
            refine lQ.loadI rfl rfl ?_
            refine lQ.loadN rfl rfl ?_
            refine lQ.get hR rfl (tf_1_26 hn) ?_
            refine lQ.loadI rfl rfl ?_
            obtain ⟨x6, hx, hy5⟩ := bindC hy5
            refine lQ.ald hR rfl (ta_65 hn hx) ?_
            obtain ⟨s7, hx, hy5⟩ := bindC hy5
            refine lQ.ast hR rfl (tw_64 hn hx) ?_
            rintro _ rfl
            obtain rfl := Option.some.inj hy5
            exact lQ.sub (lSb rfl (lSb rfl lSb0)) hJ5
          · refine lQ.cmpT rfl (decide_eq_true (Int32.not_lt.mp hc)) ?_
            obtain rfl := Option.some.inj hy5
            exact lQ.sub (lSb rfl (lSb rfl lSb0)) hJ5
      refine lQ.sub (lSb rfl (lSb rfl (lSb rfl (lSb rfl (lSb rfl lSb0))))) (wh_run (P := fun p25 => lQ R E 2 cd_704 25 [(0, .ref (adr ad 1)), (1, .int p15.2), (2, .int p25.1), (3, .int p25.2.1), (4, .int p25.2.2)] [] (tp ad p15.1 A0) Z) hy4 ?_)
      intro p25 r6 hb6 hI6 hX6
      refine lQ.loadI rfl rfl ?_
      refine lQ.loadN rfl rfl ?_
      refine lQ.get hR rfl (tf_1_17 hn) ?_
      rcases iteC hb6 with ⟨hc, hb6⟩ | ⟨hc, hb6⟩
      · refine lQ.cmpF rfl (decide_eq_false (Int32.not_le.mpr hc)) ?_
        refine lQ.loadN rfl rfl ?_
        refine lQ.get hR rfl (tf_1_26 hn) ?_
        refine lQ.loadI rfl rfl ?_
        obtain ⟨x2, hx, hb6⟩ := bindC hb6
        refine lQ.ald hR rfl (ta_65 hn hx) ?_
        rcases iteC hb6 with ⟨hc, hb6⟩ | ⟨hc, hb6⟩
        · refine lQ.ifF rfl (decide_eq_false (Int32.not_le.mpr hc)) ?_
          refine lQ.loadN rfl rfl ?_
          refine lQ.loadI rfl rfl ?_
          refine lQ.loadI rfl rfl ?_
          obtain ⟨x3, hx, hb6⟩ := bindC hb6
          refine lQ.callVI (F := (fun y A => x3 = y ∧ A = tp ad p15.1 A0)) (G := fun _ _ => False) (args := [.ref (adr ad 1), .int p15.2, .int p25.2.2]) (r := []) hR rfl rfl rfl (Nat.le_of_ble_eq_true rfl) (Nat.le_of_ble_eq_true rfl) rfl (tk_1 hn rfl) (ts_705 hR hn hx (cI_mk ⟨rfl, rfl⟩)) ?_ (fun _ _ _ z => z.elim)
          rintro _ _ ⟨rfl, rfl⟩
          refine lQ.stI rfl (lN2s rfl rfl) ?_
          refine lQ.loadI rfl rfl ?_
          refine lQ.loadI rfl rfl ?_
          obtain ⟨v45, hy7, h7⟩ := bindC hb6
          have hJ7 : lQ R E 2 cd_704 45 [(0, .ref (adr ad 1)), (1, .int p15.2), (3, .int p25.2.1), (4, .int p25.2.2), (5, .int x3)] [.int v45] (tp ad p15.1 A0) Z := by
            refine lQ.stI rfl (lN2s rfl rfl) ?_
            refine lQ.loadI rfl rfl ?_
            refine lQ.loadI rfl rfl ?_
            obtain ⟨v52, hy8, h8⟩ := bindC h7
            have hJ8 : lQ R E 2 cd_704 52 [(0, .ref (adr ad 1)), (1, .int p15.2), (2, .int v45), (4, .int p25.2.2)] [.int v52] (tp ad p15.1 A0) Z := by
              refine lQ.stI rfl (lN2s rfl rfl) ?_
              refine lQ.inc rfl rfl (lN2s rfl rfl) ?_
              refine lQ.goto rfl ?_
              obtain rfl := Option.some.inj h8
              exact lQ.sub (lSb rfl (lSb rfl (lSb rfl (lSb rfl (lSb rfl lSb0))))) (hI6 _ rfl)
            rcases iteC hy8 with ⟨hc, hy8⟩ | ⟨hc, hy8⟩
            · refine lQ.cmpF rfl (decide_eq_false (Int32.not_le.mpr hc)) ?_
              refine lQ.loadI rfl rfl ?_
              refine lQ.goto rfl ?_
              obtain rfl := Option.some.inj hy8
              exact lQ.sub (lSb rfl (lSb rfl (lSb rfl (lSb rfl lSb0)))) hJ8
            · refine lQ.cmpT rfl (decide_eq_true (Int32.not_lt.mp hc)) ?_
              refine lQ.loadI rfl rfl ?_
              obtain rfl := Option.some.inj hy8
              exact lQ.sub (lSb rfl (lSb rfl (lSb rfl (lSb rfl lSb0)))) hJ8
          rcases iteC hy7 with ⟨hc, hy7⟩ | ⟨hc, hy7⟩
          · refine lQ.cmpF rfl (decide_eq_false (Int32.not_le.mpr hc)) ?_
            refine lQ.loadI rfl rfl ?_
            refine lQ.goto rfl ?_
            obtain rfl := Option.some.inj hy7
            exact lQ.sub (lSb rfl (lSb rfl (lSb rfl (lSb rfl (lSb rfl lSb0))))) hJ7
          · refine lQ.cmpT rfl (decide_eq_true (Int32.not_lt.mp hc)) ?_
            refine lQ.loadI rfl rfl ?_
            obtain rfl := Option.some.inj hy7
            exact lQ.sub (lSb rfl (lSb rfl (lSb rfl (lSb rfl (lSb rfl lSb0))))) hJ7
        · refine lQ.ifT rfl (decide_eq_true (Int32.not_lt.mp hc)) ?_
          obtain rfl := Option.some.inj hb6
          obtain rfl := hX6 _ rfl
          exact lQ.sub (lSb rfl (lSb rfl (lSb rfl (lSb rfl lSb0)))) hJ4
      · refine lQ.cmpT rfl (decide_eq_true (Int32.not_lt.mp hc)) ?_
        obtain rfl := Option.some.inj hb6
        obtain rfl := hX6 _ rfl
        exact lQ.sub (lSb rfl (lSb rfl (lSb rfl (lSb rfl lSb0)))) hJ4
    · refine lQ.cmpT rfl (decide_eq_true (Int32.not_lt.mp hc)) ?_
      obtain rfl := Option.some.inj hb3
      obtain rfl := hX3 _ rfl
      exact lQ.sub lSb0 hJ2
  refine lQ.sub (lSb rfl (lSb rfl lSb0)) (wh_run (P := fun p2 => lQ R E 2 cd_704 2 [(0, .ref (adr ad 1)), (1, .int p2.2)] [] (tp ad p2.1 A0) Z) hy1 ?_)
  intro p2 r9 hb9 hI9 hX9
  refine lQ.loadI rfl rfl ?_
  refine lQ.loadN rfl rfl ?_
  refine lQ.get hR rfl (tf_1_17 hn) ?_
  rcases iteC hb9 with ⟨hc, hb9⟩ | ⟨hc, hb9⟩
  · refine lQ.cmpF rfl (decide_eq_false (Int32.not_le.mpr hc)) ?_
    refine lQ.loadN rfl rfl ?_
    refine lQ.get hR rfl (tf_1_39 hn) ?_
    refine lQ.loadI rfl rfl ?_
    refine lQ.push rfl ?_
    obtain ⟨s1, hx, hb9⟩ := bindC hb9
    refine lQ.ast hR rfl (tw_75 hn hx) ?_
    rintro _ rfl
    refine lQ.inc rfl rfl (lN2s rfl rfl) ?_
    refine lQ.goto rfl ?_
    obtain rfl := Option.some.inj hb9
    exact lQ.sub (lSb rfl (lSb rfl lSb0)) (hI9 _ rfl)
  · refine lQ.cmpT rfl (decide_eq_true (Int32.not_lt.mp hc)) ?_
    obtain rfl := Option.some.inj hb9
    obtain rfl := hX9 _ rfl
    exact lQ.sub (lSb rfl lSb0) hJ1
theorem ts_685 {R : lAR} (hR : lRok R) {E : lE} {ad : List Nat} (hn : tOk ad) {s : TS} {A0 : lMem} {x : Int32 × TS} (h : t_685 s = some x) {Z : lZ} (hz : Z (.inl (some (.int x.1))) (tp (swp ad) x.2 A0)) : lSQ R E 5 685 [.ref (adr ad 1)] (tp ad s A0) Z := by
  refine lQ.sq pg_685 (Nat.le_of_ble_eq_true rfl) rfl ?_
  unfold t_685 at h
  refine lQ.loadN rfl rfl ?_
  refine lQ.dupN rfl ?_
  refine lQ.get hR rfl (tf_1_11 hn) ?_
  refine lQ.push rfl ?_
  refine lQ.binI rfl ?_
  obtain ⟨s1, hx, h⟩ := bindC h
  refine lQ.put hR rfl rfl (tq_1_11 hn hx) ?_
  rintro _ rfl
  refine lQ.loadN rfl rfl ?_
  obtain ⟨x2, hx, h⟩ := bindC h
  refine lQ.callVV (F := (fun A => A = tp (swp ad) x2 A0)) (G := fun _ _ => False) (args := [.ref (adr ad 1)]) (r := []) hR rfl rfl rfl (Nat.le_of_ble_eq_true rfl) (Nat.le_of_ble_eq_true rfl) rfl (tk_1 hn rfl) (ts_686 hR hn hx (cV_mk rfl)) ?_ (fun _ _ _ z => z.elim)
  rintro _ rfl
  refine lQ.loadN rfl rfl ?_
  refine lQ.push rfl ?_
  obtain ⟨s3, hx, h⟩ := bindC h
  refine lQ.put hR rfl rfl (tq_1_12 (swp_ok hn) hx) ?_
  rintro _ rfl
  refine lQ.loadN rfl rfl ?_
  refine lQ.push rfl ?_
  obtain ⟨s4, hx, h⟩ := bindC h
  refine lQ.put hR rfl rfl (tq_1_13 (swp_ok hn) hx) ?_
  rintro _ rfl
  refine lQ.push rfl ?_
  refine lQ.stI rfl (lN2s rfl rfl) ?_
  obtain ⟨v64, hy1, h1⟩ := bindC h
  have hJ1 : lQ R E 4 cd_685 64 [(0, .ref (adr (swp ad) 1))] [] (tp (swp ad) v64 A0) Z := by
    refine lQ.loadN rfl rfl ?_
    obtain ⟨x17, hx, h1⟩ := bindC h1
    refine lQ.callVV (F := (fun A => A = tp (swp ad) x17 A0)) (G := fun _ _ => False) (args := [.ref (adr (swp ad) 1)]) (r := []) hR rfl rfl rfl (Nat.le_of_ble_eq_true rfl) (Nat.le_of_ble_eq_true rfl) rfl (tk_1 (swp_ok hn) rfl) (ts_688 hR (swp_ok hn) hx (cV_mk rfl)) ?_ (fun _ _ _ z => z.elim)
    rintro _ rfl
    refine lQ.loadN rfl rfl ?_
    obtain ⟨x18, hx, h1⟩ := bindC h1
    refine lQ.callVV (F := (fun A => A = tp (swp ad) x18 A0)) (G := fun _ _ => False) (args := [.ref (adr (swp ad) 1)]) (r := []) hR rfl rfl rfl (Nat.le_of_ble_eq_true rfl) (Nat.le_of_ble_eq_true rfl) rfl (tk_1 (swp_ok hn) rfl) (ts_691 hR (swp_ok hn) hx (cV_mk rfl)) ?_ (fun _ _ _ z => z.elim)
    rintro _ rfl
    refine lQ.loadN rfl rfl ?_
    obtain ⟨x19, hx, h1⟩ := bindC h1
    refine lQ.callVV (F := (fun A => A = tp (swp ad) x19 A0)) (G := fun _ _ => False) (args := [.ref (adr (swp ad) 1)]) (r := []) hR rfl rfl rfl (Nat.le_of_ble_eq_true rfl) (Nat.le_of_ble_eq_true rfl) rfl (tk_1 (swp_ok hn) rfl) (ts_695 hR (swp_ok hn) hx (cV_mk rfl)) ?_ (fun _ _ _ z => z.elim)
    rintro _ rfl
    refine lQ.loadN rfl rfl ?_
    obtain ⟨x20, hx, h1⟩ := bindC h1
    refine lQ.callVV (F := (fun A => A = tp (swp ad) x20 A0)) (G := fun _ _ => False) (args := [.ref (adr (swp ad) 1)]) (r := []) hR rfl rfl rfl (Nat.le_of_ble_eq_true rfl) (Nat.le_of_ble_eq_true rfl) rfl (tk_1 (swp_ok hn) rfl) (ts_701 hR (swp_ok hn) hx (cV_mk rfl)) ?_ (fun _ _ _ z => z.elim)
    rintro _ rfl
    refine lQ.push rfl ?_
    refine lQ.stI rfl (lN2s rfl rfl) ?_
    obtain ⟨v84, hy2, h2⟩ := bindC h1
    have hJ2 : lQ R E 4 cd_685 84 [(0, .ref (adr (swp ad) 1))] [] (tp (swp ad) v84 A0) Z := by
      refine lQ.loadN rfl rfl ?_
      refine lQ.get hR rfl (tf_1_18 (swp_ok hn)) ?_
      obtain ⟨v89, hy3, h3⟩ := bindC h2
      have hJ3 : lQ R E 4 cd_685 89 [(0, .ref (adr (swp ad) 1))] [] (tp (swp ad) v89 A0) Z := by
        refine lQ.loadN rfl rfl ?_
        refine lQ.push rfl ?_
        obtain ⟨s23, hx, h3⟩ := bindC h3
        refine lQ.put hR rfl rfl (tq_1_9 (swp_ok hn) hx) ?_
        rintro _ rfl
        refine lQ.loadN rfl rfl ?_
        refine lQ.push rfl ?_
        obtain ⟨s24, hx, h3⟩ := bindC h3
        refine lQ.put hR rfl rfl (tq_1_10 (swp_ok hn) hx) ?_
        rintro _ rfl
        refine lQ.loadN rfl rfl ?_
        refine lQ.get hR rfl (tf_1_17 (swp_ok hn)) ?_
        obtain rfl := Option.some.inj h3
        exact lQ.retI rfl rfl hz
      rcases iteC hy3 with ⟨hc, hy3⟩ | ⟨hc, hy3⟩
      · refine lQ.ifT rfl (decide_eq_true hc) ?_
        obtain rfl := Option.some.inj hy3
        exact lQ.sub (lSb rfl lSb0) hJ3
      · refine lQ.ifF rfl (decide_eq_false hc) ?_
        refine lQ.loadN rfl rfl ?_
        obtain ⟨x22, hx, hy3⟩ := bindC hy3
        refine lQ.callVV (F := (fun A => A = tp (swp ad) x22 A0)) (G := fun _ _ => False) (args := [.ref (adr (swp ad) 1)]) (r := []) hR rfl rfl rfl (Nat.le_of_ble_eq_true rfl) (Nat.le_of_ble_eq_true rfl) rfl (tk_1 (swp_ok hn) rfl) (ts_704 hR (swp_ok hn) hx (cV_mk rfl)) ?_ (fun _ _ _ z => z.elim)
        rintro _ rfl
        obtain rfl := Option.some.inj hy3
        exact lQ.sub (lSb rfl lSb0) hJ3
    refine lQ.sub (lSb rfl (lSb rfl lSb0)) (wh_run (P := fun p74 => lQ R E 4 cd_685 74 [(0, .ref (adr (swp ad) 1)), (1, .int p74.2)] [] (tp (swp ad) p74.1 A0) Z) hy2 ?_)
    intro p74 r4 hb4 hI4 hX4
    refine lQ.loadI rfl rfl ?_
    refine lQ.push rfl ?_
    rcases iteC hb4 with ⟨hc, hb4⟩ | ⟨hc, hb4⟩
    · refine lQ.cmpF rfl (decide_eq_false (Int32.not_le.mpr hc)) ?_
      refine lQ.loadN rfl rfl ?_
      refine lQ.get hR rfl (tf_1_25 (swp_ok hn)) ?_
      refine lQ.loadI rfl rfl ?_
      refine lQ.push rfl ?_
      obtain ⟨s21, hx, hb4⟩ := bindC hb4
      refine lQ.ast hR rfl (tw_64 (swp_ok hn) hx) ?_
      rintro _ rfl
      refine lQ.inc rfl rfl (lN2s rfl rfl) ?_
      refine lQ.goto rfl ?_
      obtain rfl := Option.some.inj hb4
      exact lQ.sub (lSb rfl (lSb rfl lSb0)) (hI4 _ rfl)
    · refine lQ.cmpT rfl (decide_eq_true (Int32.not_lt.mp hc)) ?_
      obtain rfl := Option.some.inj hb4
      obtain rfl := hX4 _ rfl
      exact lQ.sub (lSb rfl lSb0) hJ2
  refine lQ.sub (lSb rfl (lSb rfl lSb0)) (wh_run (P := fun p16 => lQ R E 4 cd_685 16 [(0, .ref (adr (swp ad) 1)), (1, .int p16.2)] [] (tp (swp ad) p16.1 A0) Z) hy1 ?_)
  intro p16 r5 hb5 hI5 hX5
  refine lQ.loadI rfl rfl ?_
  refine lQ.loadN rfl rfl ?_
  refine lQ.get hR rfl (tf_1_0 (swp_ok hn)) ?_
  rcases iteC hb5 with ⟨hc, hb5⟩ | ⟨hc, hb5⟩
  · refine lQ.cmpF rfl (decide_eq_false (Int32.not_le.mpr hc)) ?_
    refine lQ.loadN rfl rfl ?_
    refine lQ.loadN rfl rfl ?_
    refine lQ.get hR rfl (tf_1_14 (swp_ok hn)) ?_
    refine lQ.loadN rfl rfl ?_
    refine lQ.get hR rfl (tf_1_12 (swp_ok hn)) ?_
    refine lQ.loadN rfl rfl ?_
    refine lQ.get hR rfl (tf_1_1 (swp_ok hn)) ?_
    refine lQ.loadI rfl rfl ?_
    obtain ⟨x5, hx, hb5⟩ := bindC hb5
    refine lQ.ald hR rfl (ta_50 (swp_ok hn) hx) ?_
    obtain ⟨x6, hx, hb5⟩ := bindC hb5
    refine lQ.callI (F := (fun y A => x6.1 = y ∧ A = tp (swp ad) x6.2 A0)) (G := fun _ _ => False) (args := [.ref (adr (swp ad) 58), .int (p16.1.1 112), .int x5]) (r := [.ref (adr (swp ad) 1)]) hR rfl rfl rfl (Nat.le_of_ble_eq_true rfl) (Nat.le_of_ble_eq_true rfl) (ts_687 hR (swp_ok hn) (Or.inl rfl) hx (cI_mk ⟨rfl, rfl⟩)) ?_ (fun _ _ _ z => z.elim)
    rintro _ _ ⟨rfl, rfl⟩
    obtain ⟨s7, hx, hb5⟩ := bindC hb5
    refine lQ.put hR rfl rfl (tq_1_12 (swp_ok hn) hx) ?_
    rintro _ rfl
    refine lQ.loadN rfl rfl ?_
    refine lQ.loadN rfl rfl ?_
    refine lQ.get hR rfl (tf_1_14 (swp_ok hn)) ?_
    refine lQ.loadN rfl rfl ?_
    refine lQ.get hR rfl (tf_1_12 (swp_ok hn)) ?_
    refine lQ.loadN rfl rfl ?_
    refine lQ.loadI rfl rfl ?_
    obtain ⟨x8, hx, hb5⟩ := bindC hb5
    refine lQ.callVI (F := (fun y A => x8 = y ∧ A = tp (swp ad) s7 A0)) (G := fun _ _ => False) (args := [.ref (adr (swp ad) 1), .int p16.2]) (r := [.int (s7.1 112), .ref (adr (swp ad) 58), .ref (adr (swp ad) 1)]) hR rfl rfl rfl (Nat.le_of_ble_eq_true rfl) (Nat.le_of_ble_eq_true rfl) rfl (tk_1 (swp_ok hn) rfl) (ts_679 hR (swp_ok hn) hx (cI_mk ⟨rfl, rfl⟩)) ?_ (fun _ _ _ z => z.elim)
    rintro _ _ ⟨rfl, rfl⟩
    obtain ⟨x9, hx, hb5⟩ := bindC hb5
    refine lQ.callI (F := (fun y A => x9.1 = y ∧ A = tp (swp ad) x9.2 A0)) (G := fun _ _ => False) (args := [.ref (adr (swp ad) 58), .int (s7.1 112), .int x8]) (r := [.ref (adr (swp ad) 1)]) hR rfl rfl rfl (Nat.le_of_ble_eq_true rfl) (Nat.le_of_ble_eq_true rfl) (ts_687 hR (swp_ok hn) (Or.inl rfl) hx (cI_mk ⟨rfl, rfl⟩)) ?_ (fun _ _ _ z => z.elim)
    rintro _ _ ⟨rfl, rfl⟩
    obtain ⟨s10, hx, hb5⟩ := bindC hb5
    refine lQ.put hR rfl rfl (tq_1_12 (swp_ok hn) hx) ?_
    rintro _ rfl
    refine lQ.loadN rfl rfl ?_
    refine lQ.loadN rfl rfl ?_
    refine lQ.get hR rfl (tf_1_15 (swp_ok hn)) ?_
    refine lQ.loadN rfl rfl ?_
    refine lQ.get hR rfl (tf_1_13 (swp_ok hn)) ?_
    refine lQ.loadN rfl rfl ?_
    refine lQ.get hR rfl (tf_1_2 (swp_ok hn)) ?_
    refine lQ.loadI rfl rfl ?_
    obtain ⟨x11, hx, hb5⟩ := bindC hb5
    refine lQ.ald hR rfl (ta_51 (swp_ok hn) hx) ?_
    obtain ⟨x12, hx, hb5⟩ := bindC hb5
    refine lQ.callI (F := (fun y A => x12.1 = y ∧ A = tp (swp ad) x12.2 A0)) (G := fun _ _ => False) (args := [.ref (adr (swp ad) 59), .int (s10.1 113), .int x11]) (r := [.ref (adr (swp ad) 1)]) hR rfl rfl rfl (Nat.le_of_ble_eq_true rfl) (Nat.le_of_ble_eq_true rfl) (ts_687 hR (swp_ok hn) (Or.inr rfl) hx (cI_mk ⟨rfl, rfl⟩)) ?_ (fun _ _ _ z => z.elim)
    rintro _ _ ⟨rfl, rfl⟩
    obtain ⟨s13, hx, hb5⟩ := bindC hb5
    refine lQ.put hR rfl rfl (tq_1_13 (swp_ok hn) hx) ?_
    rintro _ rfl
    refine lQ.loadN rfl rfl ?_
    refine lQ.loadN rfl rfl ?_
    refine lQ.get hR rfl (tf_1_15 (swp_ok hn)) ?_
    refine lQ.loadN rfl rfl ?_
    refine lQ.get hR rfl (tf_1_13 (swp_ok hn)) ?_
    refine lQ.loadN rfl rfl ?_
    refine lQ.loadI rfl rfl ?_
    obtain ⟨x14, hx, hb5⟩ := bindC hb5
    refine lQ.callVI (F := (fun y A => x14 = y ∧ A = tp (swp ad) s13 A0)) (G := fun _ _ => False) (args := [.ref (adr (swp ad) 1), .int p16.2]) (r := [.int (s13.1 113), .ref (adr (swp ad) 59), .ref (adr (swp ad) 1)]) hR rfl rfl rfl (Nat.le_of_ble_eq_true rfl) (Nat.le_of_ble_eq_true rfl) rfl (tk_1 (swp_ok hn) rfl) (ts_680 hR (swp_ok hn) hx (cI_mk ⟨rfl, rfl⟩)) ?_ (fun _ _ _ z => z.elim)
    rintro _ _ ⟨rfl, rfl⟩
    obtain ⟨x15, hx, hb5⟩ := bindC hb5
    refine lQ.callI (F := (fun y A => x15.1 = y ∧ A = tp (swp ad) x15.2 A0)) (G := fun _ _ => False) (args := [.ref (adr (swp ad) 59), .int (s13.1 113), .int x14]) (r := [.ref (adr (swp ad) 1)]) hR rfl rfl rfl (Nat.le_of_ble_eq_true rfl) (Nat.le_of_ble_eq_true rfl) (ts_687 hR (swp_ok hn) (Or.inr rfl) hx (cI_mk ⟨rfl, rfl⟩)) ?_ (fun _ _ _ z => z.elim)
    rintro _ _ ⟨rfl, rfl⟩
    obtain ⟨s16, hx, hb5⟩ := bindC hb5
    refine lQ.put hR rfl rfl (tq_1_13 (swp_ok hn) hx) ?_
    rintro _ rfl
    refine lQ.inc rfl rfl (lN2s rfl rfl) ?_
    refine lQ.goto rfl ?_
    obtain rfl := Option.some.inj hb5
    exact lQ.sub (lSb rfl (lSb rfl lSb0)) (hI5 _ rfl)
  · refine lQ.cmpT rfl (decide_eq_true (Int32.not_lt.mp hc)) ?_
    obtain rfl := Option.some.inj hb5
    obtain rfl := hX5 _ rfl
    exact lQ.sub (lSb rfl lSb0) hJ1
theorem ts_562 {R : lAR} (hR : lRok R) {E : lE} {ad : List Nat} (hn : tOk ad) {s : TS} {A0 : lMem} {x : Int32 × TS} (h : t_562 s = some x) {Z : lZ} (hz : ∀ ad' : List Nat, (ad' = ad ∨ ad' = swp ad) → Z (.inl (some (.int x.1))) (tp ad' x.2 A0)) : lSQ R E 6 562 [.ref (adr ad 0)] (tp ad s A0) Z := by
  refine lQ.sq pg_562 (Nat.le_of_ble_eq_true rfl) rfl ?_
  unfold t_562 at h
  refine lQ.loadN rfl rfl ?_
  refine lQ.loadN rfl rfl ?_
  refine lQ.get hR rfl (tf_0_1 hn) ?_
  obtain ⟨v12, hy1, h1⟩ := bindC h
  have hJ1 : lQ R E 5 cd_562 12 [(0, .ref (adr ad 0))] [.int v12, .ref (adr ad 0)] (tp ad s A0) Z := by
    obtain ⟨x1, hx, h1⟩ := bindC h1
    refine lQ.callVI (F := (fun y A => x1.1 = y ∧ A = tp ad x1.2 A0)) (G := fun _ _ => False) (args := [.ref (adr ad 0), .int v12]) (r := []) hR rfl rfl rfl (Nat.le_of_ble_eq_true rfl) (Nat.le_of_ble_eq_true rfl) rfl (tk_0 hn rfl) (ts_563 hR hn hx (cI_mk ⟨rfl, rfl⟩)) ?_ (fun _ _ _ z => z.elim)
    rintro _ _ ⟨rfl, rfl⟩
    rcases iteC h1 with ⟨hc, h1⟩ | ⟨hc, h1⟩
    · refine lQ.ifT rfl (decide_eq_true hc) ?_
      refine lQ.push rfl ?_
      obtain rfl := Option.some.inj h1
      exact lQ.retI rfl rfl (hz _ (Or.inl rfl))
    · refine lQ.ifF rfl (decide_eq_false hc) ?_
      refine lQ.loadN rfl rfl ?_
      refine lQ.get hR rfl (tf_0_3 hn) ?_
      obtain ⟨x2, hx, h1⟩ := bindC h1
      refine lQ.callVI (F := (fun y A => x2.1 = y ∧ A = tp (swp ad) x2.2 A0)) (G := fun _ _ => False) (args := [.ref (adr ad 1)]) (r := []) hR rfl rfl rfl (Nat.le_of_ble_eq_true rfl) (Nat.le_of_ble_eq_true rfl) rfl (tk_1 hn rfl) (ts_685 hR hn hx (cI_mk ⟨rfl, rfl⟩)) ?_ (fun _ _ _ z => z.elim)
      rintro _ _ ⟨rfl, rfl⟩
      refine lQ.goto rfl ?_
      obtain rfl := Option.some.inj h1
      exact lQ.retI rfl rfl (hz _ (Or.inr rfl))
  rcases iteC hy1 with ⟨hc, hy1⟩ | ⟨hc, hy1⟩
  · refine lQ.ifF rfl (decide_eq_false (fun z => z hc)) ?_
    refine lQ.loadN rfl rfl ?_
    refine lQ.get hR rfl (tf_0_3 hn) ?_
    refine lQ.get hR rfl (tf_1_11 hn) ?_
    refine lQ.push rfl ?_
    rcases iteC hy1 with ⟨hc, hy1⟩ | ⟨hc, hy1⟩
    · refine lQ.cmpF rfl (decide_eq_false (Int32.not_le.mpr hc)) ?_
      refine lQ.push rfl ?_
      refine lQ.goto rfl ?_
      obtain rfl := Option.some.inj hy1
      exact lQ.sub (lSb rfl lSb0) hJ1
    · refine lQ.cmpT rfl (decide_eq_true (Int32.not_lt.mp hc)) ?_
      refine lQ.push rfl ?_
      obtain rfl := Option.some.inj hy1
      exact lQ.sub (lSb rfl lSb0) hJ1
  · refine lQ.ifT rfl (decide_eq_true hc) ?_
    refine lQ.push rfl ?_
    obtain rfl := Option.some.inj hy1
    exact lQ.sub (lSb rfl lSb0) hJ1
theorem ts_707 {R : lAR} (hR : lRok R) {E : lE} {ad : List Nat} (hn : tOk ad) {s : TS} {A0 : lMem} {x : Int32} (h : t_707 s = some x) {Z : lZ} (hz : Z (.inl (some (.int x))) (tp ad s A0)) : lSQ R E 3 707 [.ref (adr ad 1)] (tp ad s A0) Z := by
  refine lQ.sq pg_707 (Nat.le_of_ble_eq_true rfl) rfl ?_
  unfold t_707 at h
  refine lQ.push rfl ?_
  refine lQ.stI rfl (lN2s rfl rfl) ?_
  refine lQ.push rfl ?_
  refine lQ.stI rfl (lN2s rfl rfl) ?_
  obtain ⟨v22, hy1, h1⟩ := bindC h
  have hJ1 : lQ R E 2 cd_707 22 [(1, .int v22)] [] (tp ad s A0) Z := by
    refine lQ.loadI rfl rfl ?_
    obtain rfl := Option.some.inj h1
    exact lQ.retI rfl rfl hz
  refine lQ.sub (lSb rfl (lSb rfl (lSb rfl lSb0))) (wh_run (P := fun p4 => lQ R E 2 cd_707 4 [(0, .ref (adr ad 1)), (1, .int p4.1), (2, .int p4.2)] [] (tp ad s A0) Z) hy1 ?_)
  intro p4 r2 hb2 hI2 hX2
  refine lQ.loadI rfl rfl ?_
  refine lQ.push rfl ?_
  refine lQ.loadN rfl rfl ?_
  refine lQ.get hR rfl (tf_1_30 hn) ?_
  refine lQ.binI rfl ?_
  rcases iteC hb2 with ⟨hc, hb2⟩ | ⟨hc, hb2⟩
  · refine lQ.cmpF rfl (decide_eq_false (Int32.not_le.mpr hc)) ?_
    refine lQ.loadI rfl rfl ?_
    refine lQ.loadN rfl rfl ?_
    refine lQ.loadI rfl rfl ?_
    obtain ⟨x1, hx, hb2⟩ := bindC hb2
    refine lQ.callVI (F := (fun y A => x1 = y ∧ A = tp ad s A0)) (G := fun _ _ => False) (args := [.ref (adr ad 1), .int p4.2]) (r := [.int p4.1]) hR rfl rfl rfl (Nat.le_of_ble_eq_true rfl) (Nat.le_of_ble_eq_true rfl) rfl (tk_1 hn rfl) (ts_702 hR hn hx (cI_mk ⟨rfl, rfl⟩)) ?_ (fun _ _ _ z => z.elim)
    rintro _ _ ⟨rfl, rfl⟩
    obtain ⟨v18, hy3, h3⟩ := bindC hb2
    have hJ3 : lQ R E 2 cd_707 18 [(0, .ref (adr ad 1)), (2, .int p4.2)] [.int v18, .int p4.1] (tp ad s A0) Z := by
      refine lQ.binI rfl ?_
      refine lQ.stI rfl (lN2s rfl rfl) ?_
      refine lQ.inc rfl rfl (lN2s rfl rfl) ?_
      refine lQ.goto rfl ?_
      obtain rfl := Option.some.inj h3
      exact lQ.sub (lSb rfl (lSb rfl (lSb rfl lSb0))) (hI2 _ rfl)
    rcases iteC hy3 with ⟨hc, hy3⟩ | ⟨hc, hy3⟩
    · refine lQ.ifF rfl (decide_eq_false (Int32.not_le.mpr hc)) ?_
      refine lQ.push rfl ?_
      refine lQ.goto rfl ?_
      obtain rfl := Option.some.inj hy3
      exact lQ.sub (lSb rfl (lSb rfl lSb0)) hJ3
    · refine lQ.ifT rfl (decide_eq_true (Int32.not_lt.mp hc)) ?_
      refine lQ.push rfl ?_
      obtain rfl := Option.some.inj hy3
      exact lQ.sub (lSb rfl (lSb rfl lSb0)) hJ3
  · refine lQ.cmpT rfl (decide_eq_true (Int32.not_lt.mp hc)) ?_
    obtain rfl := Option.some.inj hb2
    obtain rfl := hX2 _ rfl
    exact lQ.sub (lSb rfl lSb0) hJ1
theorem ts_564 {R : lAR} (hR : lRok R) {E : lE} {ad : List Nat} (hn : tOk ad) {v1 : Int32} {s : TS} {A0 : lMem} {x : Int32 × TS} (h : t_564 v1 s = some x) {Z : lZ} (hz : Z (.inl (some (.int x.1))) (tp ad x.2 A0)) : lSQ R E 4 564 [.ref (adr ad 0), .int v1] (tp ad s A0) Z := by
  refine lQ.sq pg_564 (Nat.le_of_ble_eq_true rfl) rfl ?_
  unfold t_564 at h
  refine lQ.loadN rfl rfl ?_
  refine lQ.loadI rfl rfl ?_
  refine lQ.push rfl ?_
  obtain ⟨x1, hx, h⟩ := bindC h
  refine lQ.callI (F := (fun y A => x1 = y ∧ A = tp ad s A0)) (G := fun _ _ => False) (args := [.int v1, .int 4]) (r := [.ref (adr ad 0)]) hR rfl rfl rfl (Nat.le_of_ble_eq_true rfl) (Nat.le_of_ble_eq_true rfl) (ts_560 hR hn hx (cI_mk ⟨rfl, rfl⟩)) ?_ (fun _ _ _ z => z.elim)
  rintro _ _ ⟨rfl, rfl⟩
  refine lQ.loadN rfl rfl ?_
  refine lQ.get hR rfl (tf_0_3 hn) ?_
  refine lQ.get hR rfl (tf_1_10 hn) ?_
  obtain ⟨x2, hx, h⟩ := bindC h
  refine lQ.callVI (F := (fun y A => x2.1 = y ∧ A = tp ad x2.2 A0)) (G := fun _ _ => False) (args := [.ref (adr ad 0), .int x1, .int (s.1 110)]) (r := []) hR rfl rfl rfl (Nat.le_of_ble_eq_true rfl) (Nat.le_of_ble_eq_true rfl) rfl (tk_0 hn rfl) (ts_558 hR hn hx (cI_mk ⟨rfl, rfl⟩)) ?_ (fun _ _ _ z => z.elim)
  rintro _ _ ⟨rfl, rfl⟩
  rcases iteC h with ⟨hc, h⟩ | ⟨hc, h⟩
  · refine lQ.ifF rfl (decide_eq_false (fun z => z hc)) ?_
    refine lQ.push rfl ?_
    obtain rfl := Option.some.inj h
    exact lQ.retI rfl rfl hz
  · refine lQ.ifT rfl (decide_eq_true hc) ?_
    refine lQ.loadI rfl rfl ?_
    rcases iteC h with ⟨hc, h⟩ | ⟨hc, h⟩
    · refine lQ.ifF rfl (decide_eq_false (fun z => z hc)) ?_
      refine lQ.loadN rfl rfl ?_
      refine lQ.get hR rfl (tf_0_3 hn) ?_
      refine lQ.get hR rfl (tf_1_17 hn) ?_
      refine lQ.goto rfl ?_
      obtain rfl := Option.some.inj h
      exact lQ.retI rfl rfl hz
    · refine lQ.ifT rfl (decide_eq_true hc) ?_
      refine lQ.loadI rfl rfl ?_
      refine lQ.push rfl ?_
      rcases iteC h with ⟨hc, h⟩ | ⟨hc, h⟩
      · refine lQ.cmpF rfl (decide_eq_false (fun z => z hc)) ?_
        refine lQ.loadN rfl rfl ?_
        refine lQ.get hR rfl (tf_0_3 hn) ?_
        refine lQ.get hR rfl (tf_1_27 hn) ?_
        refine lQ.goto rfl ?_
        obtain rfl := Option.some.inj h
        exact lQ.retI rfl rfl hz
      · refine lQ.cmpT rfl (decide_eq_true hc) ?_
        refine lQ.loadI rfl rfl ?_
        refine lQ.push rfl ?_
        rcases iteC h with ⟨hc, h⟩ | ⟨hc, h⟩
        · refine lQ.cmpF rfl (decide_eq_false (fun z => z hc)) ?_
          refine lQ.loadN rfl rfl ?_
          refine lQ.get hR rfl (tf_0_3 hn) ?_
          refine lQ.get hR rfl (tf_1_30 hn) ?_
          refine lQ.goto rfl ?_
          obtain rfl := Option.some.inj h
          exact lQ.retI rfl rfl hz
        · refine lQ.cmpT rfl (decide_eq_true hc) ?_
          refine lQ.loadN rfl rfl ?_
          refine lQ.get hR rfl (tf_0_3 hn) ?_
          obtain ⟨x3, hx, h⟩ := bindC h
          refine lQ.callVI (F := (fun y A => x3 = y ∧ A = tp ad x2.2 A0)) (G := fun _ _ => False) (args := [.ref (adr ad 1)]) (r := []) hR rfl rfl rfl (Nat.le_of_ble_eq_true rfl) (Nat.le_of_ble_eq_true rfl) rfl (tk_1 hn rfl) (ts_707 hR hn hx (cI_mk ⟨rfl, rfl⟩)) ?_ (fun _ _ _ z => z.elim)
          rintro _ _ ⟨rfl, rfl⟩
          obtain rfl := Option.some.inj h
          exact lQ.retI rfl rfl hz
theorem ts_708 {R : lAR} (hR : lRok R) {E : lE} {ad : List Nat} (hn : tOk ad) {v1 : Int32} {s : TS} {A0 : lMem} {x : Int32} (h : t_708 v1 s = some x) {Z : lZ} (hz : Z (.inl (some (.int x))) (tp ad s A0)) : lSQ R E 1 708 [.ref (adr ad 1), .int v1] (tp ad s A0) Z := by
  refine lQ.sq pg_708 (Nat.le_of_ble_eq_true rfl) rfl ?_
  unfold t_708 at h
  refine lQ.loadN rfl rfl ?_
  refine lQ.get hR rfl (tf_1_9 hn) ?_
  rcases iteC h with ⟨hc, h⟩ | ⟨hc, h⟩
  · refine lQ.ifT rfl (decide_eq_true hc) ?_
    refine lQ.push rfl ?_
    obtain rfl := Option.some.inj h
    exact lQ.retI rfl rfl hz
  · refine lQ.ifF rfl (decide_eq_false hc) ?_
    refine lQ.loadI rfl rfl ?_
    rcases iteC h with ⟨hc, h⟩ | ⟨hc, h⟩
    · refine lQ.ifT rfl (decide_eq_true hc) ?_
      refine lQ.push rfl ?_
      obtain rfl := Option.some.inj h
      exact lQ.retI rfl rfl hz
    · refine lQ.ifF rfl (decide_eq_false hc) ?_
      refine lQ.loadI rfl rfl ?_
      refine lQ.loadN rfl rfl ?_
      refine lQ.get hR rfl (tf_1_17 hn) ?_
      rcases iteC h with ⟨hc, h⟩ | ⟨hc, h⟩
      · refine lQ.cmpF rfl (decide_eq_false (Int32.not_le.mpr hc)) ?_
        refine lQ.push rfl ?_
        refine lQ.goto rfl ?_
        obtain rfl := Option.some.inj h
        exact lQ.retI rfl rfl hz
      · refine lQ.cmpT rfl (decide_eq_true (Int32.not_lt.mp hc)) ?_
        refine lQ.push rfl ?_
        obtain rfl := Option.some.inj h
        exact lQ.retI rfl rfl hz
theorem ts_710 {R : lAR} (hR : lRok R) {E : lE} {ad : List Nat} (hn : tOk ad) {v1 : Int32} {v2 : Int32} {s : TS} {A0 : lMem} {x : Int32} (h : t_710 v1 v2 s = some x) {Z : lZ} (hz : Z (.inl (some (.int x))) (tp ad s A0)) : lSQ R E 3 710 [.ref (adr ad 1), .int v1, .int v2] (tp ad s A0) Z := by
  refine lQ.sq pg_710 (Nat.le_of_ble_eq_true rfl) rfl ?_
  unfold t_710 at h
  refine lQ.loadI rfl rfl ?_
  refine lQ.stI rfl (lN2s rfl rfl) ?_
  refine lQ.push rfl ?_
  refine lQ.stI rfl (lN2s rfl rfl) ?_
  obtain ⟨y1, hy1, h1⟩ := bindC h
  have hJ1 : ∀ v29, y1 = .inl v29 → lQ R E 2 cd_710 29 [] [] (tp ad s A0) Z := by
    rintro v29 rfl
    have h1 := elimC h1
    refine lQ.push rfl ?_
    obtain rfl := Option.some.inj h1
    exact lQ.retI rfl rfl hz
  obtain ⟨y2, hy2, h2⟩ := bindC hy1
  have hJ2 : ∀ v24, y2 = .inl v24 → lQ R E 2 cd_710 24 [(4, .int v24)] [] (tp ad s A0) Z := by
    rintro v24 rfl
    have h2 := elimC h2
    refine lQ.loadI rfl rfl ?_
    obtain rfl := Option.some.inj h2
    obtain rfl := elimD h1
    exact lQ.retI rfl rfl hz
  refine lQ.sub (lSb rfl (lSb rfl (lSb rfl (lSb rfl (lSb rfl lSb0))))) (wh_run (P := fun p4 => lQ R E 2 cd_710 4 [(0, .ref (adr ad 1)), (1, .int v1), (2, .int v2), (3, .int p4.1), (4, .int p4.2)] [] (tp ad s A0) Z) hy2 ?_)
  intro p4 r3 hb3 hI3 hX3
  refine lQ.loadI rfl rfl ?_
  refine lQ.loadN rfl rfl ?_
  refine lQ.get hR rfl (tf_1_35 hn) ?_
  rcases iteC hb3 with ⟨hc, hb3⟩ | ⟨hc, hb3⟩
  · refine lQ.cmpF rfl (decide_eq_false (Int32.not_le.mpr hc)) ?_
    refine lQ.loadN rfl rfl ?_
    refine lQ.loadI rfl rfl ?_
    obtain ⟨x1, hx, hb3⟩ := bindC hb3
    refine lQ.callVI (F := (fun y A => x1 = y ∧ A = tp ad s A0)) (G := fun _ _ => False) (args := [.ref (adr ad 1), .int v1]) (r := []) hR rfl rfl rfl (Nat.le_of_ble_eq_true rfl) (Nat.le_of_ble_eq_true rfl) rfl (tk_1 hn rfl) (ts_708 hR hn hx (cI_mk ⟨rfl, rfl⟩)) ?_ (fun _ _ _ z => z.elim)
    rintro _ _ ⟨rfl, rfl⟩
    rcases iteC hb3 with ⟨hc, hb3⟩ | ⟨hc, hb3⟩
    · refine lQ.ifT rfl (decide_eq_true hc) ?_
      obtain rfl := Option.some.inj hb3
      obtain rfl := hX3 _ rfl
      obtain rfl := elimD h2
      exact lQ.sub lSb0 (hJ1 _ rfl)
    · refine lQ.ifF rfl (decide_eq_false hc) ?_
      refine lQ.loadI rfl rfl ?_
      rcases iteC hb3 with ⟨hc, hb3⟩ | ⟨hc, hb3⟩
      · refine lQ.ifT rfl (decide_eq_true hc) ?_
        obtain rfl := Option.some.inj hb3
        obtain rfl := hX3 _ rfl
        obtain rfl := elimD h2
        exact lQ.sub lSb0 (hJ1 _ rfl)
      · refine lQ.ifF rfl (decide_eq_false hc) ?_
        refine lQ.loadN rfl rfl ?_
        refine lQ.loadN rfl rfl ?_
        refine lQ.get hR rfl (tf_1_36 hn) ?_
        refine lQ.loadI rfl rfl ?_
        obtain ⟨x2, hx, hb3⟩ := bindC hb3
        refine lQ.ald hR rfl (ta_72 hn hx) ?_
        obtain ⟨x3, hx, hb3⟩ := bindC hb3
        refine lQ.callVI (F := (fun y A => x3 = y ∧ A = tp ad s A0)) (G := fun _ _ => False) (args := [.ref (adr ad 1), .int x2]) (r := []) hR rfl rfl rfl (Nat.le_of_ble_eq_true rfl) (Nat.le_of_ble_eq_true rfl) rfl (tk_1 hn rfl) (ts_702 hR hn hx (cI_mk ⟨rfl, rfl⟩)) ?_ (fun _ _ _ z => z.elim)
        rintro _ _ ⟨rfl, rfl⟩
        refine lQ.loadI rfl rfl ?_
        obtain ⟨y4, hy4, h4⟩ := bindC hb3
        have hJ4 : ∀ v27, y4 = .inl v27 → lQ R E 2 cd_710 27 [(0, .ref (adr ad 1)), (1, .int v1), (2, .int v2), (3, .int v27), (4, .int p4.2)] [] (tp ad s A0) Z := by
          rintro v27 rfl
          have h4 := elimC h4
          refine lQ.inc rfl rfl (lN2s rfl rfl) ?_
          refine lQ.goto rfl ?_
          obtain rfl := Option.some.inj h4
          exact lQ.sub (lSb rfl (lSb rfl (lSb rfl (lSb rfl (lSb rfl lSb0))))) (hI3 _ rfl)
        rcases iteC hy4 with ⟨hc, hy4⟩ | ⟨hc, hy4⟩
        · refine lQ.cmpF rfl (decide_eq_false (fun z => z hc)) ?_
          refine lQ.loadI rfl rfl ?_
          rcases iteC hy4 with ⟨hc, hy4⟩ | ⟨hc, hy4⟩
          · refine lQ.ifF rfl (decide_eq_false (fun z => z hc)) ?_
            obtain rfl := Option.some.inj hy4
            obtain rfl := elimD h4
            obtain rfl := hX3 _ rfl
            exact lQ.sub (lSb rfl lSb0) (hJ2 _ rfl)
          · refine lQ.ifT rfl (decide_eq_true hc) ?_
            refine lQ.dec rfl rfl (Int32.sub_eq_add_neg p4.1 1).symm (lN2s rfl rfl) ?_
            obtain rfl := Option.some.inj hy4
            exact lQ.sub (lSb rfl (lSb rfl (lSb rfl (lSb rfl (lSb rfl lSb0))))) (hJ4 _ rfl)
        · refine lQ.cmpT rfl (decide_eq_true hc) ?_
          obtain rfl := Option.some.inj hy4
          exact lQ.sub (lSb rfl (lSb rfl (lSb rfl (lSb rfl (lSb rfl lSb0))))) (hJ4 _ rfl)
  · refine lQ.cmpT rfl (decide_eq_true (Int32.not_lt.mp hc)) ?_
    obtain rfl := Option.some.inj hb3
    obtain rfl := hX3 _ rfl
    obtain rfl := elimD h2
    exact lQ.sub lSb0 (hJ1 _ rfl)
theorem ts_709 {R : lAR} (hR : lRok R) {E : lE} {ad : List Nat} (hn : tOk ad) {v1 : Int32} {v2 : Int32} {s : TS} {A0 : lMem} {x : Int32} (h : t_709 v1 v2 s = some x) {Z : lZ} (hz : Z (.inl (some (.int x))) (tp ad s A0)) : lSQ R E 4 709 [.ref (adr ad 1), .int v1, .int v2] (tp ad s A0) Z := by
  refine lQ.sq pg_709 (Nat.le_of_ble_eq_true rfl) rfl ?_
  unfold t_709 at h
  refine lQ.loadN rfl rfl ?_
  refine lQ.loadI rfl rfl ?_
  refine lQ.loadI rfl rfl ?_
  obtain ⟨x1, hx, h⟩ := bindC h
  refine lQ.callVI (F := (fun y A => x1 = y ∧ A = tp ad s A0)) (G := fun _ _ => False) (args := [.ref (adr ad 1), .int v1, .int v2]) (r := []) hR rfl rfl rfl (Nat.le_of_ble_eq_true rfl) (Nat.le_of_ble_eq_true rfl) rfl (tk_1 hn rfl) (ts_710 hR hn hx (cI_mk ⟨rfl, rfl⟩)) ?_ (fun _ _ _ z => z.elim)
  rintro _ _ ⟨rfl, rfl⟩
  refine lQ.stI rfl (lN2s rfl rfl) ?_
  refine lQ.loadI rfl rfl ?_
  rcases iteC h with ⟨hc, h⟩ | ⟨hc, h⟩
  · refine lQ.ifF rfl (decide_eq_false (Int32.not_le.mpr hc)) ?_
    refine lQ.push rfl ?_
    refine lQ.goto rfl ?_
    obtain rfl := Option.some.inj h
    exact lQ.retI rfl rfl hz
  · refine lQ.ifT rfl (decide_eq_true (Int32.not_lt.mp hc)) ?_
    refine lQ.loadN rfl rfl ?_
    refine lQ.get hR rfl (tf_1_37 hn) ?_
    refine lQ.loadI rfl rfl ?_
    obtain ⟨x2, hx, h⟩ := bindC h
    refine lQ.ald hR rfl (ta_73 hn hx) ?_
    obtain rfl := Option.some.inj h
    exact lQ.retI rfl rfl hz
theorem ts_565 {R : lAR} (hR : lRok R) {E : lE} {ad : List Nat} (hn : tOk ad) {v1 : Int32} {v2 : Int32} {s : TS} {A0 : lMem} {x : Int32 × TS} (h : t_565 v1 v2 s = some x) {Z : lZ} (hz : Z (.inl (some (.int x.1))) (tp ad x.2 A0)) : lSQ R E 5 565 [.ref (adr ad 0), .int v1, .int v2] (tp ad s A0) Z := by
  refine lQ.sq pg_565 (Nat.le_of_ble_eq_true rfl) rfl ?_
  unfold t_565 at h
  refine lQ.loadN rfl rfl ?_
  refine lQ.loadN rfl rfl ?_
  refine lQ.get hR rfl (tf_0_3 hn) ?_
  refine lQ.loadI rfl rfl ?_
  obtain ⟨x1, hx, h⟩ := bindC h
  refine lQ.callVI (F := (fun y A => x1 = y ∧ A = tp ad s A0)) (G := fun _ _ => False) (args := [.ref (adr ad 1), .int v1]) (r := [.ref (adr ad 0)]) hR rfl rfl rfl (Nat.le_of_ble_eq_true rfl) (Nat.le_of_ble_eq_true rfl) rfl (tk_1 hn rfl) (ts_708 hR hn hx (cI_mk ⟨rfl, rfl⟩)) ?_ (fun _ _ _ z => z.elim)
  rintro _ _ ⟨rfl, rfl⟩
  obtain ⟨v11, hy1, h1⟩ := bindC h
  have hJ1 : lQ R E 4 cd_565 11 [(0, .ref (adr ad 0)), (1, .int v1), (2, .int v2)] [.int v11, .ref (adr ad 0)] (tp ad s A0) Z := by
    refine lQ.loadN rfl rfl ?_
    refine lQ.get hR rfl (tf_0_3 hn) ?_
    refine lQ.get hR rfl (tf_1_10 hn) ?_
    obtain ⟨x2, hx, h1⟩ := bindC h1
    refine lQ.callVI (F := (fun y A => x2.1 = y ∧ A = tp ad x2.2 A0)) (G := fun _ _ => False) (args := [.ref (adr ad 0), .int v11, .int (s.1 110)]) (r := []) hR rfl rfl rfl (Nat.le_of_ble_eq_true rfl) (Nat.le_of_ble_eq_true rfl) rfl (tk_0 hn rfl) (ts_558 hR hn hx (cI_mk ⟨rfl, rfl⟩)) ?_ (fun _ _ _ z => z.elim)
    rintro _ _ ⟨rfl, rfl⟩
    rcases iteC h1 with ⟨hc, h1⟩ | ⟨hc, h1⟩
    · refine lQ.ifT rfl (decide_eq_true hc) ?_
      refine lQ.push rfl ?_
      obtain rfl := Option.some.inj h1
      exact lQ.retI rfl rfl hz
    · refine lQ.ifF rfl (decide_eq_false hc) ?_
      refine lQ.loadN rfl rfl ?_
      refine lQ.get hR rfl (tf_0_3 hn) ?_
      refine lQ.loadI rfl rfl ?_
      refine lQ.loadI rfl rfl ?_
      obtain ⟨x3, hx, h1⟩ := bindC h1
      refine lQ.callVI (F := (fun y A => x3 = y ∧ A = tp ad x2.2 A0)) (G := fun _ _ => False) (args := [.ref (adr ad 1), .int v1, .int v2]) (r := []) hR rfl rfl rfl (Nat.le_of_ble_eq_true rfl) (Nat.le_of_ble_eq_true rfl) rfl (tk_1 hn rfl) (ts_709 hR hn hx (cI_mk ⟨rfl, rfl⟩)) ?_ (fun _ _ _ z => z.elim)
      rintro _ _ ⟨rfl, rfl⟩
      refine lQ.goto rfl ?_
      obtain rfl := Option.some.inj h1
      exact lQ.retI rfl rfl hz
  rcases iteC hy1 with ⟨hc, hy1⟩ | ⟨hc, hy1⟩
  · refine lQ.ifT rfl (decide_eq_true hc) ?_
    refine lQ.push rfl ?_
    obtain rfl := Option.some.inj hy1
    exact lQ.sub (lSb rfl (lSb rfl (lSb rfl lSb0))) hJ1
  · refine lQ.ifF rfl (decide_eq_false hc) ?_
    refine lQ.loadI rfl rfl ?_
    rcases iteC hy1 with ⟨hc, hy1⟩ | ⟨hc, hy1⟩
    · refine lQ.ifT rfl (decide_eq_true hc) ?_
      refine lQ.push rfl ?_
      obtain rfl := Option.some.inj hy1
      exact lQ.sub (lSb rfl (lSb rfl (lSb rfl lSb0))) hJ1
    · refine lQ.ifF rfl (decide_eq_false hc) ?_
      refine lQ.push rfl ?_
      refine lQ.goto rfl ?_
      obtain rfl := Option.some.inj hy1
      exact lQ.sub (lSb rfl (lSb rfl (lSb rfl lSb0))) hJ1
theorem ts_712 {R : lAR} (hR : lRok R) {E : lE} {ad : List Nat} (hn : tOk ad) {v1 : Int32} {s : TS} {A0 : lMem} {x : Int32} (h : t_712 v1 s = some x) {Z : lZ} (hz : Z (.inl (some (.int x))) (tp ad s A0)) : lSQ R E 3 712 [.ref (adr ad 1), .int v1] (tp ad s A0) Z := by
  refine lQ.sq pg_712 (Nat.le_of_ble_eq_true rfl) rfl ?_
  unfold t_712 at h
  refine lQ.loadN rfl rfl ?_
  refine lQ.loadI rfl rfl ?_
  refine lQ.push rfl ?_
  refine lQ.divI rfl (by decide) ?_
  obtain ⟨v12, hy1, h1⟩ := bindC h
  have hJ1 : lQ R E 2 cd_712 12 [] [.int v12, .ref (adr ad 1)] (tp ad s A0) Z := by
    obtain ⟨x1, hx, h1⟩ := bindC h1
    refine lQ.callVI (F := (fun y A => x1 = y ∧ A = tp ad s A0)) (G := fun _ _ => False) (args := [.ref (adr ad 1), .int v12]) (r := []) hR rfl rfl rfl (Nat.le_of_ble_eq_true rfl) (Nat.le_of_ble_eq_true rfl) rfl (tk_1 hn rfl) (ts_702 hR hn hx (cI_mk ⟨rfl, rfl⟩)) ?_ (fun _ _ _ z => z.elim)
    rintro _ _ ⟨rfl, rfl⟩
    obtain rfl := Option.some.inj h1
    exact lQ.retI rfl rfl hz
  rcases iteC hy1 with ⟨hc, hy1⟩ | ⟨hc, hy1⟩
  · refine lQ.ifF rfl (decide_eq_false (fun z => z hc)) ?_
    refine lQ.loadI rfl rfl ?_
    refine lQ.push rfl ?_
    refine lQ.binI rfl ?_
    refine lQ.goto rfl ?_
    obtain rfl := Option.some.inj hy1
    exact lQ.sub lSb0 hJ1
  · refine lQ.ifT rfl (decide_eq_true hc) ?_
    refine lQ.loadI rfl rfl ?_
    refine lQ.push rfl ?_
    refine lQ.binI rfl ?_
    obtain rfl := Option.some.inj hy1
    exact lQ.sub lSb0 hJ1
theorem ts_711 {R : lAR} (hR : lRok R) {E : lE} {ad : List Nat} (hn : tOk ad) {v1 : Int32} {v2 : Int32} {v3 : Int32} {v4 : Int32} {s : TS} {A0 : lMem} {x : Int32} (h : t_711 v1 v2 v3 v4 s = some x) {Z : lZ} (hz : Z (.inl (some (.int x))) (tp ad s A0)) : lSQ R E 4 711 [.ref (adr ad 1), .int v1, .int v2, .int v3, .int v4] (tp ad s A0) Z := by
  refine lQ.sq pg_711 (Nat.le_of_ble_eq_true rfl) rfl ?_
  unfold t_711 at h
  refine lQ.loadN rfl rfl ?_
  refine lQ.get hR rfl (tf_1_36 hn) ?_
  refine lQ.loadN rfl rfl ?_
  refine lQ.loadI rfl rfl ?_
  refine lQ.loadI rfl rfl ?_
  obtain ⟨x1, hx, h⟩ := bindC h
  refine lQ.callVI (F := (fun y A => x1 = y ∧ A = tp ad s A0)) (G := fun _ _ => False) (args := [.ref (adr ad 1), .int v1, .int v2]) (r := [.ref (adr ad 72)]) hR rfl rfl rfl (Nat.le_of_ble_eq_true rfl) (Nat.le_of_ble_eq_true rfl) rfl (tk_1 hn rfl) (ts_710 hR hn hx (cI_mk ⟨rfl, rfl⟩)) ?_ (fun _ _ _ z => z.elim)
  rintro _ _ ⟨rfl, rfl⟩
  obtain ⟨x2, hx, h⟩ := bindC h
  refine lQ.ald hR rfl (ta_72 hn hx) ?_
  refine lQ.stI rfl (lN2s rfl rfl) ?_
  refine lQ.push rfl ?_
  refine lQ.stI rfl (lN2s rfl rfl) ?_
  obtain ⟨v19, hy1, h1⟩ := bindC h
  have hJ1 : lQ R E 3 cd_711 19 [(0, .ref (adr ad 1)), (4, .int v4), (5, .int v19)] [] (tp ad s A0) Z := by
    refine lQ.loadI rfl rfl ?_
    rcases iteC h1 with ⟨hc, h1⟩ | ⟨hc, h1⟩
    · refine lQ.sw (j := 21) rfl (by unfold swT; rw [hc]; rfl) ?_
      refine lQ.loadN rfl rfl ?_
      refine lQ.get hR rfl (tf_1_31 hn) ?_
      refine lQ.loadI rfl rfl ?_
      refine lQ.push rfl ?_
      refine lQ.divI rfl (by decide) ?_
      obtain ⟨x13, hx, h1⟩ := bindC h1
      refine lQ.ald hR rfl (ta_68 hn hx) ?_
      obtain rfl := Option.some.inj h1
      exact lQ.retI rfl rfl hz
    · have e0 := hc
      rcases iteC h1 with ⟨hc, h1⟩ | ⟨hc, h1⟩
      · refine lQ.sw (j := 28) rfl (by unfold swT; rw [hc]; rfl) ?_
        refine lQ.loadN rfl rfl ?_
        refine lQ.get hR rfl (tf_1_28 hn) ?_
        refine lQ.loadN rfl rfl ?_
        refine lQ.loadI rfl rfl ?_
        obtain ⟨x11, hx, h1⟩ := bindC h1
        refine lQ.callVI (F := (fun y A => x11 = y ∧ A = tp ad s A0)) (G := fun _ _ => False) (args := [.ref (adr ad 1), .int v19]) (r := [.ref (adr ad 66)]) hR rfl rfl rfl (Nat.le_of_ble_eq_true rfl) (Nat.le_of_ble_eq_true rfl) rfl (tk_1 hn rfl) (ts_697 hR hn hx (cI_mk ⟨rfl, rfl⟩)) ?_ (fun _ _ _ z => z.elim)
        rintro _ _ ⟨rfl, rfl⟩
        obtain ⟨x12, hx, h1⟩ := bindC h1
        refine lQ.ald hR rfl (ta_66 hn hx) ?_
        obtain rfl := Option.some.inj h1
        exact lQ.retI rfl rfl hz
      · have e1 := hc
        rcases iteC h1 with ⟨hc, h1⟩ | ⟨hc, h1⟩
        · refine lQ.sw (j := 35) rfl (by unfold swT; rw [hc]; rfl) ?_
          refine lQ.loadN rfl rfl ?_
          refine lQ.get hR rfl (tf_1_29 hn) ?_
          refine lQ.loadN rfl rfl ?_
          refine lQ.loadI rfl rfl ?_
          obtain ⟨x9, hx, h1⟩ := bindC h1
          refine lQ.callVI (F := (fun y A => x9 = y ∧ A = tp ad s A0)) (G := fun _ _ => False) (args := [.ref (adr ad 1), .int v19]) (r := [.ref (adr ad 67)]) hR rfl rfl rfl (Nat.le_of_ble_eq_true rfl) (Nat.le_of_ble_eq_true rfl) rfl (tk_1 hn rfl) (ts_697 hR hn hx (cI_mk ⟨rfl, rfl⟩)) ?_ (fun _ _ _ z => z.elim)
          rintro _ _ ⟨rfl, rfl⟩
          obtain ⟨x10, hx, h1⟩ := bindC h1
          refine lQ.ald hR rfl (ta_67 hn hx) ?_
          obtain rfl := Option.some.inj h1
          exact lQ.retI rfl rfl hz
        · have e2 := hc
          rcases iteC h1 with ⟨hc, h1⟩ | ⟨hc, h1⟩
          · refine lQ.sw (j := 42) rfl (by unfold swT; rw [hc]; rfl) ?_
            refine lQ.loadN rfl rfl ?_
            refine lQ.get hR rfl (tf_1_28 hn) ?_
            refine lQ.loadN rfl rfl ?_
            refine lQ.loadI rfl rfl ?_
            obtain ⟨x7, hx, h1⟩ := bindC h1
            refine lQ.callVI (F := (fun y A => x7 = y ∧ A = tp ad s A0)) (G := fun _ _ => False) (args := [.ref (adr ad 1), .int v19]) (r := [.ref (adr ad 66)]) hR rfl rfl rfl (Nat.le_of_ble_eq_true rfl) (Nat.le_of_ble_eq_true rfl) rfl (tk_1 hn rfl) (ts_700 hR hn hx (cI_mk ⟨rfl, rfl⟩)) ?_ (fun _ _ _ z => z.elim)
            rintro _ _ ⟨rfl, rfl⟩
            obtain ⟨x8, hx, h1⟩ := bindC h1
            refine lQ.ald hR rfl (ta_66 hn hx) ?_
            obtain rfl := Option.some.inj h1
            exact lQ.retI rfl rfl hz
          · have e3 := hc
            rcases iteC h1 with ⟨hc, h1⟩ | ⟨hc, h1⟩
            · refine lQ.sw (j := 49) rfl (by unfold swT; rw [hc]; rfl) ?_
              refine lQ.loadN rfl rfl ?_
              refine lQ.get hR rfl (tf_1_29 hn) ?_
              refine lQ.loadN rfl rfl ?_
              refine lQ.loadI rfl rfl ?_
              obtain ⟨x5, hx, h1⟩ := bindC h1
              refine lQ.callVI (F := (fun y A => x5 = y ∧ A = tp ad s A0)) (G := fun _ _ => False) (args := [.ref (adr ad 1), .int v19]) (r := [.ref (adr ad 67)]) hR rfl rfl rfl (Nat.le_of_ble_eq_true rfl) (Nat.le_of_ble_eq_true rfl) rfl (tk_1 hn rfl) (ts_700 hR hn hx (cI_mk ⟨rfl, rfl⟩)) ?_ (fun _ _ _ z => z.elim)
              rintro _ _ ⟨rfl, rfl⟩
              obtain ⟨x6, hx, h1⟩ := bindC h1
              refine lQ.ald hR rfl (ta_67 hn hx) ?_
              obtain rfl := Option.some.inj h1
              exact lQ.retI rfl rfl hz
            · have e4 := hc
              refine lQ.sw (j := 56) rfl (swT_all ⟨Or.inr e0, ⟨Or.inr e1, ⟨Or.inr e2, ⟨Or.inr e3, ⟨Or.inr e4, trivial⟩⟩⟩⟩⟩) ?_
              refine lQ.loadN rfl rfl ?_
              refine lQ.loadI rfl rfl ?_
              obtain ⟨x4, hx, h1⟩ := bindC h1
              refine lQ.callVI (F := (fun y A => x4 = y ∧ A = tp ad s A0)) (G := fun _ _ => False) (args := [.ref (adr ad 1), .int v19]) (r := []) hR rfl rfl rfl (Nat.le_of_ble_eq_true rfl) (Nat.le_of_ble_eq_true rfl) rfl (tk_1 hn rfl) (ts_712 hR hn hx (cI_mk ⟨rfl, rfl⟩)) ?_ (fun _ _ _ z => z.elim)
              rintro _ _ ⟨rfl, rfl⟩
              obtain rfl := Option.some.inj h1
              exact lQ.retI rfl rfl hz
  refine lQ.sub (lSb rfl (lSb rfl (lSb rfl (lSb rfl (lSb rfl lSb0))))) (wh_run (P := fun p10 => lQ R E 3 cd_711 10 [(0, .ref (adr ad 1)), (3, .int v3), (4, .int v4), (5, .int p10.1), (6, .int p10.2)] [] (tp ad s A0) Z) hy1 ?_)
  intro p10 r2 hb2 hI2 hX2
  refine lQ.loadI rfl rfl ?_
  refine lQ.loadI rfl rfl ?_
  rcases iteC hb2 with ⟨hc, hb2⟩ | ⟨hc, hb2⟩
  · refine lQ.cmpF rfl (decide_eq_false (Int32.not_le.mpr hc)) ?_
    refine lQ.loadN rfl rfl ?_
    refine lQ.loadI rfl rfl ?_
    obtain ⟨x3, hx, hb2⟩ := bindC hb2
    refine lQ.callVI (F := (fun y A => x3 = y ∧ A = tp ad s A0)) (G := fun _ _ => False) (args := [.ref (adr ad 1), .int p10.1]) (r := []) hR rfl rfl rfl (Nat.le_of_ble_eq_true rfl) (Nat.le_of_ble_eq_true rfl) rfl (tk_1 hn rfl) (ts_699 hR hn hx (cI_mk ⟨rfl, rfl⟩)) ?_ (fun _ _ _ z => z.elim)
    rintro _ _ ⟨rfl, rfl⟩
    refine lQ.stI rfl (lN2s rfl rfl) ?_
    refine lQ.inc rfl rfl (lN2s rfl rfl) ?_
    refine lQ.goto rfl ?_
    obtain rfl := Option.some.inj hb2
    exact lQ.sub (lSb rfl (lSb rfl (lSb rfl (lSb rfl (lSb rfl lSb0))))) (hI2 _ rfl)
  · refine lQ.cmpT rfl (decide_eq_true (Int32.not_lt.mp hc)) ?_
    obtain rfl := Option.some.inj hb2
    obtain rfl := hX2 _ rfl
    exact lQ.sub (lSb rfl (lSb rfl (lSb rfl lSb0))) hJ1
theorem ts_566 {R : lAR} (hR : lRok R) {E : lE} {ad : List Nat} (hn : tOk ad) {v1 : Int32} {v2 : Int32} {v3 : Int32} {v4 : Int32} {s : TS} {A0 : lMem} {x : Int32 × TS} (h : t_566 v1 v2 v3 v4 s = some x) {Z : lZ} (hz : Z (.inl (some (.int x.1))) (tp ad x.2 A0)) : lSQ R E 5 566 [.ref (adr ad 0), .int v1, .int v2, .int v3, .int v4] (tp ad s A0) Z := by
  refine lQ.sq pg_566 (Nat.le_of_ble_eq_true rfl) rfl ?_
  unfold t_566 at h
  refine lQ.loadN rfl rfl ?_
  refine lQ.get hR rfl (tf_0_3 hn) ?_
  refine lQ.loadI rfl rfl ?_
  obtain ⟨x1, hx, h⟩ := bindC h
  refine lQ.callVI (F := (fun y A => x1 = y ∧ A = tp ad s A0)) (G := fun _ _ => False) (args := [.ref (adr ad 1), .int v1]) (r := []) hR rfl rfl rfl (Nat.le_of_ble_eq_true rfl) (Nat.le_of_ble_eq_true rfl) rfl (tk_1 hn rfl) (ts_708 hR hn hx (cI_mk ⟨rfl, rfl⟩)) ?_ (fun _ _ _ z => z.elim)
  rintro _ _ ⟨rfl, rfl⟩
  obtain ⟨v23, hy1, h1⟩ := bindC h
  have hJ1 : lQ R E 4 cd_566 23 [(0, .ref (adr ad 0)), (1, .int v1), (2, .int v2), (3, .int v3), (4, .int v4)] [.int v23] (tp ad s A0) Z := by
    refine lQ.stI rfl (lN2s rfl rfl) ?_
    refine lQ.loadN rfl rfl ?_
    refine lQ.loadI rfl rfl ?_
    refine lQ.loadN rfl rfl ?_
    refine lQ.get hR rfl (tf_0_3 hn) ?_
    refine lQ.get hR rfl (tf_1_10 hn) ?_
    obtain ⟨x4, hx, h1⟩ := bindC h1
    refine lQ.callVI (F := (fun y A => x4.1 = y ∧ A = tp ad x4.2 A0)) (G := fun _ _ => False) (args := [.ref (adr ad 0), .int v23, .int (s.1 110)]) (r := []) hR rfl rfl rfl (Nat.le_of_ble_eq_true rfl) (Nat.le_of_ble_eq_true rfl) rfl (tk_0 hn rfl) (ts_558 hR hn hx (cI_mk ⟨rfl, rfl⟩)) ?_ (fun _ _ _ z => z.elim)
    rintro _ _ ⟨rfl, rfl⟩
    rcases iteC h1 with ⟨hc, h1⟩ | ⟨hc, h1⟩
    · refine lQ.ifT rfl (decide_eq_true hc) ?_
      refine lQ.push rfl ?_
      obtain rfl := Option.some.inj h1
      exact lQ.retI rfl rfl hz
    · refine lQ.ifF rfl (decide_eq_false hc) ?_
      refine lQ.loadN rfl rfl ?_
      refine lQ.get hR rfl (tf_0_3 hn) ?_
      refine lQ.loadI rfl rfl ?_
      refine lQ.loadI rfl rfl ?_
      refine lQ.loadI rfl rfl ?_
      refine lQ.loadI rfl rfl ?_
      obtain ⟨x5, hx, h1⟩ := bindC h1
      refine lQ.callVI (F := (fun y A => x5 = y ∧ A = tp ad x4.2 A0)) (G := fun _ _ => False) (args := [.ref (adr ad 1), .int v1, .int v2, .int v3, .int v4]) (r := []) hR rfl rfl rfl (Nat.le_of_ble_eq_true rfl) (Nat.le_of_ble_eq_true rfl) rfl (tk_1 hn rfl) (ts_711 hR hn hx (cI_mk ⟨rfl, rfl⟩)) ?_ (fun _ _ _ z => z.elim)
      rintro _ _ ⟨rfl, rfl⟩
      refine lQ.goto rfl ?_
      obtain rfl := Option.some.inj h1
      exact lQ.retI rfl rfl hz
  rcases iteC hy1 with ⟨hc, hy1⟩ | ⟨hc, hy1⟩
  · refine lQ.ifT rfl (decide_eq_true hc) ?_
    refine lQ.push rfl ?_
    obtain rfl := Option.some.inj hy1
    exact lQ.sub (lSb rfl (lSb rfl (lSb rfl (lSb rfl (lSb rfl lSb0))))) hJ1
  · refine lQ.ifF rfl (decide_eq_false hc) ?_
    refine lQ.loadI rfl rfl ?_
    rcases iteC hy1 with ⟨hc, hy1⟩ | ⟨hc, hy1⟩
    · refine lQ.ifT rfl (decide_eq_true hc) ?_
      refine lQ.push rfl ?_
      obtain rfl := Option.some.inj hy1
      exact lQ.sub (lSb rfl (lSb rfl (lSb rfl (lSb rfl (lSb rfl lSb0))))) hJ1
    · refine lQ.ifF rfl (decide_eq_false hc) ?_
      refine lQ.loadI rfl rfl ?_
      rcases iteC hy1 with ⟨hc, hy1⟩ | ⟨hc, hy1⟩
      · refine lQ.ifT rfl (decide_eq_true hc) ?_
        refine lQ.push rfl ?_
        obtain rfl := Option.some.inj hy1
        exact lQ.sub (lSb rfl (lSb rfl (lSb rfl (lSb rfl (lSb rfl lSb0))))) hJ1
      · refine lQ.ifF rfl (decide_eq_false hc) ?_
        refine lQ.loadI rfl rfl ?_
        refine lQ.loadN rfl rfl ?_
        refine lQ.get hR rfl (tf_0_3 hn) ?_
        refine lQ.loadI rfl rfl ?_
        refine lQ.loadI rfl rfl ?_
        obtain ⟨x2, hx, hy1⟩ := bindC hy1
        refine lQ.callVI (F := (fun y A => x2 = y ∧ A = tp ad s A0)) (G := fun _ _ => False) (args := [.ref (adr ad 1), .int v1, .int v2]) (r := [.int v3]) hR rfl rfl rfl (Nat.le_of_ble_eq_true rfl) (Nat.le_of_ble_eq_true rfl) rfl (tk_1 hn rfl) (ts_709 hR hn hx (cI_mk ⟨rfl, rfl⟩)) ?_ (fun _ _ _ z => z.elim)
        rintro _ _ ⟨rfl, rfl⟩
        rcases iteC hy1 with ⟨hc, hy1⟩ | ⟨hc, hy1⟩
        · refine lQ.cmpF rfl (decide_eq_false (Int32.not_le.mpr hc)) ?_
          refine lQ.loadI rfl rfl ?_
          refine lQ.push rfl ?_
          obtain ⟨x3, hx, hy1⟩ := bindC hy1
          refine lQ.callI (F := (fun y A => x3 = y ∧ A = tp ad s A0)) (G := fun _ _ => False) (args := [.int v4, .int 6]) (r := []) hR rfl rfl rfl (Nat.le_of_ble_eq_true rfl) (Nat.le_of_ble_eq_true rfl) (ts_560 hR hn hx (cI_mk ⟨rfl, rfl⟩)) ?_ (fun _ _ _ z => z.elim)
          rintro _ _ ⟨rfl, rfl⟩
          rcases iteC hy1 with ⟨hc, hy1⟩ | ⟨hc, hy1⟩
          · refine lQ.ifT rfl (decide_eq_true hc) ?_
            refine lQ.push rfl ?_
            obtain rfl := Option.some.inj hy1
            exact lQ.sub (lSb rfl (lSb rfl (lSb rfl (lSb rfl (lSb rfl lSb0))))) hJ1
          · refine lQ.ifF rfl (decide_eq_false hc) ?_
            refine lQ.push rfl ?_
            refine lQ.goto rfl ?_
            obtain rfl := Option.some.inj hy1
            exact lQ.sub (lSb rfl (lSb rfl (lSb rfl (lSb rfl (lSb rfl lSb0))))) hJ1
        · refine lQ.cmpT rfl (decide_eq_true (Int32.not_lt.mp hc)) ?_
          refine lQ.push rfl ?_
          obtain rfl := Option.some.inj hy1
          exact lQ.sub (lSb rfl (lSb rfl (lSb rfl (lSb rfl (lSb rfl lSb0))))) hJ1
theorem ts_714 {R : lAR} (hR : lRok R) {E : lE} {ad : List Nat} (hn : tOk ad) {v1 : Int32} {s : TS} {A0 : lMem} {x : Int32} (h : t_714 v1 s = some x) {Z : lZ} (hz : Z (.inl (some (.int x))) (tp ad s A0)) : lSQ R E 1 714 [.ref (adr ad 1), .int v1] (tp ad s A0) Z := by
  refine lQ.sq pg_714 (Nat.le_of_ble_eq_true rfl) rfl ?_
  unfold t_714 at h
  refine lQ.loadN rfl rfl ?_
  refine lQ.get hR rfl (tf_1_32 hn) ?_
  refine lQ.loadI rfl rfl ?_
  refine lQ.push rfl ?_
  refine lQ.divI rfl (by decide) ?_
  obtain ⟨x1, hx, h⟩ := bindC h
  refine lQ.ald hR rfl (ta_69 hn hx) ?_
  refine lQ.stI rfl (lN2s rfl rfl) ?_
  refine lQ.loadN rfl rfl ?_
  refine lQ.get hR rfl (tf_1_33 hn) ?_
  refine lQ.loadI rfl rfl ?_
  refine lQ.push rfl ?_
  refine lQ.divI rfl (by decide) ?_
  obtain ⟨x2, hx, h⟩ := bindC h
  refine lQ.ald hR rfl (ta_70 hn hx) ?_
  refine lQ.stI rfl (lN2s rfl rfl) ?_
  refine lQ.loadN rfl rfl ?_
  refine lQ.get hR rfl (tf_1_28 hn) ?_
  refine lQ.loadI rfl rfl ?_
  obtain ⟨x3, hx, h⟩ := bindC h
  refine lQ.ald hR rfl (ta_66 hn hx) ?_
  refine lQ.loadN rfl rfl ?_
  refine lQ.get hR rfl (tf_1_28 hn) ?_
  refine lQ.loadI rfl rfl ?_
  obtain ⟨x4, hx, h⟩ := bindC h
  refine lQ.ald hR rfl (ta_66 hn hx) ?_
  refine lQ.binI rfl ?_
  refine lQ.loadN rfl rfl ?_
  refine lQ.get hR rfl (tf_1_29 hn) ?_
  refine lQ.loadI rfl rfl ?_
  obtain ⟨x5, hx, h⟩ := bindC h
  refine lQ.ald hR rfl (ta_67 hn hx) ?_
  refine lQ.binI rfl ?_
  refine lQ.loadN rfl rfl ?_
  refine lQ.get hR rfl (tf_1_29 hn) ?_
  refine lQ.loadI rfl rfl ?_
  obtain ⟨x6, hx, h⟩ := bindC h
  refine lQ.ald hR rfl (ta_67 hn hx) ?_
  refine lQ.binI rfl ?_
  obtain rfl := Option.some.inj h
  exact lQ.retI rfl rfl hz
theorem ts_715 {R : lAR} (hR : lRok R) {E : lE} {ad : List Nat} (hn : tOk ad) {v1 : Int32} {s : TS} {A0 : lMem} {x : Int32} (h : t_715 v1 s = some x) {Z : lZ} (hz : Z (.inl (some (.int x))) (tp ad s A0)) : lSQ R E 3 715 [.ref (adr ad 1), .int v1] (tp ad s A0) Z := by
  refine lQ.sq pg_715 (Nat.le_of_ble_eq_true rfl) rfl ?_
  unfold t_715 at h
  refine lQ.push rfl ?_
  refine lQ.stI rfl (lN2s rfl rfl) ?_
  refine lQ.push rfl ?_
  refine lQ.stI rfl (lN2s rfl rfl) ?_
  obtain ⟨v24, hy1, h1⟩ := bindC h
  have hJ1 : lQ R E 2 cd_715 24 [(2, .int v24)] [] (tp ad s A0) Z := by
    refine lQ.loadI rfl rfl ?_
    obtain rfl := Option.some.inj h1
    exact lQ.retI rfl rfl hz
  refine lQ.sub (lSb rfl (lSb rfl (lSb rfl (lSb rfl lSb0)))) (wh_run (P := fun p4 => lQ R E 2 cd_715 4 [(0, .ref (adr ad 1)), (1, .int v1), (2, .int p4.1), (3, .int p4.2)] [] (tp ad s A0) Z) hy1 ?_)
  intro p4 r2 hb2 hI2 hX2
  refine lQ.loadI rfl rfl ?_
  refine lQ.loadN rfl rfl ?_
  refine lQ.get hR rfl (tf_1_35 hn) ?_
  rcases iteC hb2 with ⟨hc, hb2⟩ | ⟨hc, hb2⟩
  · refine lQ.cmpF rfl (decide_eq_false (Int32.not_le.mpr hc)) ?_
    refine lQ.loadI rfl rfl ?_
    refine lQ.loadN rfl rfl ?_
    refine lQ.loadN rfl rfl ?_
    refine lQ.get hR rfl (tf_1_36 hn) ?_
    refine lQ.loadI rfl rfl ?_
    obtain ⟨x1, hx, hb2⟩ := bindC hb2
    refine lQ.ald hR rfl (ta_72 hn hx) ?_
    obtain ⟨x2, hx, hb2⟩ := bindC hb2
    refine lQ.callVI (F := (fun y A => x2 = y ∧ A = tp ad s A0)) (G := fun _ _ => False) (args := [.ref (adr ad 1), .int x1]) (r := [.int p4.1]) hR rfl rfl rfl (Nat.le_of_ble_eq_true rfl) (Nat.le_of_ble_eq_true rfl) rfl (tk_1 hn rfl) (ts_702 hR hn hx (cI_mk ⟨rfl, rfl⟩)) ?_ (fun _ _ _ z => z.elim)
    rintro _ _ ⟨rfl, rfl⟩
    refine lQ.loadI rfl rfl ?_
    obtain ⟨v20, hy3, h3⟩ := bindC hb2
    have hJ3 : lQ R E 2 cd_715 20 [(0, .ref (adr ad 1)), (1, .int v1), (3, .int p4.2)] [.int v20, .int p4.1] (tp ad s A0) Z := by
      refine lQ.binI rfl ?_
      refine lQ.stI rfl (lN2s rfl rfl) ?_
      refine lQ.inc rfl rfl (lN2s rfl rfl) ?_
      refine lQ.goto rfl ?_
      obtain rfl := Option.some.inj h3
      exact lQ.sub (lSb rfl (lSb rfl (lSb rfl (lSb rfl lSb0)))) (hI2 _ rfl)
    rcases iteC hy3 with ⟨hc, hy3⟩ | ⟨hc, hy3⟩
    · refine lQ.cmpF rfl (decide_eq_false (fun z => z hc)) ?_
      refine lQ.push rfl ?_
      refine lQ.goto rfl ?_
      obtain rfl := Option.some.inj hy3
      exact lQ.sub (lSb rfl (lSb rfl (lSb rfl lSb0))) hJ3
    · refine lQ.cmpT rfl (decide_eq_true hc) ?_
      refine lQ.push rfl ?_
      obtain rfl := Option.some.inj hy3
      exact lQ.sub (lSb rfl (lSb rfl (lSb rfl lSb0))) hJ3
  · refine lQ.cmpT rfl (decide_eq_true (Int32.not_lt.mp hc)) ?_
    obtain rfl := Option.some.inj hb2
    obtain rfl := hX2 _ rfl
    exact lQ.sub (lSb rfl lSb0) hJ1
theorem ts_713 {R : lAR} (hR : lRok R) {E : lE} {ad : List Nat} (hn : tOk ad) {v1 : Int32} {v2 : Int32} {s : TS} {A0 : lMem} {x : Int32} (h : t_713 v1 v2 s = some x) {Z : lZ} (hz : Z (.inl (some (.int x))) (tp ad s A0)) : lSQ R E 4 713 [.ref (adr ad 1), .int v1, .int v2] (tp ad s A0) Z := by
  refine lQ.sq pg_713 (Nat.le_of_ble_eq_true rfl) rfl ?_
  unfold t_713 at h
  refine lQ.push rfl ?_
  refine lQ.stI rfl (lN2s rfl rfl) ?_
  refine lQ.push rfl ?_
  refine lQ.stI rfl (lN2s rfl rfl) ?_
  obtain ⟨v56, hy1, h1⟩ := bindC h
  have hJ1 : lQ R E 3 cd_713 56 [(0, .ref (adr ad 1)), (1, .int v1), (2, .int v2), (3, .int v56)] [] (tp ad s A0) Z := by
    refine lQ.push rfl ?_
    refine lQ.stI rfl (lN2s rfl rfl) ?_
    refine lQ.push rfl ?_
    refine lQ.stI rfl (lN2s rfl rfl) ?_
    obtain ⟨v81, hy2, h2⟩ := bindC h1
    have hJ2 : lQ R E 3 cd_713 81 [(0, .ref (adr ad 1)), (1, .int v1), (2, .int v2), (3, .int v56), (4, .int v81)] [] (tp ad s A0) Z := by
      refine lQ.loadI rfl rfl ?_
      rcases iteC h2 with ⟨hc, h2⟩ | ⟨hc, h2⟩
      · refine lQ.ifF rfl (decide_eq_false (fun z => z hc)) ?_
        refine lQ.loadI rfl rfl ?_
        refine lQ.goto rfl ?_
        obtain rfl := Option.some.inj h2
        exact lQ.retI rfl rfl hz
      · refine lQ.ifT rfl (decide_eq_true hc) ?_
        refine lQ.loadI rfl rfl ?_
        refine lQ.push rfl ?_
        rcases iteC h2 with ⟨hc, h2⟩ | ⟨hc, h2⟩
        · refine lQ.cmpF rfl (decide_eq_false (fun z => z hc)) ?_
          refine lQ.loadI rfl rfl ?_
          refine lQ.goto rfl ?_
          obtain rfl := Option.some.inj h2
          exact lQ.retI rfl rfl hz
        · refine lQ.cmpT rfl (decide_eq_true hc) ?_
          refine lQ.loadN rfl rfl ?_
          refine lQ.loadI rfl rfl ?_
          obtain ⟨x8, hx, h2⟩ := bindC h2
          refine lQ.callVI (F := (fun y A => x8 = y ∧ A = tp ad s A0)) (G := fun _ _ => False) (args := [.ref (adr ad 1), .int v1]) (r := []) hR rfl rfl rfl (Nat.le_of_ble_eq_true rfl) (Nat.le_of_ble_eq_true rfl) rfl (tk_1 hn rfl) (ts_715 hR hn hx (cI_mk ⟨rfl, rfl⟩)) ?_ (fun _ _ _ z => z.elim)
          rintro _ _ ⟨rfl, rfl⟩
          obtain rfl := Option.some.inj h2
          exact lQ.retI rfl rfl hz
    refine lQ.sub (lSb rfl (lSb rfl (lSb rfl (lSb rfl (lSb rfl (lSb rfl lSb0)))))) (wh_run (P := fun p60 => lQ R E 3 cd_713 60 [(0, .ref (adr ad 1)), (1, .int v1), (2, .int v2), (3, .int v56), (4, .int p60.1), (5, .int p60.2)] [] (tp ad s A0) Z) hy2 ?_)
    intro p60 r3 hb3 hI3 hX3
    refine lQ.loadI rfl rfl ?_
    refine lQ.push rfl ?_
    refine lQ.loadN rfl rfl ?_
    refine lQ.get hR rfl (tf_1_30 hn) ?_
    refine lQ.binI rfl ?_
    rcases iteC hb3 with ⟨hc, hb3⟩ | ⟨hc, hb3⟩
    · refine lQ.cmpF rfl (decide_eq_false (Int32.not_le.mpr hc)) ?_
      refine lQ.loadI rfl rfl ?_
      refine lQ.loadN rfl rfl ?_
      refine lQ.loadI rfl rfl ?_
      obtain ⟨x6, hx, hb3⟩ := bindC hb3
      refine lQ.callVI (F := (fun y A => x6 = y ∧ A = tp ad s A0)) (G := fun _ _ => False) (args := [.ref (adr ad 1), .int p60.2]) (r := [.int p60.1]) hR rfl rfl rfl (Nat.le_of_ble_eq_true rfl) (Nat.le_of_ble_eq_true rfl) rfl (tk_1 hn rfl) (ts_702 hR hn hx (cI_mk ⟨rfl, rfl⟩)) ?_ (fun _ _ _ z => z.elim)
      rintro _ _ ⟨rfl, rfl⟩
      refine lQ.loadI rfl rfl ?_
      obtain ⟨v77, hy4, h4⟩ := bindC hb3
      have hJ4 : lQ R E 3 cd_713 77 [(0, .ref (adr ad 1)), (1, .int v1), (2, .int v2), (3, .int v56), (5, .int p60.2)] [.int v77, .int p60.1] (tp ad s A0) Z := by
        refine lQ.binI rfl ?_
        refine lQ.stI rfl (lN2s rfl rfl) ?_
        refine lQ.inc rfl rfl (lN2s rfl rfl) ?_
        refine lQ.goto rfl ?_
        obtain rfl := Option.some.inj h4
        exact lQ.sub (lSb rfl (lSb rfl (lSb rfl (lSb rfl (lSb rfl (lSb rfl lSb0)))))) (hI3 _ rfl)
      rcases iteC hy4 with ⟨hc, hy4⟩ | ⟨hc, hy4⟩
      · refine lQ.cmpF rfl (decide_eq_false (fun z => z hc)) ?_
        refine lQ.loadN rfl rfl ?_
        refine lQ.loadI rfl rfl ?_
        obtain ⟨x7, hx, hy4⟩ := bindC hy4
        refine lQ.callVI (F := (fun y A => x7 = y ∧ A = tp ad s A0)) (G := fun _ _ => False) (args := [.ref (adr ad 1), .int p60.2]) (r := [.int p60.1]) hR rfl rfl rfl (Nat.le_of_ble_eq_true rfl) (Nat.le_of_ble_eq_true rfl) rfl (tk_1 hn rfl) (ts_714 hR hn hx (cI_mk ⟨rfl, rfl⟩)) ?_ (fun _ _ _ z => z.elim)
        rintro _ _ ⟨rfl, rfl⟩
        refine lQ.goto rfl ?_
        obtain rfl := Option.some.inj hy4
        exact lQ.sub (lSb rfl (lSb rfl (lSb rfl (lSb rfl (lSb rfl lSb0))))) hJ4
      · refine lQ.cmpT rfl (decide_eq_true hc) ?_
        refine lQ.push rfl ?_
        obtain rfl := Option.some.inj hy4
        exact lQ.sub (lSb rfl (lSb rfl (lSb rfl (lSb rfl (lSb rfl lSb0))))) hJ4
    · refine lQ.cmpT rfl (decide_eq_true (Int32.not_lt.mp hc)) ?_
      obtain rfl := Option.some.inj hb3
      obtain rfl := hX3 _ rfl
      exact lQ.sub (lSb rfl (lSb rfl (lSb rfl (lSb rfl (lSb rfl lSb0))))) hJ2
  refine lQ.sub (lSb rfl (lSb rfl (lSb rfl (lSb rfl (lSb rfl lSb0))))) (wh_run (P := fun p4 => lQ R E 3 cd_713 4 [(0, .ref (adr ad 1)), (1, .int v1), (2, .int v2), (3, .int p4.1), (4, .int p4.2)] [] (tp ad s A0) Z) hy1 ?_)
  intro p4 r5 hb5 hI5 hX5
  refine lQ.loadI rfl rfl ?_
  refine lQ.loadN rfl rfl ?_
  refine lQ.get hR rfl (tf_1_13 hn) ?_
  rcases iteC hb5 with ⟨hc, hb5⟩ | ⟨hc, hb5⟩
  · refine lQ.cmpF rfl (decide_eq_false (Int32.not_le.mpr hc)) ?_
    refine lQ.push rfl ?_
    refine lQ.stI rfl (lN2s rfl rfl) ?_
    obtain ⟨v54, hy6, h6⟩ := bindC hb5
    have hJ6 : lQ R E 3 cd_713 54 [(0, .ref (adr ad 1)), (1, .int v1), (2, .int v2), (3, .int v54), (4, .int p4.2)] [] (tp ad s A0) Z := by
      refine lQ.inc rfl rfl (lN2s rfl rfl) ?_
      refine lQ.goto rfl ?_
      obtain rfl := Option.some.inj h6
      exact lQ.sub (lSb rfl (lSb rfl (lSb rfl (lSb rfl (lSb rfl lSb0))))) (hI5 _ rfl)
    refine lQ.sub (lSb rfl (lSb rfl (lSb rfl (lSb rfl (lSb rfl (lSb rfl lSb0)))))) (wh_run (P := fun p10 => lQ R E 3 cd_713 10 [(0, .ref (adr ad 1)), (1, .int v1), (2, .int v2), (3, .int p10.1), (4, .int p4.2), (5, .int p10.2)] [] (tp ad s A0) Z) hy6 ?_)
    intro p10 r7 hb7 hI7 hX7
    refine lQ.loadI rfl rfl ?_
    refine lQ.loadN rfl rfl ?_
    refine lQ.get hR rfl (tf_1_12 hn) ?_
    rcases iteC hb7 with ⟨hc, hb7⟩ | ⟨hc, hb7⟩
    · refine lQ.cmpF rfl (decide_eq_false (Int32.not_le.mpr hc)) ?_
      refine lQ.loadI rfl rfl ?_
      refine lQ.loadN rfl rfl ?_
      refine lQ.get hR rfl (tf_1_16 hn) ?_
      refine lQ.push rfl ?_
      refine lQ.loadI rfl rfl ?_
      refine lQ.binI rfl ?_
      refine lQ.loadI rfl rfl ?_
      refine lQ.binI rfl ?_
      obtain ⟨x1, hx, hb7⟩ := bindC hb7
      refine lQ.ald hR rfl (ta_60 hn hx) ?_
      refine lQ.loadI rfl rfl ?_
      obtain ⟨v50, hy8, h8⟩ := bindC hb7
      have hJ8 : lQ R E 3 cd_713 50 [(0, .ref (adr ad 1)), (1, .int v1), (2, .int v2), (4, .int p4.2), (5, .int p10.2)] [.int v50, .int p10.1] (tp ad s A0) Z := by
        refine lQ.binI rfl ?_
        refine lQ.stI rfl (lN2s rfl rfl) ?_
        refine lQ.inc rfl rfl (lN2s rfl rfl) ?_
        refine lQ.goto rfl ?_
        obtain rfl := Option.some.inj h8
        exact lQ.sub (lSb rfl (lSb rfl (lSb rfl (lSb rfl (lSb rfl (lSb rfl lSb0)))))) (hI7 _ rfl)
      rcases iteC hy8 with ⟨hc, hy8⟩ | ⟨hc, hy8⟩
      · refine lQ.cmpF rfl (decide_eq_false (fun z => z hc)) ?_
        refine lQ.loadN rfl rfl ?_
        refine lQ.get hR rfl (tf_1_14 hn) ?_
        refine lQ.loadI rfl rfl ?_
        obtain ⟨x2, hx, hy8⟩ := bindC hy8
        refine lQ.ald hR rfl (ta_58 hn hx) ?_
        refine lQ.loadN rfl rfl ?_
        refine lQ.get hR rfl (tf_1_14 hn) ?_
        refine lQ.loadI rfl rfl ?_
        refine lQ.push rfl ?_
        refine lQ.binI rfl ?_
        obtain ⟨x3, hx, hy8⟩ := bindC hy8
        refine lQ.ald hR rfl (ta_58 hn hx) ?_
        refine lQ.binI rfl ?_
        refine lQ.loadN rfl rfl ?_
        refine lQ.get hR rfl (tf_1_15 hn) ?_
        refine lQ.loadI rfl rfl ?_
        obtain ⟨x4, hx, hy8⟩ := bindC hy8
        refine lQ.ald hR rfl (ta_59 hn hx) ?_
        refine lQ.loadN rfl rfl ?_
        refine lQ.get hR rfl (tf_1_15 hn) ?_
        refine lQ.loadI rfl rfl ?_
        refine lQ.push rfl ?_
        refine lQ.binI rfl ?_
        obtain ⟨x5, hx, hy8⟩ := bindC hy8
        refine lQ.ald hR rfl (ta_59 hn hx) ?_
        refine lQ.binI rfl ?_
        refine lQ.binI rfl ?_
        refine lQ.goto rfl ?_
        obtain rfl := Option.some.inj hy8
        exact lQ.sub (lSb rfl (lSb rfl (lSb rfl (lSb rfl (lSb rfl lSb0))))) hJ8
      · refine lQ.cmpT rfl (decide_eq_true hc) ?_
        refine lQ.push rfl ?_
        obtain rfl := Option.some.inj hy8
        exact lQ.sub (lSb rfl (lSb rfl (lSb rfl (lSb rfl (lSb rfl lSb0))))) hJ8
    · refine lQ.cmpT rfl (decide_eq_true (Int32.not_lt.mp hc)) ?_
      obtain rfl := Option.some.inj hb7
      obtain rfl := hX7 _ rfl
      exact lQ.sub (lSb rfl (lSb rfl (lSb rfl (lSb rfl (lSb rfl lSb0))))) hJ6
  · refine lQ.cmpT rfl (decide_eq_true (Int32.not_lt.mp hc)) ?_
    obtain rfl := Option.some.inj hb5
    obtain rfl := hX5 _ rfl
    exact lQ.sub (lSb rfl (lSb rfl (lSb rfl (lSb rfl lSb0)))) hJ1
theorem ts_567 {R : lAR} (hR : lRok R) {E : lE} {ad : List Nat} (hn : tOk ad) {v1 : Int32} {v2 : Int32} {s : TS} {A0 : lMem} {x : Int32 × TS} (h : t_567 v1 v2 s = some x) {Z : lZ} (hz : Z (.inl (some (.int x.1))) (tp ad x.2 A0)) : lSQ R E 5 567 [.ref (adr ad 0), .int v1, .int v2] (tp ad s A0) Z := by
  refine lQ.sq pg_567 (Nat.le_of_ble_eq_true rfl) rfl ?_
  unfold t_567 at h
  refine lQ.loadN rfl rfl ?_
  refine lQ.loadN rfl rfl ?_
  refine lQ.get hR rfl (tf_0_3 hn) ?_
  refine lQ.loadI rfl rfl ?_
  obtain ⟨x1, hx, h⟩ := bindC h
  refine lQ.callVI (F := (fun y A => x1 = y ∧ A = tp ad s A0)) (G := fun _ _ => False) (args := [.ref (adr ad 1), .int v1]) (r := [.ref (adr ad 0)]) hR rfl rfl rfl (Nat.le_of_ble_eq_true rfl) (Nat.le_of_ble_eq_true rfl) rfl (tk_1 hn rfl) (ts_708 hR hn hx (cI_mk ⟨rfl, rfl⟩)) ?_ (fun _ _ _ z => z.elim)
  rintro _ _ ⟨rfl, rfl⟩
  obtain ⟨v13, hy1, h1⟩ := bindC h
  have hJ1 : lQ R E 4 cd_567 13 [(0, .ref (adr ad 0)), (1, .int v1), (2, .int v2)] [.int v13, .ref (adr ad 0)] (tp ad s A0) Z := by
    refine lQ.loadN rfl rfl ?_
    refine lQ.get hR rfl (tf_0_3 hn) ?_
    refine lQ.get hR rfl (tf_1_10 hn) ?_
    obtain ⟨x3, hx, h1⟩ := bindC h1
    refine lQ.callVI (F := (fun y A => x3.1 = y ∧ A = tp ad x3.2 A0)) (G := fun _ _ => False) (args := [.ref (adr ad 0), .int v13, .int (s.1 110)]) (r := []) hR rfl rfl rfl (Nat.le_of_ble_eq_true rfl) (Nat.le_of_ble_eq_true rfl) rfl (tk_0 hn rfl) (ts_558 hR hn hx (cI_mk ⟨rfl, rfl⟩)) ?_ (fun _ _ _ z => z.elim)
    rintro _ _ ⟨rfl, rfl⟩
    rcases iteC h1 with ⟨hc, h1⟩ | ⟨hc, h1⟩
    · refine lQ.ifT rfl (decide_eq_true hc) ?_
      refine lQ.push rfl ?_
      obtain rfl := Option.some.inj h1
      exact lQ.retI rfl rfl hz
    · refine lQ.ifF rfl (decide_eq_false hc) ?_
      refine lQ.loadN rfl rfl ?_
      refine lQ.get hR rfl (tf_0_3 hn) ?_
      refine lQ.loadI rfl rfl ?_
      refine lQ.loadI rfl rfl ?_
      obtain ⟨x4, hx, h1⟩ := bindC h1
      refine lQ.callVI (F := (fun y A => x4 = y ∧ A = tp ad x3.2 A0)) (G := fun _ _ => False) (args := [.ref (adr ad 1), .int v1, .int v2]) (r := []) hR rfl rfl rfl (Nat.le_of_ble_eq_true rfl) (Nat.le_of_ble_eq_true rfl) rfl (tk_1 hn rfl) (ts_713 hR hn hx (cI_mk ⟨rfl, rfl⟩)) ?_ (fun _ _ _ z => z.elim)
      rintro _ _ ⟨rfl, rfl⟩
      refine lQ.goto rfl ?_
      obtain rfl := Option.some.inj h1
      exact lQ.retI rfl rfl hz
  rcases iteC hy1 with ⟨hc, hy1⟩ | ⟨hc, hy1⟩
  · refine lQ.ifT rfl (decide_eq_true hc) ?_
    refine lQ.push rfl ?_
    obtain rfl := Option.some.inj hy1
    exact lQ.sub (lSb rfl (lSb rfl (lSb rfl lSb0))) hJ1
  · refine lQ.ifF rfl (decide_eq_false hc) ?_
    refine lQ.loadI rfl rfl ?_
    refine lQ.push rfl ?_
    obtain ⟨x2, hx, hy1⟩ := bindC hy1
    refine lQ.callI (F := (fun y A => x2 = y ∧ A = tp ad s A0)) (G := fun _ _ => False) (args := [.int v2, .int 3]) (r := [.ref (adr ad 0)]) hR rfl rfl rfl (Nat.le_of_ble_eq_true rfl) (Nat.le_of_ble_eq_true rfl) (ts_560 hR hn hx (cI_mk ⟨rfl, rfl⟩)) ?_ (fun _ _ _ z => z.elim)
    rintro _ _ ⟨rfl, rfl⟩
    rcases iteC hy1 with ⟨hc, hy1⟩ | ⟨hc, hy1⟩
    · refine lQ.ifT rfl (decide_eq_true hc) ?_
      refine lQ.push rfl ?_
      obtain rfl := Option.some.inj hy1
      exact lQ.sub (lSb rfl (lSb rfl (lSb rfl lSb0))) hJ1
    · refine lQ.ifF rfl (decide_eq_false hc) ?_
      refine lQ.push rfl ?_
      refine lQ.goto rfl ?_
      obtain rfl := Option.some.inj hy1
      exact lQ.sub (lSb rfl (lSb rfl (lSb rfl lSb0))) hJ1
theorem ts_569 {R : lAR} (hR : lRok R) {E : lE} {ad : List Nat} (hn : tOk ad) {v0 : Int32} {v1 : Int32} {s : TS} {A0 : lMem} {x : Int32} (h : t_569 v0 v1 s = some x) {Z : lZ} (hz : Z (.inl (some (.int x))) (tp ad s A0)) : lSQ R E 2 569 [.int v0, .int v1] (tp ad s A0) Z := by
  refine lQ.sq pg_569 (Nat.le_of_ble_eq_true rfl) rfl ?_
  unfold t_569 at h
  refine lQ.loadI rfl rfl ?_
  refine lQ.push rfl ?_
  obtain ⟨x1, hx, h⟩ := bindC h
  refine lQ.callI (F := (fun y A => x1 = y ∧ A = tp ad s A0)) (G := fun _ _ => False) (args := [.int v0, .int 24]) (r := []) hR rfl rfl rfl (Nat.le_of_ble_eq_true rfl) (Nat.le_of_ble_eq_true rfl) (ts_560 hR hn hx (cI_mk ⟨rfl, rfl⟩)) ?_ (fun _ _ _ z => z.elim)
  rintro _ _ ⟨rfl, rfl⟩
  rcases iteC h with ⟨hc, h⟩ | ⟨hc, h⟩
  · refine lQ.ifT rfl (decide_eq_true hc) ?_
    refine lQ.push rfl ?_
    obtain rfl := Option.some.inj h
    exact lQ.retI rfl rfl hz
  · refine lQ.ifF rfl (decide_eq_false hc) ?_
    refine lQ.loadI rfl rfl ?_
    refine lQ.push rfl ?_
    obtain ⟨x2, hx, h⟩ := bindC h
    refine lQ.callI (F := (fun y A => x2 = y ∧ A = tp ad s A0)) (G := fun _ _ => False) (args := [.int v1, .int 24]) (r := []) hR rfl rfl rfl (Nat.le_of_ble_eq_true rfl) (Nat.le_of_ble_eq_true rfl) (ts_560 hR hn hx (cI_mk ⟨rfl, rfl⟩)) ?_ (fun _ _ _ z => z.elim)
    rintro _ _ ⟨rfl, rfl⟩
    rcases iteC h with ⟨hc, h⟩ | ⟨hc, h⟩
    · refine lQ.ifT rfl (decide_eq_true hc) ?_
      refine lQ.push rfl ?_
      obtain rfl := Option.some.inj h
      exact lQ.retI rfl rfl hz
    · refine lQ.ifF rfl (decide_eq_false hc) ?_
      refine lQ.push rfl ?_
      refine lQ.goto rfl ?_
      obtain rfl := Option.some.inj h
      exact lQ.retI rfl rfl hz
theorem ts_716 {R : lAR} (hR : lRok R) {E : lE} {ad : List Nat} (hn : tOk ad) {v1 : Int32} {v2 : Int32} {s : TS} {A0 : lMem} {x : Int32} (h : t_716 v1 v2 s = some x) {Z : lZ} (hz : Z (.inl (some (.int x))) (tp ad s A0)) : lSQ R E 1 716 [.ref (adr ad 1), .int v1, .int v2] (tp ad s A0) Z := by
  refine lQ.sq pg_716 (Nat.le_of_ble_eq_true rfl) rfl ?_
  unfold t_716 at h
  refine lQ.push rfl ?_
  refine lQ.stI rfl (lN2s rfl rfl) ?_
  obtain ⟨v14, hy1, h1⟩ := bindC h
  have hJ1 : lQ R E 0 cd_716 14 [(0, .ref (adr ad 1)), (2, .int v2), (3, .int v14)] [] (tp ad s A0) Z := by
    refine lQ.push rfl ?_
    refine lQ.stI rfl (lN2s rfl rfl) ?_
    obtain ⟨v28, hy2, h2⟩ := bindC h1
    have hJ2 : lQ R E 0 cd_716 28 [(0, .ref (adr ad 1)), (3, .int v14), (4, .int v28)] [] (tp ad s A0) Z := by
      refine lQ.loadN rfl rfl ?_
      refine lQ.get hR rfl (tf_1_16 hn) ?_
      refine lQ.push rfl ?_
      refine lQ.loadI rfl rfl ?_
      refine lQ.binI rfl ?_
      refine lQ.loadI rfl rfl ?_
      refine lQ.binI rfl ?_
      obtain ⟨x3, hx, h2⟩ := bindC h2
      refine lQ.ald hR rfl (ta_60 hn hx) ?_
      obtain rfl := Option.some.inj h2
      exact lQ.retI rfl rfl hz
    refine lQ.sub (lSb rfl (lSb rfl (lSb rfl (lSb rfl lSb0)))) (wh_run (P := fun p16 => lQ R E 0 cd_716 16 [(0, .ref (adr ad 1)), (2, .int v2), (3, .int v14), (4, .int p16)] [] (tp ad s A0) Z) hy2 ?_)
    intro p16 r3 hb3 hI3 hX3
    refine lQ.loadI rfl rfl ?_
    refine lQ.loadN rfl rfl ?_
    refine lQ.get hR rfl (tf_1_13 hn) ?_
    rcases iteC hb3 with ⟨hc, hb3⟩ | ⟨hc, hb3⟩
    · refine lQ.cmpF rfl (decide_eq_false (Int32.not_le.mpr hc)) ?_
      refine lQ.loadN rfl rfl ?_
      refine lQ.get hR rfl (tf_1_15 hn) ?_
      refine lQ.loadI rfl rfl ?_
      obtain ⟨x2, hx, hb3⟩ := bindC hb3
      refine lQ.ald hR rfl (ta_59 hn hx) ?_
      refine lQ.loadI rfl rfl ?_
      rcases iteC hb3 with ⟨hc, hb3⟩ | ⟨hc, hb3⟩
      · refine lQ.cmpT rfl (decide_eq_true hc) ?_
        obtain rfl := Option.some.inj hb3
        obtain rfl := hX3 _ rfl
        exact lQ.sub (lSb rfl (lSb rfl (lSb rfl lSb0))) hJ2
      · refine lQ.cmpF rfl (decide_eq_false hc) ?_
        refine lQ.inc rfl rfl (lN2s rfl rfl) ?_
        refine lQ.goto rfl ?_
        obtain rfl := Option.some.inj hb3
        exact lQ.sub (lSb rfl (lSb rfl (lSb rfl (lSb rfl lSb0)))) (hI3 _ rfl)
    · refine lQ.cmpT rfl (decide_eq_true (Int32.not_lt.mp hc)) ?_
      obtain rfl := Option.some.inj hb3
      obtain rfl := hX3 _ rfl
      exact lQ.sub (lSb rfl (lSb rfl (lSb rfl lSb0))) hJ2
  refine lQ.sub (lSb rfl (lSb rfl (lSb rfl (lSb rfl lSb0)))) (wh_run (P := fun p2 => lQ R E 0 cd_716 2 [(0, .ref (adr ad 1)), (1, .int v1), (2, .int v2), (3, .int p2)] [] (tp ad s A0) Z) hy1 ?_)
  intro p2 r4 hb4 hI4 hX4
  refine lQ.loadI rfl rfl ?_
  refine lQ.loadN rfl rfl ?_
  refine lQ.get hR rfl (tf_1_12 hn) ?_
  rcases iteC hb4 with ⟨hc, hb4⟩ | ⟨hc, hb4⟩
  · refine lQ.cmpF rfl (decide_eq_false (Int32.not_le.mpr hc)) ?_
    refine lQ.loadN rfl rfl ?_
    refine lQ.get hR rfl (tf_1_14 hn) ?_
    refine lQ.loadI rfl rfl ?_
    obtain ⟨x1, hx, hb4⟩ := bindC hb4
    refine lQ.ald hR rfl (ta_58 hn hx) ?_
    refine lQ.loadI rfl rfl ?_
    rcases iteC hb4 with ⟨hc, hb4⟩ | ⟨hc, hb4⟩
    · refine lQ.cmpT rfl (decide_eq_true hc) ?_
      obtain rfl := Option.some.inj hb4
      obtain rfl := hX4 _ rfl
      exact lQ.sub (lSb rfl (lSb rfl (lSb rfl lSb0))) hJ1
    · refine lQ.cmpF rfl (decide_eq_false hc) ?_
      refine lQ.inc rfl rfl (lN2s rfl rfl) ?_
      refine lQ.goto rfl ?_
      obtain rfl := Option.some.inj hb4
      exact lQ.sub (lSb rfl (lSb rfl (lSb rfl (lSb rfl lSb0)))) (hI4 _ rfl)
  · refine lQ.cmpT rfl (decide_eq_true (Int32.not_lt.mp hc)) ?_
    obtain rfl := Option.some.inj hb4
    obtain rfl := hX4 _ rfl
    exact lQ.sub (lSb rfl (lSb rfl (lSb rfl lSb0))) hJ1
theorem ts_568 {R : lAR} (hR : lRok R) {E : lE} {ad : List Nat} (hn : tOk ad) {v1 : Int32} {v2 : Int32} {s : TS} {A0 : lMem} {x : Int32 × TS} (h : t_568 v1 v2 s = some x) {Z : lZ} (hz : Z (.inl (some (.int x.1))) (tp ad x.2 A0)) : lSQ R E 3 568 [.ref (adr ad 0), .int v1, .int v2] (tp ad s A0) Z := by
  refine lQ.sq pg_568 (Nat.le_of_ble_eq_true rfl) rfl ?_
  unfold t_568 at h
  refine lQ.loadN rfl rfl ?_
  refine lQ.loadI rfl rfl ?_
  refine lQ.loadI rfl rfl ?_
  obtain ⟨x1, hx, h⟩ := bindC h
  refine lQ.callI (F := (fun y A => x1 = y ∧ A = tp ad s A0)) (G := fun _ _ => False) (args := [.int v1, .int v2]) (r := [.ref (adr ad 0)]) hR rfl rfl rfl (Nat.le_of_ble_eq_true rfl) (Nat.le_of_ble_eq_true rfl) (ts_569 hR hn hx (cI_mk ⟨rfl, rfl⟩)) ?_ (fun _ _ _ z => z.elim)
  rintro _ _ ⟨rfl, rfl⟩
  refine lQ.loadN rfl rfl ?_
  refine lQ.get hR rfl (tf_0_3 hn) ?_
  refine lQ.get hR rfl (tf_1_10 hn) ?_
  obtain ⟨x2, hx, h⟩ := bindC h
  refine lQ.callVI (F := (fun y A => x2.1 = y ∧ A = tp ad x2.2 A0)) (G := fun _ _ => False) (args := [.ref (adr ad 0), .int x1, .int (s.1 110)]) (r := []) hR rfl rfl rfl (Nat.le_of_ble_eq_true rfl) (Nat.le_of_ble_eq_true rfl) rfl (tk_0 hn rfl) (ts_558 hR hn hx (cI_mk ⟨rfl, rfl⟩)) ?_ (fun _ _ _ z => z.elim)
  rintro _ _ ⟨rfl, rfl⟩
  rcases iteC h with ⟨hc, h⟩ | ⟨hc, h⟩
  · refine lQ.ifT rfl (decide_eq_true hc) ?_
    refine lQ.push rfl ?_
    obtain rfl := Option.some.inj h
    exact lQ.retI rfl rfl hz
  · refine lQ.ifF rfl (decide_eq_false hc) ?_
    refine lQ.loadN rfl rfl ?_
    refine lQ.get hR rfl (tf_0_3 hn) ?_
    refine lQ.loadI rfl rfl ?_
    refine lQ.loadI rfl rfl ?_
    obtain ⟨x3, hx, h⟩ := bindC h
    refine lQ.callVI (F := (fun y A => x3 = y ∧ A = tp ad x2.2 A0)) (G := fun _ _ => False) (args := [.ref (adr ad 1), .int v1, .int v2]) (r := []) hR rfl rfl rfl (Nat.le_of_ble_eq_true rfl) (Nat.le_of_ble_eq_true rfl) rfl (tk_1 hn rfl) (ts_716 hR hn hx (cI_mk ⟨rfl, rfl⟩)) ?_ (fun _ _ _ z => z.elim)
    rintro _ _ ⟨rfl, rfl⟩
    refine lQ.goto rfl ?_
    obtain rfl := Option.some.inj h
    exact lQ.retI rfl rfl hz
theorem ts_717 {R : lAR} (hR : lRok R) {E : lE} {ad : List Nat} (hn : tOk ad) {v1 : Int32} {s : TS} {A0 : lMem} {x : Int32} (h : t_717 v1 s = some x) {Z : lZ} (hz : Z (.inl (some (.int x))) (tp ad s A0)) : lSQ R E 1 717 [.ref (adr ad 1), .int v1] (tp ad s A0) Z := by
  refine lQ.sq pg_717 (Nat.le_of_ble_eq_true rfl) rfl ?_
  unfold t_717 at h
  refine lQ.loadN rfl rfl ?_
  refine lQ.get hR rfl (tf_1_9 hn) ?_
  rcases iteC h with ⟨hc, h⟩ | ⟨hc, h⟩
  · refine lQ.ifT rfl (decide_eq_true hc) ?_
    refine lQ.push rfl ?_
    obtain rfl := Option.some.inj h
    exact lQ.retI rfl rfl hz
  · refine lQ.ifF rfl (decide_eq_false hc) ?_
    refine lQ.loadI rfl rfl ?_
    refine lQ.push rfl ?_
    rcases iteC h with ⟨hc, h⟩ | ⟨hc, h⟩
    · refine lQ.cmpT rfl (decide_eq_true hc) ?_
      refine lQ.push rfl ?_
      obtain rfl := Option.some.inj h
      exact lQ.retI rfl rfl hz
    · refine lQ.cmpF rfl (decide_eq_false hc) ?_
      refine lQ.loadI rfl rfl ?_
      refine lQ.loadN rfl rfl ?_
      refine lQ.get hR rfl (tf_1_17 hn) ?_
      rcases iteC h with ⟨hc, h⟩ | ⟨hc, h⟩
      · refine lQ.cmpF rfl (decide_eq_false (Int32.not_le.mpr hc)) ?_
        refine lQ.push rfl ?_
        refine lQ.goto rfl ?_
        obtain rfl := Option.some.inj h
        exact lQ.retI rfl rfl hz
      · refine lQ.cmpT rfl (decide_eq_true (Int32.not_lt.mp hc)) ?_
        refine lQ.push rfl ?_
        obtain rfl := Option.some.inj h
        exact lQ.retI rfl rfl hz
theorem ts_719 {R : lAR} (hR : lRok R) {E : lE} {ad : List Nat} (hn : tOk ad) {v1 : Int32} {v2 : Int32} {s : TS} {A0 : lMem} {x : Int32} (h : t_719 v1 v2 s = some x) {Z : lZ} (hz : Z (.inl (some (.int x))) (tp ad s A0)) : lSQ R E 4 719 [.ref (adr ad 1), .int v1, .int v2] (tp ad s A0) Z := by
  refine lQ.sq pg_719 (Nat.le_of_ble_eq_true rfl) rfl ?_
  unfold t_719 at h
  refine lQ.push rfl ?_
  refine lQ.stI rfl (lN2s rfl rfl) ?_
  refine lQ.push rfl ?_
  refine lQ.stI rfl (lN2s rfl rfl) ?_
  obtain ⟨v30, hy1, h1⟩ := bindC h
  have hJ1 : lQ R E 3 cd_719 30 [(3, .int v30)] [] (tp ad s A0) Z := by
    refine lQ.loadI rfl rfl ?_
    obtain rfl := Option.some.inj h1
    exact lQ.retI rfl rfl hz
  refine lQ.sub (lSb rfl (lSb rfl (lSb rfl (lSb rfl (lSb rfl lSb0))))) (wh_run (P := fun p4 => lQ R E 3 cd_719 4 [(0, .ref (adr ad 1)), (1, .int v1), (2, .int v2), (3, .int p4.1), (4, .int p4.2)] [] (tp ad s A0) Z) hy1 ?_)
  intro p4 r2 hb2 hI2 hX2
  refine lQ.loadI rfl rfl ?_
  refine lQ.push rfl ?_
  refine lQ.loadN rfl rfl ?_
  refine lQ.get hR rfl (tf_1_30 hn) ?_
  refine lQ.binI rfl ?_
  rcases iteC hb2 with ⟨hc, hb2⟩ | ⟨hc, hb2⟩
  · refine lQ.cmpF rfl (decide_eq_false (Int32.not_le.mpr hc)) ?_
    refine lQ.loadI rfl rfl ?_
    refine lQ.loadN rfl rfl ?_
    refine lQ.loadI rfl rfl ?_
    obtain ⟨x1, hx, hb2⟩ := bindC hb2
    refine lQ.callVI (F := (fun y A => x1 = y ∧ A = tp ad s A0)) (G := fun _ _ => False) (args := [.ref (adr ad 1), .int p4.2]) (r := [.int p4.1]) hR rfl rfl rfl (Nat.le_of_ble_eq_true rfl) (Nat.le_of_ble_eq_true rfl) rfl (tk_1 hn rfl) (ts_702 hR hn hx (cI_mk ⟨rfl, rfl⟩)) ?_ (fun _ _ _ z => z.elim)
    rintro _ _ ⟨rfl, rfl⟩
    refine lQ.loadI rfl rfl ?_
    obtain ⟨v26, hy3, h3⟩ := bindC hb2
    have hJ3 : lQ R E 3 cd_719 26 [(0, .ref (adr ad 1)), (1, .int v1), (2, .int v2), (4, .int p4.2)] [.int v26, .int p4.1] (tp ad s A0) Z := by
      refine lQ.binI rfl ?_
      refine lQ.stI rfl (lN2s rfl rfl) ?_
      refine lQ.inc rfl rfl (lN2s rfl rfl) ?_
      refine lQ.goto rfl ?_
      obtain rfl := Option.some.inj h3
      exact lQ.sub (lSb rfl (lSb rfl (lSb rfl (lSb rfl (lSb rfl lSb0))))) (hI2 _ rfl)
    rcases iteC hy3 with ⟨hc, hy3⟩ | ⟨hc, hy3⟩
    · refine lQ.cmpF rfl (decide_eq_false (fun z => z hc)) ?_
      refine lQ.loadN rfl rfl ?_
      refine lQ.loadI rfl rfl ?_
      obtain ⟨x2, hx, hy3⟩ := bindC hy3
      refine lQ.callVI (F := (fun y A => x2 = y ∧ A = tp ad s A0)) (G := fun _ _ => False) (args := [.ref (adr ad 1), .int p4.2]) (r := [.int p4.1]) hR rfl rfl rfl (Nat.le_of_ble_eq_true rfl) (Nat.le_of_ble_eq_true rfl) rfl (tk_1 hn rfl) (ts_712 hR hn hx (cI_mk ⟨rfl, rfl⟩)) ?_ (fun _ _ _ z => z.elim)
      rintro _ _ ⟨rfl, rfl⟩
      refine lQ.loadI rfl rfl ?_
      rcases iteC hy3 with ⟨hc, hy3⟩ | ⟨hc, hy3⟩
      · refine lQ.cmpF rfl (decide_eq_false (fun z => z hc)) ?_
        refine lQ.loadN rfl rfl ?_
        refine lQ.loadI rfl rfl ?_
        obtain ⟨x3, hx, hy3⟩ := bindC hy3
        refine lQ.callVI (F := (fun y A => x3 = y ∧ A = tp ad s A0)) (G := fun _ _ => False) (args := [.ref (adr ad 1), .int p4.2]) (r := [.int p4.1]) hR rfl rfl rfl (Nat.le_of_ble_eq_true rfl) (Nat.le_of_ble_eq_true rfl) rfl (tk_1 hn rfl) (ts_714 hR hn hx (cI_mk ⟨rfl, rfl⟩)) ?_ (fun _ _ _ z => z.elim)
        rintro _ _ ⟨rfl, rfl⟩
        refine lQ.goto rfl ?_
        obtain rfl := Option.some.inj hy3
        exact lQ.sub (lSb rfl (lSb rfl (lSb rfl (lSb rfl lSb0)))) hJ3
      · refine lQ.cmpT rfl (decide_eq_true hc) ?_
        refine lQ.push rfl ?_
        obtain rfl := Option.some.inj hy3
        exact lQ.sub (lSb rfl (lSb rfl (lSb rfl (lSb rfl lSb0)))) hJ3
    · refine lQ.cmpT rfl (decide_eq_true hc) ?_
      refine lQ.push rfl ?_
      obtain rfl := Option.some.inj hy3
      exact lQ.sub (lSb rfl (lSb rfl (lSb rfl (lSb rfl lSb0)))) hJ3
  · refine lQ.cmpT rfl (decide_eq_true (Int32.not_lt.mp hc)) ?_
    obtain rfl := Option.some.inj hb2
    obtain rfl := hX2 _ rfl
    exact lQ.sub (lSb rfl lSb0) hJ1
theorem ts_718 {R : lAR} (hR : lRok R) {E : lE} {ad : List Nat} (hn : tOk ad) {v1 : Int32} {v2 : Int32} {s : TS} {A0 : lMem} {x : Int32} (h : t_718 v1 v2 s = some x) {Z : lZ} (hz : Z (.inl (some (.int x))) (tp ad s A0)) : lSQ R E 5 718 [.ref (adr ad 1), .int v1, .int v2] (tp ad s A0) Z := by
  refine lQ.sq pg_718 (Nat.le_of_ble_eq_true rfl) rfl ?_
  unfold t_718 at h
  refine lQ.loadI rfl rfl ?_
  refine lQ.loadI rfl rfl ?_
  rcases iteC h with ⟨hc, h⟩ | ⟨hc, h⟩
  · refine lQ.cmpF rfl (decide_eq_false (fun z => z hc)) ?_
    refine lQ.loadN rfl rfl ?_
    refine lQ.loadI rfl rfl ?_
    refine lQ.loadI rfl rfl ?_
    obtain ⟨x2, hx, h⟩ := bindC h
    refine lQ.callVI (F := (fun y A => x2 = y ∧ A = tp ad s A0)) (G := fun _ _ => False) (args := [.ref (adr ad 1), .int v1, .int v1]) (r := []) hR rfl rfl rfl (Nat.le_of_ble_eq_true rfl) (Nat.le_of_ble_eq_true rfl) rfl (tk_1 hn rfl) (ts_719 hR hn hx (cI_mk ⟨rfl, rfl⟩)) ?_ (fun _ _ _ z => z.elim)
    rintro _ _ ⟨rfl, rfl⟩
    refine lQ.push rfl ?_
    refine lQ.divI rfl (by decide) ?_
    refine lQ.goto rfl ?_
    obtain rfl := Option.some.inj h
    exact lQ.retI rfl rfl hz
  · refine lQ.cmpT rfl (decide_eq_true hc) ?_
    refine lQ.loadN rfl rfl ?_
    refine lQ.loadI rfl rfl ?_
    refine lQ.loadI rfl rfl ?_
    obtain ⟨x1, hx, h⟩ := bindC h
    refine lQ.callVI (F := (fun y A => x1 = y ∧ A = tp ad s A0)) (G := fun _ _ => False) (args := [.ref (adr ad 1), .int v1, .int v2]) (r := []) hR rfl rfl rfl (Nat.le_of_ble_eq_true rfl) (Nat.le_of_ble_eq_true rfl) rfl (tk_1 hn rfl) (ts_719 hR hn hx (cI_mk ⟨rfl, rfl⟩)) ?_ (fun _ _ _ z => z.elim)
    rintro _ _ ⟨rfl, rfl⟩
    obtain rfl := Option.some.inj h
    exact lQ.retI rfl rfl hz
theorem ts_570 {R : lAR} (hR : lRok R) {E : lE} {ad : List Nat} (hn : tOk ad) {v1 : Int32} {v2 : Int32} {s : TS} {A0 : lMem} {x : Int32 × TS} (h : t_570 v1 v2 s = some x) {Z : lZ} (hz : Z (.inl (some (.int x.1))) (tp ad x.2 A0)) : lSQ R E 6 570 [.ref (adr ad 0), .int v1, .int v2] (tp ad s A0) Z := by
  refine lQ.sq pg_570 (Nat.le_of_ble_eq_true rfl) rfl ?_
  unfold t_570 at h
  refine lQ.loadN rfl rfl ?_
  refine lQ.loadN rfl rfl ?_
  refine lQ.get hR rfl (tf_0_3 hn) ?_
  refine lQ.loadI rfl rfl ?_
  obtain ⟨x1, hx, h⟩ := bindC h
  refine lQ.callVI (F := (fun y A => x1 = y ∧ A = tp ad s A0)) (G := fun _ _ => False) (args := [.ref (adr ad 1), .int v1]) (r := [.ref (adr ad 0)]) hR rfl rfl rfl (Nat.le_of_ble_eq_true rfl) (Nat.le_of_ble_eq_true rfl) rfl (tk_1 hn rfl) (ts_708 hR hn hx (cI_mk ⟨rfl, rfl⟩)) ?_ (fun _ _ _ z => z.elim)
  rintro _ _ ⟨rfl, rfl⟩
  obtain ⟨v14, hy1, h1⟩ := bindC h
  have hJ1 : lQ R E 5 cd_570 14 [(0, .ref (adr ad 0)), (1, .int v1), (2, .int v2)] [.int v14, .ref (adr ad 0)] (tp ad s A0) Z := by
    refine lQ.loadN rfl rfl ?_
    refine lQ.get hR rfl (tf_0_3 hn) ?_
    refine lQ.get hR rfl (tf_1_10 hn) ?_
    obtain ⟨x3, hx, h1⟩ := bindC h1
    refine lQ.callVI (F := (fun y A => x3.1 = y ∧ A = tp ad x3.2 A0)) (G := fun _ _ => False) (args := [.ref (adr ad 0), .int v14, .int (s.1 110)]) (r := []) hR rfl rfl rfl (Nat.le_of_ble_eq_true rfl) (Nat.le_of_ble_eq_true rfl) rfl (tk_0 hn rfl) (ts_558 hR hn hx (cI_mk ⟨rfl, rfl⟩)) ?_ (fun _ _ _ z => z.elim)
    rintro _ _ ⟨rfl, rfl⟩
    rcases iteC h1 with ⟨hc, h1⟩ | ⟨hc, h1⟩
    · refine lQ.ifT rfl (decide_eq_true hc) ?_
      refine lQ.push rfl ?_
      obtain rfl := Option.some.inj h1
      exact lQ.retI rfl rfl hz
    · refine lQ.ifF rfl (decide_eq_false hc) ?_
      refine lQ.loadN rfl rfl ?_
      refine lQ.get hR rfl (tf_0_3 hn) ?_
      refine lQ.loadI rfl rfl ?_
      refine lQ.loadI rfl rfl ?_
      obtain ⟨x4, hx, h1⟩ := bindC h1
      refine lQ.callVI (F := (fun y A => x4 = y ∧ A = tp ad x3.2 A0)) (G := fun _ _ => False) (args := [.ref (adr ad 1), .int v1, .int v2]) (r := []) hR rfl rfl rfl (Nat.le_of_ble_eq_true rfl) (Nat.le_of_ble_eq_true rfl) rfl (tk_1 hn rfl) (ts_718 hR hn hx (cI_mk ⟨rfl, rfl⟩)) ?_ (fun _ _ _ z => z.elim)
      rintro _ _ ⟨rfl, rfl⟩
      refine lQ.goto rfl ?_
      obtain rfl := Option.some.inj h1
      exact lQ.retI rfl rfl hz
  rcases iteC hy1 with ⟨hc, hy1⟩ | ⟨hc, hy1⟩
  · refine lQ.ifT rfl (decide_eq_true hc) ?_
    refine lQ.push rfl ?_
    obtain rfl := Option.some.inj hy1
    exact lQ.sub (lSb rfl (lSb rfl (lSb rfl lSb0))) hJ1
  · refine lQ.ifF rfl (decide_eq_false hc) ?_
    refine lQ.loadN rfl rfl ?_
    refine lQ.get hR rfl (tf_0_3 hn) ?_
    refine lQ.loadI rfl rfl ?_
    obtain ⟨x2, hx, hy1⟩ := bindC hy1
    refine lQ.callVI (F := (fun y A => x2 = y ∧ A = tp ad s A0)) (G := fun _ _ => False) (args := [.ref (adr ad 1), .int v2]) (r := [.ref (adr ad 0)]) hR rfl rfl rfl (Nat.le_of_ble_eq_true rfl) (Nat.le_of_ble_eq_true rfl) rfl (tk_1 hn rfl) (ts_717 hR hn hx (cI_mk ⟨rfl, rfl⟩)) ?_ (fun _ _ _ z => z.elim)
    rintro _ _ ⟨rfl, rfl⟩
    rcases iteC hy1 with ⟨hc, hy1⟩ | ⟨hc, hy1⟩
    · refine lQ.ifT rfl (decide_eq_true hc) ?_
      refine lQ.push rfl ?_
      obtain rfl := Option.some.inj hy1
      exact lQ.sub (lSb rfl (lSb rfl (lSb rfl lSb0))) hJ1
    · refine lQ.ifF rfl (decide_eq_false hc) ?_
      refine lQ.push rfl ?_
      refine lQ.goto rfl ?_
      obtain rfl := Option.some.inj hy1
      exact lQ.sub (lSb rfl (lSb rfl (lSb rfl lSb0))) hJ1
theorem ts_721 {R : lAR} (hR : lRok R) {E : lE} {ad : List Nat} (hn : tOk ad) {v1 : Int32} {s : TS} {A0 : lMem} {x : Int32} (h : t_721 v1 s = some x) {Z : lZ} (hz : Z (.inl (some (.int x))) (tp ad s A0)) : lSQ R E 2 721 [.ref (adr ad 1), .int v1] (tp ad s A0) Z := by
  refine lQ.sq pg_721 (Nat.le_of_ble_eq_true rfl) rfl ?_
  unfold t_721 at h
  refine lQ.loadN rfl rfl ?_
  refine lQ.get hR rfl (tf_1_31 hn) ?_
  refine lQ.loadI rfl rfl ?_
  refine lQ.push rfl ?_
  refine lQ.divI rfl (by decide) ?_
  obtain ⟨x1, hx, h⟩ := bindC h
  refine lQ.ald hR rfl (ta_68 hn hx) ?_
  refine lQ.stI rfl (lN2s rfl rfl) ?_
  refine lQ.loadN rfl rfl ?_
  refine lQ.get hR rfl (tf_1_32 hn) ?_
  refine lQ.loadI rfl rfl ?_
  refine lQ.push rfl ?_
  refine lQ.divI rfl (by decide) ?_
  obtain ⟨x2, hx, h⟩ := bindC h
  refine lQ.ald hR rfl (ta_69 hn hx) ?_
  refine lQ.stI rfl (lN2s rfl rfl) ?_
  refine lQ.loadN rfl rfl ?_
  refine lQ.get hR rfl (tf_1_28 hn) ?_
  refine lQ.loadI rfl rfl ?_
  obtain ⟨x3, hx, h⟩ := bindC h
  refine lQ.ald hR rfl (ta_66 hn hx) ?_
  refine lQ.loadN rfl rfl ?_
  refine lQ.get hR rfl (tf_1_1 hn) ?_
  refine lQ.loadI rfl rfl ?_
  obtain ⟨x4, hx, h⟩ := bindC h
  refine lQ.ald hR rfl (ta_50 hn hx) ?_
  refine lQ.binI rfl ?_
  refine lQ.loadN rfl rfl ?_
  refine lQ.get hR rfl (tf_1_29 hn) ?_
  refine lQ.loadI rfl rfl ?_
  obtain ⟨x5, hx, h⟩ := bindC h
  refine lQ.ald hR rfl (ta_67 hn hx) ?_
  refine lQ.binI rfl ?_
  refine lQ.loadN rfl rfl ?_
  refine lQ.get hR rfl (tf_1_2 hn) ?_
  refine lQ.loadI rfl rfl ?_
  obtain ⟨x6, hx, h⟩ := bindC h
  refine lQ.ald hR rfl (ta_51 hn hx) ?_
  refine lQ.binI rfl ?_
  refine lQ.stI rfl (lN2s rfl rfl) ?_
  refine lQ.push rfl ?_
  refine lQ.stI rfl (lN2s rfl rfl) ?_
  refine lQ.push rfl ?_
  refine lQ.loadI rfl rfl ?_
  refine lQ.binI rfl ?_
  refine lQ.stI rfl (lN2s rfl rfl) ?_
  obtain ⟨v74, hy1, h1⟩ := bindC h
  have hJ1 : lQ R E 1 cd_721 74 [(5, .int v74)] [] (tp ad s A0) Z := by
    refine lQ.loadI rfl rfl ?_
    rcases iteC h1 with ⟨hg, h1⟩ | ⟨_, h1⟩
    case inr => cases h1
    have hb := hg
    obtain rfl := Option.some.inj h1
    exact lQ.retI rfl (fitB hb) hz
  refine lQ.sub (lSb rfl (lSb rfl (lSb rfl (lSb rfl (lSb rfl (lSb rfl lSb0)))))) (wh_run (P := fun p40 => lQ R E 1 cd_721 40 [(0, .ref (adr ad 1)), (1, .int v1), (2, .int x1), (4, .int (((x3 - x4) + x5) - x6)), (5, .int p40.1), (6, .int p40.2)] [] (tp ad s A0) Z) hy1 ?_)
  intro p40 r2 hb2 hI2 hX2
  refine lQ.loadI rfl rfl ?_
  refine lQ.push rfl ?_
  refine lQ.loadI rfl rfl ?_
  refine lQ.binI rfl ?_
  refine lQ.loadN rfl rfl ?_
  refine lQ.get hR rfl (tf_1_5 hn) ?_
  refine lQ.loadI rfl rfl ?_
  obtain ⟨x7, hx, hb2⟩ := bindC hb2
  refine lQ.ald hR rfl (ta_54 hn hx) ?_
  refine lQ.binI rfl ?_
  rcases iteC hb2 with ⟨hc, hb2⟩ | ⟨hc, hb2⟩
  · refine lQ.cmpF rfl (decide_eq_false (Int32.not_le.mpr hc)) ?_
    refine lQ.loadI rfl rfl ?_
    obtain ⟨v71, hy3, h3⟩ := bindC hb2
    have hJ3 : lQ R E 1 cd_721 71 [(0, .ref (adr ad 1)), (1, .int v1), (2, .int x1), (4, .int (((x3 - x4) + x5) - x6)), (6, .int p40.2)] [.int v71] (tp ad s A0) Z := by
      refine lQ.stI rfl (lN2s rfl rfl) ?_
      refine lQ.inc rfl rfl (lN2s rfl rfl) ?_
      refine lQ.goto rfl ?_
      obtain rfl := Option.some.inj h3
      exact lQ.sub (lSb rfl (lSb rfl (lSb rfl (lSb rfl (lSb rfl (lSb rfl lSb0)))))) (hI2 _ rfl)
    rcases iteC hy3 with ⟨hc, hy3⟩ | ⟨hc, hy3⟩
    · refine lQ.ifF rfl (decide_eq_false (fun z => z hc)) ?_
      refine lQ.loadI rfl rfl ?_
      refine lQ.loadI rfl rfl ?_
      refine lQ.loadN rfl rfl ?_
      refine lQ.loadI rfl rfl ?_
      obtain ⟨x8, hx, hy3⟩ := bindC hy3
      refine lQ.callVI (F := (fun y A => x8 = y ∧ A = tp ad s A0)) (G := fun _ _ => False) (args := [.ref (adr ad 1), .int v1]) (r := [.int (((x3 - x4) + x5) - x6), .int (((x3 - x4) + x5) - x6)]) hR rfl rfl rfl (Nat.le_of_ble_eq_true rfl) (Nat.le_of_ble_eq_true rfl) rfl (tk_1 hn rfl) (ts_714 hR hn hx (cI_mk ⟨rfl, rfl⟩)) ?_ (fun _ _ _ z => z.elim)
      rintro _ _ ⟨rfl, rfl⟩
      refine lQ.binI rfl ?_
      refine lQ.loadN rfl rfl ?_
      refine lQ.get hR rfl (tf_1_6 hn) ?_
      refine lQ.loadI rfl rfl ?_
      obtain ⟨x9, hx, hy3⟩ := bindC hy3
      refine lQ.ald hR rfl (ta_55 hn hx) ?_
      refine lQ.loadN rfl rfl ?_
      refine lQ.get hR rfl (tf_1_7 hn) ?_
      refine lQ.loadI rfl rfl ?_
      obtain ⟨x10, hx, hy3⟩ := bindC hy3
      refine lQ.ald hR rfl (ta_56 hn hx) ?_
      obtain ⟨x11, hx, hy3⟩ := bindC hy3
      refine lQ.callI (F := (fun y A => x11 = y ∧ A = tp ad s A0)) (G := fun _ _ => False) (args := [.int (((x3 - x4) + x5) - x6), .int ((((x3 - x4) + x5) - x6) + x8), .int x9, .int x10]) (r := []) hR rfl rfl rfl (Nat.le_of_ble_eq_true rfl) (Nat.le_of_ble_eq_true rfl) (ts_706 hR hn hx (cI_mk ⟨rfl, rfl⟩)) ?_ (fun _ _ _ z => z.elim)
      rintro _ _ ⟨rfl, rfl⟩
      rcases iteC hy3 with ⟨hc, hy3⟩ | ⟨hc, hy3⟩
      · refine lQ.ifF rfl (decide_eq_false (Int32.not_le.mpr hc)) ?_
        refine lQ.push rfl ?_
        refine lQ.goto rfl ?_
        obtain rfl := Option.some.inj hy3
        exact lQ.sub (lSb rfl (lSb rfl (lSb rfl (lSb rfl (lSb rfl lSb0))))) hJ3
      · refine lQ.ifT rfl (decide_eq_true (Int32.not_lt.mp hc)) ?_
        refine lQ.push rfl ?_
        obtain rfl := Option.some.inj hy3
        exact lQ.sub (lSb rfl (lSb rfl (lSb rfl (lSb rfl (lSb rfl lSb0))))) hJ3
    · refine lQ.ifT rfl (decide_eq_true hc) ?_
      refine lQ.push rfl ?_
      refine lQ.goto rfl ?_
      obtain rfl := Option.some.inj hy3
      exact lQ.sub (lSb rfl (lSb rfl (lSb rfl (lSb rfl (lSb rfl lSb0))))) hJ3
  · refine lQ.cmpT rfl (decide_eq_true (Int32.not_lt.mp hc)) ?_
    obtain rfl := Option.some.inj hb2
    obtain rfl := hX2 _ rfl
    exact lQ.sub (lSb rfl lSb0) hJ1
theorem ts_720 {R : lAR} (hR : lRok R) {E : lE} {ad : List Nat} (hn : tOk ad) {v1 : Int32} {v2 : Int32} {s : TS} {A0 : lMem} {x : Int32 × TS} (h : t_720 v1 v2 s = some x) {Z : lZ} (hz : Z (.inl (some (.int x.1))) (tp ad x.2 A0)) : lSQ R E 4 720 [.ref (adr ad 1), .int v1, .int v2] (tp ad s A0) Z := by
  refine lQ.sq pg_720 (Nat.le_of_ble_eq_true rfl) rfl ?_
  unfold t_720 at h
  refine lQ.push rfl ?_
  refine lQ.stI rfl (lN2s rfl rfl) ?_
  obtain ⟨v20, hy1, h1⟩ := bindC h
  have hJ1 : lQ R E 3 cd_720 20 [(0, .ref (adr ad 1)), (2, .int v2)] [] (tp ad v20 A0) Z := by
    refine lQ.push rfl ?_
    refine lQ.stI rfl (lN2s rfl rfl) ?_
    obtain ⟨v80, hy2, h2⟩ := bindC h1
    have hJ2 : lQ R E 3 cd_720 80 [(0, .ref (adr ad 1)), (2, .int v2)] [] (tp ad v80 A0) Z := by
      refine lQ.loadN rfl rfl ?_
      refine lQ.get hR rfl (tf_1_39 hn) ?_
      refine lQ.loadI rfl rfl ?_
      refine lQ.push rfl ?_
      refine lQ.binI rfl ?_
      obtain ⟨x11, hx, h2⟩ := bindC h2
      refine lQ.ald hR rfl (ta_75 hn hx) ?_
      refine lQ.push rfl ?_
      rcases iteC h2 with ⟨hc, h2⟩ | ⟨hc, h2⟩
      · refine lQ.cmpF rfl (decide_eq_false (fun z => z hc)) ?_
        refine lQ.push rfl ?_
        refine lQ.goto rfl ?_
        obtain rfl := Option.some.inj h2
        exact lQ.retI rfl rfl hz
      · refine lQ.cmpT rfl (decide_eq_true hc) ?_
        refine lQ.loadN rfl rfl ?_
        refine lQ.get hR rfl (tf_1_39 hn) ?_
        refine lQ.loadI rfl rfl ?_
        refine lQ.push rfl ?_
        refine lQ.binI rfl ?_
        obtain ⟨x12, hx, h2⟩ := bindC h2
        refine lQ.ald hR rfl (ta_75 hn hx) ?_
        obtain rfl := Option.some.inj h2
        exact lQ.retI rfl rfl hz
    refine lQ.sub (lSb rfl (lSb rfl (lSb rfl lSb0))) (wh_run (P := fun p22 => lQ R E 3 cd_720 22 [(0, .ref (adr ad 1)), (2, .int v2), (3, .int p22.2)] [] (tp ad p22.1 A0) Z) hy2 ?_)
    intro p22 r3 hb3 hI3 hX3
    refine lQ.loadI rfl rfl ?_
    rcases iteC hb3 with ⟨hc, hb3⟩ | ⟨hc, hb3⟩
    · refine lQ.ifT rfl (decide_eq_true hc) ?_
      obtain rfl := Option.some.inj hb3
      obtain rfl := hX3 _ rfl
      exact lQ.sub (lSb rfl (lSb rfl lSb0)) hJ2
    · refine lQ.ifF rfl (decide_eq_false hc) ?_
      refine lQ.push rfl ?_
      refine lQ.stI rfl (lN2s rfl rfl) ?_
      refine lQ.push rfl ?_
      refine lQ.stI rfl (lN2s rfl rfl) ?_
      obtain ⟨v79, hy4, h4⟩ := bindC hb3
      have hJ4 : lQ R E 3 cd_720 79 [(0, .ref (adr ad 1)), (2, .int v2), (3, .int v79.2)] [] (tp ad v79.1 A0) Z := by
        refine lQ.goto rfl ?_
        obtain rfl := Option.some.inj h4
        exact lQ.sub (lSb rfl (lSb rfl (lSb rfl lSb0))) (hI3 _ rfl)
      refine lQ.sub (lSb rfl (lSb rfl (lSb rfl (lSb rfl lSb0)))) (wh_run (P := fun p28 => lQ R E 3 cd_720 28 [(0, .ref (adr ad 1)), (2, .int v2), (3, .int p28.2.1), (4, .int p28.2.2)] [] (tp ad p28.1 A0) Z) hy4 ?_)
      intro p28 r5 hb5 hI5 hX5
      refine lQ.loadI rfl rfl ?_
      refine lQ.push rfl ?_
      refine lQ.loadN rfl rfl ?_
      refine lQ.get hR rfl (tf_1_30 hn) ?_
      refine lQ.binI rfl ?_
      rcases iteC hb5 with ⟨hc, hb5⟩ | ⟨hc, hb5⟩
      · refine lQ.cmpF rfl (decide_eq_false (Int32.not_le.mpr hc)) ?_
        refine lQ.loadN rfl rfl ?_
        refine lQ.loadI rfl rfl ?_
        obtain ⟨x2, hx, hb5⟩ := bindC hb5
        refine lQ.callVI (F := (fun y A => x2 = y ∧ A = tp ad p28.1 A0)) (G := fun _ _ => False) (args := [.ref (adr ad 1), .int p28.2.2]) (r := []) hR rfl rfl rfl (Nat.le_of_ble_eq_true rfl) (Nat.le_of_ble_eq_true rfl) rfl (tk_1 hn rfl) (ts_721 hR hn hx (cI_mk ⟨rfl, rfl⟩)) ?_ (fun _ _ _ z => z.elim)
        rintro _ _ ⟨rfl, rfl⟩
        obtain ⟨v77, hy6, h6⟩ := bindC hb5
        have hJ6 : lQ R E 3 cd_720 77 [(0, .ref (adr ad 1)), (2, .int v2), (3, .int v77.2), (4, .int p28.2.2)] [] (tp ad v77.1 A0) Z := by
          refine lQ.inc rfl rfl (lN2s rfl rfl) ?_
          refine lQ.goto rfl ?_
          obtain rfl := Option.some.inj h6
          exact lQ.sub (lSb rfl (lSb rfl (lSb rfl (lSb rfl lSb0)))) (hI5 _ rfl)
        rcases iteC hy6 with ⟨hc, hy6⟩ | ⟨hc, hy6⟩
        · refine lQ.ifT rfl (decide_eq_true hc) ?_
          obtain rfl := Option.some.inj hy6
          exact lQ.sub (lSb rfl (lSb rfl (lSb rfl (lSb rfl lSb0)))) hJ6
        · refine lQ.ifF rfl (decide_eq_false hc) ?_
          refine lQ.loadN rfl rfl ?_
          refine lQ.get hR rfl (tf_1_39 hn) ?_
          refine lQ.loadN rfl rfl ?_
          refine lQ.loadI rfl rfl ?_
          obtain ⟨x3, hx, hy6⟩ := bindC hy6
          refine lQ.callVI (F := (fun y A => x3 = y ∧ A = tp ad p28.1 A0)) (G := fun _ _ => False) (args := [.ref (adr ad 1), .int p28.2.2]) (r := [.ref (adr ad 75)]) hR rfl rfl rfl (Nat.le_of_ble_eq_true rfl) (Nat.le_of_ble_eq_true rfl) rfl (tk_1 hn rfl) (ts_702 hR hn hx (cI_mk ⟨rfl, rfl⟩)) ?_ (fun _ _ _ z => z.elim)
          rintro _ _ ⟨rfl, rfl⟩
          refine lQ.push rfl ?_
          refine lQ.binI rfl ?_
          obtain ⟨x4, hx, hy6⟩ := bindC hy6
          refine lQ.ald hR rfl (ta_75 hn hx) ?_
          refine lQ.push rfl ?_
          refine lQ.binI rfl ?_
          refine lQ.loadN rfl rfl ?_
          refine lQ.get hR rfl (tf_1_39 hn) ?_
          refine lQ.loadN rfl rfl ?_
          refine lQ.loadI rfl rfl ?_
          obtain ⟨x5, hx, hy6⟩ := bindC hy6
          refine lQ.callVI (F := (fun y A => x5 = y ∧ A = tp ad p28.1 A0)) (G := fun _ _ => False) (args := [.ref (adr ad 1), .int p28.2.2]) (r := [.ref (adr ad 75), .int (x4 + 1)]) hR rfl rfl rfl (Nat.le_of_ble_eq_true rfl) (Nat.le_of_ble_eq_true rfl) rfl (tk_1 hn rfl) (ts_712 hR hn hx (cI_mk ⟨rfl, rfl⟩)) ?_ (fun _ _ _ z => z.elim)
          rintro _ _ ⟨rfl, rfl⟩
          refine lQ.push rfl ?_
          refine lQ.binI rfl ?_
          obtain ⟨x6, hx, hy6⟩ := bindC hy6
          refine lQ.ald hR rfl (ta_75 hn hx) ?_
          rcases iteC hy6 with ⟨hc, hy6⟩ | ⟨hc, hy6⟩
          · refine lQ.cmpF rfl (decide_eq_false (Int32.not_le.mpr hc)) ?_
            refine lQ.loadN rfl rfl ?_
            refine lQ.get hR rfl (tf_1_39 hn) ?_
            refine lQ.loadN rfl rfl ?_
            refine lQ.loadI rfl rfl ?_
            obtain ⟨x7, hx, hy6⟩ := bindC hy6
            refine lQ.callVI (F := (fun y A => x7 = y ∧ A = tp ad p28.1 A0)) (G := fun _ _ => False) (args := [.ref (adr ad 1), .int p28.2.2]) (r := [.ref (adr ad 75)]) hR rfl rfl rfl (Nat.le_of_ble_eq_true rfl) (Nat.le_of_ble_eq_true rfl) rfl (tk_1 hn rfl) (ts_712 hR hn hx (cI_mk ⟨rfl, rfl⟩)) ?_ (fun _ _ _ z => z.elim)
            rintro _ _ ⟨rfl, rfl⟩
            refine lQ.push rfl ?_
            refine lQ.binI rfl ?_
            refine lQ.loadN rfl rfl ?_
            refine lQ.get hR rfl (tf_1_39 hn) ?_
            refine lQ.loadN rfl rfl ?_
            refine lQ.loadI rfl rfl ?_
            obtain ⟨x8, hx, hy6⟩ := bindC hy6
            refine lQ.callVI (F := (fun y A => x8 = y ∧ A = tp ad p28.1 A0)) (G := fun _ _ => False) (args := [.ref (adr ad 1), .int p28.2.2]) (r := [.ref (adr ad 75), .int (x7 + 1), .ref (adr ad 75)]) hR rfl rfl rfl (Nat.le_of_ble_eq_true rfl) (Nat.le_of_ble_eq_true rfl) rfl (tk_1 hn rfl) (ts_702 hR hn hx (cI_mk ⟨rfl, rfl⟩)) ?_ (fun _ _ _ z => z.elim)
            rintro _ _ ⟨rfl, rfl⟩
            refine lQ.push rfl ?_
            refine lQ.binI rfl ?_
            obtain ⟨x9, hx, hy6⟩ := bindC hy6
            refine lQ.ald hR rfl (ta_75 hn hx) ?_
            refine lQ.push rfl ?_
            refine lQ.binI rfl ?_
            obtain ⟨s10, hx, hy6⟩ := bindC hy6
            refine lQ.ast hR rfl (tw_75 hn hx) ?_
            rintro _ rfl
            refine lQ.push rfl ?_
            refine lQ.stI rfl (lN2s rfl rfl) ?_
            obtain rfl := Option.some.inj hy6
            exact lQ.sub (lSb rfl (lSb rfl (lSb rfl (lSb rfl lSb0)))) hJ6
          · refine lQ.cmpT rfl (decide_eq_true (Int32.not_lt.mp hc)) ?_
            obtain rfl := Option.some.inj hy6
            exact lQ.sub (lSb rfl (lSb rfl (lSb rfl (lSb rfl lSb0)))) hJ6
      · refine lQ.cmpT rfl (decide_eq_true (Int32.not_lt.mp hc)) ?_
        obtain rfl := Option.some.inj hb5
        obtain rfl := hX5 _ rfl
        exact lQ.sub (lSb rfl (lSb rfl (lSb rfl lSb0))) hJ4
  refine lQ.sub (lSb rfl (lSb rfl (lSb rfl (lSb rfl lSb0)))) (wh_run (P := fun p2 => lQ R E 3 cd_720 2 [(0, .ref (adr ad 1)), (1, .int v1), (2, .int v2), (3, .int p2.2)] [] (tp ad p2.1 A0) Z) hy1 ?_)
  intro p2 r7 hb7 hI7 hX7
  refine lQ.loadI rfl rfl ?_
  refine lQ.loadN rfl rfl ?_
  refine lQ.get hR rfl (tf_1_17 hn) ?_
  rcases iteC hb7 with ⟨hc, hb7⟩ | ⟨hc, hb7⟩
  · refine lQ.cmpT rfl (decide_eq_true hc) ?_
    obtain rfl := Option.some.inj hb7
    obtain rfl := hX7 _ rfl
    exact lQ.sub (lSb rfl (lSb rfl lSb0)) hJ1
  · refine lQ.cmpF rfl (decide_eq_false hc) ?_
    refine lQ.loadN rfl rfl ?_
    refine lQ.get hR rfl (tf_1_39 hn) ?_
    refine lQ.loadI rfl rfl ?_
    refine lQ.loadI rfl rfl ?_
    refine lQ.loadI rfl rfl ?_
    refine lQ.push rfl ?_
    refine lQ.binI rfl ?_
    obtain ⟨v17, hy8, h8⟩ := bindC hb7
    have hJ8 : lQ R E 3 cd_720 17 [(0, .ref (adr ad 1)), (1, .int v1), (2, .int v2), (3, .int p2.2)] [.int v17, .int p2.2, .ref (adr ad 75)] (tp ad p2.1 A0) Z := by
      obtain ⟨s1, hx, h8⟩ := bindC h8
      refine lQ.ast hR rfl (tw_75 hn hx) ?_
      rintro _ rfl
      refine lQ.inc rfl rfl (lN2s rfl rfl) ?_
      refine lQ.goto rfl ?_
      obtain rfl := Option.some.inj h8
      exact lQ.sub (lSb rfl (lSb rfl (lSb rfl (lSb rfl lSb0)))) (hI7 _ rfl)
    rcases iteC hy8 with ⟨hc, hy8⟩ | ⟨hc, hy8⟩
    · refine lQ.cmpF rfl (decide_eq_false (fun z => z hc)) ?_
      refine lQ.push rfl ?_
      refine lQ.goto rfl ?_
      obtain rfl := Option.some.inj hy8
      exact lQ.sub (lSb rfl (lSb rfl (lSb rfl (lSb rfl lSb0)))) hJ8
    · refine lQ.cmpT rfl (decide_eq_true hc) ?_
      refine lQ.push rfl ?_
      obtain rfl := Option.some.inj hy8
      exact lQ.sub (lSb rfl (lSb rfl (lSb rfl (lSb rfl lSb0)))) hJ8
theorem ts_571 {R : lAR} (hR : lRok R) {E : lE} {ad : List Nat} (hn : tOk ad) {v1 : Int32} {v2 : Int32} {s : TS} {A0 : lMem} {x : Int32 × TS} (h : t_571 v1 v2 s = some x) {Z : lZ} (hz : Z (.inl (some (.int x.1))) (tp ad x.2 A0)) : lSQ R E 5 571 [.ref (adr ad 0), .int v1, .int v2] (tp ad s A0) Z := by
  refine lQ.sq pg_571 (Nat.le_of_ble_eq_true rfl) rfl ?_
  unfold t_571 at h
  refine lQ.loadN rfl rfl ?_
  refine lQ.loadN rfl rfl ?_
  refine lQ.get hR rfl (tf_0_3 hn) ?_
  refine lQ.loadI rfl rfl ?_
  obtain ⟨x1, hx, h⟩ := bindC h
  refine lQ.callVI (F := (fun y A => x1 = y ∧ A = tp ad s A0)) (G := fun _ _ => False) (args := [.ref (adr ad 1), .int v1]) (r := [.ref (adr ad 0)]) hR rfl rfl rfl (Nat.le_of_ble_eq_true rfl) (Nat.le_of_ble_eq_true rfl) rfl (tk_1 hn rfl) (ts_717 hR hn hx (cI_mk ⟨rfl, rfl⟩)) ?_ (fun _ _ _ z => z.elim)
  rintro _ _ ⟨rfl, rfl⟩
  obtain ⟨v14, hy1, h1⟩ := bindC h
  have hJ1 : lQ R E 4 cd_571 14 [(0, .ref (adr ad 0)), (1, .int v1), (2, .int v2)] [.int v14, .ref (adr ad 0)] (tp ad s A0) Z := by
    refine lQ.loadN rfl rfl ?_
    refine lQ.get hR rfl (tf_0_3 hn) ?_
    refine lQ.get hR rfl (tf_1_10 hn) ?_
    obtain ⟨x3, hx, h1⟩ := bindC h1
    refine lQ.callVI (F := (fun y A => x3.1 = y ∧ A = tp ad x3.2 A0)) (G := fun _ _ => False) (args := [.ref (adr ad 0), .int v14, .int (s.1 110)]) (r := []) hR rfl rfl rfl (Nat.le_of_ble_eq_true rfl) (Nat.le_of_ble_eq_true rfl) rfl (tk_0 hn rfl) (ts_558 hR hn hx (cI_mk ⟨rfl, rfl⟩)) ?_ (fun _ _ _ z => z.elim)
    rintro _ _ ⟨rfl, rfl⟩
    rcases iteC h1 with ⟨hc, h1⟩ | ⟨hc, h1⟩
    · refine lQ.ifT rfl (decide_eq_true hc) ?_
      refine lQ.push rfl ?_
      obtain rfl := Option.some.inj h1
      exact lQ.retI rfl rfl hz
    · refine lQ.ifF rfl (decide_eq_false hc) ?_
      refine lQ.loadN rfl rfl ?_
      refine lQ.get hR rfl (tf_0_3 hn) ?_
      refine lQ.loadI rfl rfl ?_
      refine lQ.loadI rfl rfl ?_
      obtain ⟨x4, hx, h1⟩ := bindC h1
      refine lQ.callVI (F := (fun y A => x4.1 = y ∧ A = tp ad x4.2 A0)) (G := fun _ _ => False) (args := [.ref (adr ad 1), .int v1, .int v2]) (r := []) hR rfl rfl rfl (Nat.le_of_ble_eq_true rfl) (Nat.le_of_ble_eq_true rfl) rfl (tk_1 hn rfl) (ts_720 hR hn hx (cI_mk ⟨rfl, rfl⟩)) ?_ (fun _ _ _ z => z.elim)
      rintro _ _ ⟨rfl, rfl⟩
      refine lQ.goto rfl ?_
      obtain rfl := Option.some.inj h1
      exact lQ.retI rfl rfl hz
  rcases iteC hy1 with ⟨hc, hy1⟩ | ⟨hc, hy1⟩
  · refine lQ.ifT rfl (decide_eq_true hc) ?_
    refine lQ.push rfl ?_
    obtain rfl := Option.some.inj hy1
    exact lQ.sub (lSb rfl (lSb rfl (lSb rfl lSb0))) hJ1
  · refine lQ.ifF rfl (decide_eq_false hc) ?_
    refine lQ.loadN rfl rfl ?_
    refine lQ.get hR rfl (tf_0_3 hn) ?_
    refine lQ.loadI rfl rfl ?_
    obtain ⟨x2, hx, hy1⟩ := bindC hy1
    refine lQ.callVI (F := (fun y A => x2 = y ∧ A = tp ad s A0)) (G := fun _ _ => False) (args := [.ref (adr ad 1), .int v2]) (r := [.ref (adr ad 0)]) hR rfl rfl rfl (Nat.le_of_ble_eq_true rfl) (Nat.le_of_ble_eq_true rfl) rfl (tk_1 hn rfl) (ts_717 hR hn hx (cI_mk ⟨rfl, rfl⟩)) ?_ (fun _ _ _ z => z.elim)
    rintro _ _ ⟨rfl, rfl⟩
    rcases iteC hy1 with ⟨hc, hy1⟩ | ⟨hc, hy1⟩
    · refine lQ.ifT rfl (decide_eq_true hc) ?_
      refine lQ.push rfl ?_
      obtain rfl := Option.some.inj hy1
      exact lQ.sub (lSb rfl (lSb rfl (lSb rfl lSb0))) hJ1
    · refine lQ.ifF rfl (decide_eq_false hc) ?_
      refine lQ.push rfl ?_
      refine lQ.goto rfl ?_
      obtain rfl := Option.some.inj hy1
      exact lQ.sub (lSb rfl (lSb rfl (lSb rfl lSb0))) hJ1
theorem ts_572 {R : lAR} (hR : lRok R) {E : lE} {ad : List Nat} (hn : tOk ad) {v1 : Int32} {v2 : Int32} {s : TS} {A0 : lMem} {x : Int32 × TS} (h : t_572 v1 v2 s = some x) {Z : lZ} (hz : Z (.inl (some (.int x.1))) (tp ad x.2 A0)) : lSQ R E 2 572 [.ref (adr ad 0), .int v1, .int v2] (tp ad s A0) Z := by
  refine lQ.sq pg_572 (Nat.le_of_ble_eq_true rfl) rfl ?_
  unfold t_572 at h
  refine lQ.loadN rfl rfl ?_
  refine lQ.loadN rfl rfl ?_
  refine lQ.get hR rfl (tf_0_3 hn) ?_
  refine lQ.loadI rfl rfl ?_
  obtain ⟨x1, hx, h⟩ := bindC h
  refine lQ.callVI (F := (fun y A => x1 = y ∧ A = tp ad s A0)) (G := fun _ _ => False) (args := [.ref (adr ad 1), .int v1]) (r := [.ref (adr ad 0)]) hR rfl rfl rfl (Nat.le_of_ble_eq_true rfl) (Nat.le_of_ble_eq_true rfl) rfl (tk_1 hn rfl) (ts_708 hR hn hx (cI_mk ⟨rfl, rfl⟩)) ?_ (fun _ _ _ z => z.elim)
  rintro _ _ ⟨rfl, rfl⟩
  obtain ⟨v14, hy1, h1⟩ := bindC h
  have hJ1 : lQ R E 1 cd_572 14 [(0, .ref (adr ad 0)), (1, .int v1), (2, .int v2)] [.int v14, .ref (adr ad 0)] (tp ad s A0) Z := by
    refine lQ.loadN rfl rfl ?_
    refine lQ.get hR rfl (tf_0_3 hn) ?_
    refine lQ.get hR rfl (tf_1_10 hn) ?_
    obtain ⟨v24, hy2, h2⟩ := bindC h1
    have hJ2 : lQ R E 1 cd_572 24 [(0, .ref (adr ad 0)), (1, .int v1), (2, .int v2)] [.int v24, .int v14, .ref (adr ad 0)] (tp ad s A0) Z := by
      obtain ⟨x2, hx, h2⟩ := bindC h2
      refine lQ.callVI (F := (fun y A => x2.1 = y ∧ A = tp ad x2.2 A0)) (G := fun _ _ => False) (args := [.ref (adr ad 0), .int v14, .int v24]) (r := []) hR rfl rfl rfl (Nat.le_of_ble_eq_true rfl) (Nat.le_of_ble_eq_true rfl) rfl (tk_0 hn rfl) (ts_558 hR hn hx (cI_mk ⟨rfl, rfl⟩)) ?_ (fun _ _ _ z => z.elim)
      rintro _ _ ⟨rfl, rfl⟩
      rcases iteC h2 with ⟨hc, h2⟩ | ⟨hc, h2⟩
      · refine lQ.ifF rfl (decide_eq_false (fun z => z hc)) ?_
        refine lQ.push rfl ?_
        obtain rfl := Option.some.inj h2
        exact lQ.retI rfl rfl hz
      · refine lQ.ifT rfl (decide_eq_true hc) ?_
        refine lQ.loadN rfl rfl ?_
        refine lQ.get hR rfl (tf_0_3 hn) ?_
        refine lQ.get hR rfl (tf_1_25 hn) ?_
        refine lQ.loadI rfl rfl ?_
        obtain ⟨x3, hx, h2⟩ := bindC h2
        refine lQ.ald hR rfl (ta_64 hn hx) ?_
        refine lQ.stI rfl (lN2s rfl rfl) ?_
        refine lQ.loadN rfl rfl ?_
        refine lQ.get hR rfl (tf_0_3 hn) ?_
        refine lQ.get hR rfl (tf_1_25 hn) ?_
        refine lQ.loadI rfl rfl ?_
        refine lQ.loadI rfl rfl ?_
        obtain ⟨s4, hx, h2⟩ := bindC h2
        refine lQ.ast hR rfl (tw_64 hn hx) ?_
        rintro _ rfl
        refine lQ.loadI rfl rfl ?_
        obtain rfl := Option.some.inj h2
        exact lQ.retI rfl rfl hz
    rcases iteC hy2 with ⟨hc, hy2⟩ | ⟨hc, hy2⟩
    · refine lQ.ifT rfl (decide_eq_true hc) ?_
      refine lQ.push rfl ?_
      obtain rfl := Option.some.inj hy2
      exact lQ.sub (lSb rfl (lSb rfl (lSb rfl lSb0))) hJ2
    · refine lQ.ifF rfl (decide_eq_false hc) ?_
      refine lQ.loadN rfl rfl ?_
      refine lQ.get hR rfl (tf_0_1 hn) ?_
      rcases iteC hy2 with ⟨hc, hy2⟩ | ⟨hc, hy2⟩
      · refine lQ.ifF rfl (decide_eq_false (fun z => z hc)) ?_
        refine lQ.push rfl ?_
        refine lQ.goto rfl ?_
        obtain rfl := Option.some.inj hy2
        exact lQ.sub (lSb rfl (lSb rfl (lSb rfl lSb0))) hJ2
      · refine lQ.ifT rfl (decide_eq_true hc) ?_
        refine lQ.push rfl ?_
        obtain rfl := Option.some.inj hy2
        exact lQ.sub (lSb rfl (lSb rfl (lSb rfl lSb0))) hJ2
  rcases iteC hy1 with ⟨hc, hy1⟩ | ⟨hc, hy1⟩
  · refine lQ.ifT rfl (decide_eq_true hc) ?_
    refine lQ.push rfl ?_
    obtain rfl := Option.some.inj hy1
    exact lQ.sub (lSb rfl (lSb rfl (lSb rfl lSb0))) hJ1
  · refine lQ.ifF rfl (decide_eq_false hc) ?_
    refine lQ.loadI rfl rfl ?_
    rcases iteC hy1 with ⟨hc, hy1⟩ | ⟨hc, hy1⟩
    · refine lQ.ifT rfl (decide_eq_true hc) ?_
      refine lQ.push rfl ?_
      obtain rfl := Option.some.inj hy1
      exact lQ.sub (lSb rfl (lSb rfl (lSb rfl lSb0))) hJ1
    · refine lQ.ifF rfl (decide_eq_false hc) ?_
      refine lQ.loadI rfl rfl ?_
      refine lQ.push rfl ?_
      rcases iteC hy1 with ⟨hc, hy1⟩ | ⟨hc, hy1⟩
      · refine lQ.cmpT rfl (decide_eq_true hc) ?_
        refine lQ.push rfl ?_
        obtain rfl := Option.some.inj hy1
        exact lQ.sub (lSb rfl (lSb rfl (lSb rfl lSb0))) hJ1
      · refine lQ.cmpF rfl (decide_eq_false hc) ?_
        refine lQ.push rfl ?_
        refine lQ.goto rfl ?_
        obtain rfl := Option.some.inj hy1
        exact lQ.sub (lSb rfl (lSb rfl (lSb rfl lSb0))) hJ1
theorem ts_573 {R : lAR} (hR : lRok R) {E : lE} {ad : List Nat} (hn : tOk ad) {v1 : Int32} {s : TS} {A0 : lMem} {x : Int32 × TS} (h : t_573 v1 s = some x) {Z : lZ} (hz : Z (.inl (some (.int x.1))) (tp ad x.2 A0)) : lSQ R E 2 573 [.ref (adr ad 0), .int v1] (tp ad s A0) Z := by
  refine lQ.sq pg_573 (Nat.le_of_ble_eq_true rfl) rfl ?_
  unfold t_573 at h
  refine lQ.loadN rfl rfl ?_
  refine lQ.loadN rfl rfl ?_
  refine lQ.get hR rfl (tf_0_3 hn) ?_
  refine lQ.loadI rfl rfl ?_
  obtain ⟨x1, hx, h⟩ := bindC h
  refine lQ.callVI (F := (fun y A => x1 = y ∧ A = tp ad s A0)) (G := fun _ _ => False) (args := [.ref (adr ad 1), .int v1]) (r := [.ref (adr ad 0)]) hR rfl rfl rfl (Nat.le_of_ble_eq_true rfl) (Nat.le_of_ble_eq_true rfl) rfl (tk_1 hn rfl) (ts_708 hR hn hx (cI_mk ⟨rfl, rfl⟩)) ?_ (fun _ _ _ z => z.elim)
  rintro _ _ ⟨rfl, rfl⟩
  refine lQ.loadN rfl rfl ?_
  refine lQ.get hR rfl (tf_0_3 hn) ?_
  refine lQ.get hR rfl (tf_1_10 hn) ?_
  obtain ⟨x2, hx, h⟩ := bindC h
  refine lQ.callVI (F := (fun y A => x2.1 = y ∧ A = tp ad x2.2 A0)) (G := fun _ _ => False) (args := [.ref (adr ad 0), .int x1, .int (s.1 110)]) (r := []) hR rfl rfl rfl (Nat.le_of_ble_eq_true rfl) (Nat.le_of_ble_eq_true rfl) rfl (tk_0 hn rfl) (ts_558 hR hn hx (cI_mk ⟨rfl, rfl⟩)) ?_ (fun _ _ _ z => z.elim)
  rintro _ _ ⟨rfl, rfl⟩
  rcases iteC h with ⟨hc, h⟩ | ⟨hc, h⟩
  · refine lQ.ifT rfl (decide_eq_true hc) ?_
    refine lQ.push rfl ?_
    obtain rfl := Option.some.inj h
    exact lQ.retI rfl rfl hz
  · refine lQ.ifF rfl (decide_eq_false hc) ?_
    refine lQ.loadN rfl rfl ?_
    refine lQ.get hR rfl (tf_0_3 hn) ?_
    refine lQ.get hR rfl (tf_1_25 hn) ?_
    refine lQ.loadI rfl rfl ?_
    obtain ⟨x3, hx, h⟩ := bindC h
    refine lQ.ald hR rfl (ta_64 hn hx) ?_
    refine lQ.goto rfl ?_
    obtain rfl := Option.some.inj h
    exact lQ.retI rfl rfl hz
theorem ts_731 {R : lAR} (hR : lRok R) {E : lE} {ad : List Nat} (hn : tOk ad) {v0 : Int64} {v2 : Int32} {s : TS} {A0 : lMem} {x : Int32} (h : t_731 v0 v2 s = some x) {Z : lZ} (hz : Z (.inl (some (.int x))) (tp ad s A0)) : lSQ R E 1 731 [.long v0, .int v2] (tp ad s A0) Z := by
  refine lQ.sq pg_731 (Nat.le_of_ble_eq_true rfl) rfl ?_
  unfold t_731 at h
  refine lQ.loadL rfl rfl ?_
  refine lQ.push rfl ?_
  refine lQ.loadI rfl rfl ?_
  refine lQ.binI rfl ?_
  refine lQ.shL rfl ?_
  refine lQ.push rfl ?_
  refine lQ.binL rfl ?_
  refine lQ.l2i rfl ?_
  obtain rfl := Option.some.inj h
  exact lQ.retI rfl rfl hz
