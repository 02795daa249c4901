/-! the law's walk: cases -/
section LC
variable {R : lAR} {E : lE} {ad : List Nat} {b n : Nat} {f : Nat → Int32} {h1 o1 o i K N : Nat} {y : lY} {s : CS} {A : lMem} {own : Nat → Nat} {t : TS} {Z : lZ}
theorem lc_line (hR : lRok R) (hJ : JAll R E) (hn : tOk ad) (hn8 : n ≤ 448) (hi : i + 7 ≤ n) (h : LV E ad b n f h1 o1 o y s A own t K N) (hK : K < 900) (hc : s.2.2.1 < 3800000000) (k : LK R E b n f h1 o1 o i s own t K N 5 35 Z) : lQ R E 1625 cd_L 25 (LL ad b h1 o1 i) [] (cp y s A) Z := by
  obtain ⟨hI, r, f1, f3⟩ := h
  obtain ⟨kk, S, x, t', own', K', N', c1, d1, th, ov, r', kK, kc, ks⟩ := lwa_line r (f (i + 1)) (f (i + 2)) (f (i + 3)) (f (i + 4))
  refine lQ.loadN (cLg 25 rfl) rfl ?_
  refine lQ.loadN (cLg 26 rfl) rfl ?_
  refine lQ.loadI (cLg 27 rfl) rfl ?_
  refine lQ.push (cLg 28 rfl) ?_
  refine lQ.binI (cLg 29 rfl) ?_
  refine lQ.ald hR (cLg 30 rfl) (hI.scr hn8 1 (by omega)) ?_
  refine lQ.loadN (cLg 31 rfl) rfl ?_
  refine lQ.loadI (cLg 32 rfl) rfl ?_
  refine lQ.push (cLg 33 rfl) ?_
  refine lQ.binI (cLg 34 rfl) ?_
  refine lQ.ald hR (cLg 35 rfl) (hI.scr hn8 2 (by omega)) ?_
  refine lQ.loadN (cLg 36 rfl) rfl ?_
  refine lQ.loadI (cLg 37 rfl) rfl ?_
  refine lQ.push (cLg 38 rfl) ?_
  refine lQ.binI (cLg 39 rfl) ?_
  refine lQ.ald hR (cLg 40 rfl) (hI.scr hn8 3 (by omega)) ?_
  refine lQ.loadN (cLg 41 rfl) rfl ?_
  refine lQ.loadI (cLg 42 rfl) rfl ?_
  refine lQ.push (cLg 43 rfl) ?_
  refine lQ.binI (cLg 44 rfl) ?_
  refine lQ.ald hR (cLg 45 rfl) (hI.scr hn8 4 (by omega)) ?_
  refine lQ.loadN (cLg 46 rfl) rfl ?_
  refine lQ.callG (args := [.ref h1, .int (f (i + 1)), .int (f (i + 2)), .int (f (i + 3)), .int (f (i + 4)), .ref o1]) (r := []) hR (cLg 47 rfl) rfl rfl (Nat.le_of_ble_eq_true rfl) (Nat.le_of_ble_eq_true rfl) (cs_312 hR hJ hI.1 (w0 := some h1) (w5 := some o1) f1 f3 c1) ?_ (fun _ _ _ z => by cases z.1)
  rintro _ _ ⟨e_, y, A, hW, hX, rfl⟩
  cases e_
  have f1 := hX.1 _ _ f1
  have f3 := hX.1 _ _ f3
  have hI := hI.ext hW hX
  refine lQ.stI (cLg 48 rfl) (lN2s rfl rfl) ?_
  refine lQ.loadN (cLg 49 rfl) rfl ?_
  refine lQ.loadN (cLg 50 rfl) rfl ?_
  refine lQ.loadI (cLg 51 rfl) rfl ?_
  refine lQ.push (cLg 52 rfl) ?_
  refine lQ.binI (cLg 53 rfl) ?_
  refine lQ.ald hR (cLg 54 rfl) (hI.scr hn8 1 (by omega)) ?_
  refine lQ.loadN (cLg 55 rfl) rfl ?_
  refine lQ.loadI (cLg 56 rfl) rfl ?_
  refine lQ.push (cLg 57 rfl) ?_
  refine lQ.binI (cLg 58 rfl) ?_
  refine lQ.ald hR (cLg 59 rfl) (hI.scr hn8 2 (by omega)) ?_
  refine lQ.loadN (cLg 60 rfl) rfl ?_
  refine lQ.loadI (cLg 61 rfl) rfl ?_
  refine lQ.push (cLg 62 rfl) ?_
  refine lQ.binI (cLg 63 rfl) ?_
  refine lQ.ald hR (cLg 64 rfl) (hI.scr hn8 3 (by omega)) ?_
  refine lQ.loadN (cLg 65 rfl) rfl ?_
  refine lQ.loadI (cLg 66 rfl) rfl ?_
  refine lQ.push (cLg 67 rfl) ?_
  refine lQ.binI (cLg 68 rfl) ?_
  refine lQ.ald hR (cLg 69 rfl) (hI.scr hn8 4 (by omega)) ?_
  rw [hI.sw]
  refine lQ.callVI (F := fun z B => x = z ∧ B = tp ad t' (cp y S A)) (G := fun _ _ => False) (args := [.ref (adr ad 0), .int (f (i + 1)), .int (f (i + 2)), .int (f (i + 3)), .int (f (i + 4))]) (r := []) hR (cLg 70 rfl) rfl rfl (Nat.le_of_ble_eq_true rfl) (Nat.le_of_ble_eq_true rfl) rfl (tk_0 hn rfl) (ts_557 hR hn d1 (cI_mk ⟨rfl, rfl⟩)) ?_ (fun _ _ _ z => z.elim)
  rintro _ _ ⟨rfl, rfl⟩
  refine lQ.stI (cLg 71 rfl) (lN2s rfl rfl) ?_
  refine lQ.loadN (cLg 72 rfl) rfl ?_
  refine lQ.callVI (F := fun z B => t'.1 0 = z ∧ B = tp ad t' (cp y S A)) (G := fun _ _ => False) (args := [.ref (adr ad 0)]) (r := []) hR (cLg 73 rfl) rfl rfl (Nat.le_of_ble_eq_true rfl) (Nat.le_of_ble_eq_true rfl) rfl (tk_0 hn rfl) (ts_556 hR hn (x := t'.1 0) rfl (cI_mk ⟨rfl, rfl⟩)) ?_ (fun _ _ _ z => z.elim)
  rintro _ _ ⟨rfl, rfl⟩
  rw [hI.mv SDa.rf t']
  have hI := hI.tw SDa.rf t'
  refine lQ.loadI (cLg 74 rfl) rfl ?_
  refine lQ.cmpT (cLg 75 rfl) (decide_eq_true th) ?_
  refine lQ.loadI (cLg 78 rfl) rfl ?_
  by_cases hk : kk = 0
  · refine lQ.ifF (cLg 79 rfl) (decide_eq_false (fun z => z hk)) ?_
    have hv := ov _ hk rfl
    have g3 := LV_out hI.1 f3 hv
    refine lQ.loadN (cLg 80 rfl) rfl ?_
    refine lQ.push (cLg 81 rfl) ?_
    refine lQ.ald hR (cLg 82 rfl) g3 ?_
    refine lQ.loadI (cLg 83 rfl) rfl ?_
    refine lQ.i2l (cLg 84 rfl) ?_
    refine lQ.lcmp (cLg 85 rfl) ?_
    refine lQ.ifT (cLg 86 rfl) (decide_eq_true (lg_cmp_rf _)) ?_
    refine lQ.goto (cLg 89 rfl) ?_
    exact lQ.sub (LLs (by rfl) (by rfl) (by rfl) (by rfl) (by rfl)) (k _ _ _ _ _ _ _ _ hn ⟨hI, r', f1, f3⟩ kK kc ks ((k1_557 K1N.rf).2 _ d1).2)
  · refine lQ.ifT (cLg 79 rfl) (decide_eq_true hk) ?_
    refine lQ.goto (cLg 89 rfl) ?_
    exact lQ.sub (LLs (by rfl) (by rfl) (by rfl) (by rfl) (by rfl)) (k _ _ _ _ _ _ _ _ hn ⟨hI, r', f1, f3⟩ kK kc ks ((k1_557 K1N.rf).2 _ d1).2)
theorem lc_move (hR : lRok R) (hJ : JAll R E) (hn : tOk ad) (hn8 : n ≤ 448) (hi : i + 7 ≤ n) (h : LV E ad b n f h1 o1 o y s A own t K N) (hK : K < 900) (hc : s.2.2.1 < 3800000000) (k : LK R E b n f h1 o1 o i s own t K N 2 10 Z) : lQ R E 1625 cd_L 90 (LL ad b h1 o1 i) [] (cp y s A) Z := by
  obtain ⟨hI, r, f1, f3⟩ := h
  obtain ⟨kk, S, x, t', own', K', N', c1, d1, th, ov, r', kK, kc, ks⟩ := lwa_move r (f (i + 1)) (f (i + 2)) (f (i + 3))
  refine lQ.loadN (cLg 90 rfl) rfl ?_
  refine lQ.loadN (cLg 91 rfl) rfl ?_
  refine lQ.loadI (cLg 92 rfl) rfl ?_
  refine lQ.push (cLg 93 rfl) ?_
  refine lQ.binI (cLg 94 rfl) ?_
  refine lQ.ald hR (cLg 95 rfl) (hI.scr hn8 1 (by omega)) ?_
  refine lQ.loadN (cLg 96 rfl) rfl ?_
  refine lQ.loadI (cLg 97 rfl) rfl ?_
  refine lQ.push (cLg 98 rfl) ?_
  refine lQ.binI (cLg 99 rfl) ?_
  refine lQ.ald hR (cLg 100 rfl) (hI.scr hn8 2 (by omega)) ?_
  refine lQ.loadN (cLg 101 rfl) rfl ?_
  refine lQ.loadI (cLg 102 rfl) rfl ?_
  refine lQ.push (cLg 103 rfl) ?_
  refine lQ.binI (cLg 104 rfl) ?_
  refine lQ.ald hR (cLg 105 rfl) (hI.scr hn8 3 (by omega)) ?_
  refine lQ.loadN (cLg 106 rfl) rfl ?_
  refine lQ.callG (args := [.ref h1, .int (f (i + 1)), .int (f (i + 2)), .int (f (i + 3)), .ref o1]) (r := []) hR (cLg 107 rfl) rfl rfl (Nat.le_of_ble_eq_true rfl) (Nat.le_of_ble_eq_true rfl) (cs_313 hR hJ hI.1 (w0 := some h1) (w4 := some o1) f1 f3 c1) ?_ (fun _ _ _ z => by cases z.1)
  rintro _ _ ⟨e_, y, A, hW, hX, rfl⟩
  cases e_
  have f1 := hX.1 _ _ f1
  have f3 := hX.1 _ _ f3
  have hI := hI.ext hW hX
  refine lQ.stI (cLg 108 rfl) (lN2s rfl rfl) ?_
  refine lQ.loadN (cLg 109 rfl) rfl ?_
  refine lQ.loadN (cLg 110 rfl) rfl ?_
  refine lQ.loadI (cLg 111 rfl) rfl ?_
  refine lQ.push (cLg 112 rfl) ?_
  refine lQ.binI (cLg 113 rfl) ?_
  refine lQ.ald hR (cLg 114 rfl) (hI.scr hn8 1 (by omega)) ?_
  refine lQ.loadN (cLg 115 rfl) rfl ?_
  refine lQ.loadI (cLg 116 rfl) rfl ?_
  refine lQ.push (cLg 117 rfl) ?_
  refine lQ.binI (cLg 118 rfl) ?_
  refine lQ.ald hR (cLg 119 rfl) (hI.scr hn8 2 (by omega)) ?_
  refine lQ.loadN (cLg 120 rfl) rfl ?_
  refine lQ.loadI (cLg 121 rfl) rfl ?_
  refine lQ.push (cLg 122 rfl) ?_
  refine lQ.binI (cLg 123 rfl) ?_
  refine lQ.ald hR (cLg 124 rfl) (hI.scr hn8 3 (by omega)) ?_
  rw [hI.sw]
  refine lQ.callVI (F := fun z B => x = z ∧ B = tp ad t' (cp y S A)) (G := fun _ _ => False) (args := [.ref (adr ad 0), .int (f (i + 1)), .int (f (i + 2)), .int (f (i + 3))]) (r := []) hR (cLg 125 rfl) rfl rfl (Nat.le_of_ble_eq_true rfl) (Nat.le_of_ble_eq_true rfl) rfl (tk_0 hn rfl) (ts_559 hR hn d1 (cI_mk ⟨rfl, rfl⟩)) ?_ (fun _ _ _ z => z.elim)
  rintro _ _ ⟨rfl, rfl⟩
  refine lQ.stI (cLg 126 rfl) (lN2s rfl rfl) ?_
  refine lQ.loadN (cLg 127 rfl) rfl ?_
  refine lQ.callVI (F := fun z B => t'.1 0 = z ∧ B = tp ad t' (cp y S A)) (G := fun _ _ => False) (args := [.ref (adr ad 0)]) (r := []) hR (cLg 128 rfl) rfl rfl (Nat.le_of_ble_eq_true rfl) (Nat.le_of_ble_eq_true rfl) rfl (tk_0 hn rfl) (ts_556 hR hn (x := t'.1 0) rfl (cI_mk ⟨rfl, rfl⟩)) ?_ (fun _ _ _ z => z.elim)
  rintro _ _ ⟨rfl, rfl⟩
  rw [hI.mv SDa.rf t']
  have hI := hI.tw SDa.rf t'
  refine lQ.loadI (cLg 129 rfl) rfl ?_
  refine lQ.cmpT (cLg 130 rfl) (decide_eq_true th) ?_
  refine lQ.loadI (cLg 133 rfl) rfl ?_
  by_cases hk : kk = 0
  · refine lQ.ifF (cLg 134 rfl) (decide_eq_false (fun z => z hk)) ?_
    have hv := ov _ hk rfl
    have g3 := LV_out hI.1 f3 hv
    refine lQ.loadN (cLg 135 rfl) rfl ?_
    refine lQ.push (cLg 136 rfl) ?_
    refine lQ.ald hR (cLg 137 rfl) g3 ?_
    refine lQ.loadI (cLg 138 rfl) rfl ?_
    by_cases hx : x = 0
    · refine lQ.ifT (cLg 139 rfl) (decide_eq_true hx) ?_
      refine lQ.push (cLg 142 rfl) ?_
      rw [if_pos hx]
      refine lQ.lcmp (cLg 143 rfl) ?_
      refine lQ.ifT (cLg 144 rfl) (decide_eq_true (lg_cmp_rf _)) ?_
      refine lQ.goto (cLg 147 rfl) ?_
      exact lQ.sub (LLs (by rfl) (by rfl) (by rfl) (by rfl) (by rfl)) (k _ _ _ _ _ _ _ _ hn ⟨hI, r', f1, f3⟩ kK kc ks ((k1_559 K1N.rf).2 _ d1).2)
    · refine lQ.ifF (cLg 139 rfl) (decide_eq_false hx) ?_
      refine lQ.push (cLg 140 rfl) ?_
      refine lQ.goto (cLg 141 rfl) ?_
      rw [if_neg hx]
      refine lQ.lcmp (cLg 143 rfl) ?_
      refine lQ.ifT (cLg 144 rfl) (decide_eq_true (lg_cmp_rf _)) ?_
      refine lQ.goto (cLg 147 rfl) ?_
      exact lQ.sub (LLs (by rfl) (by rfl) (by rfl) (by rfl) (by rfl)) (k _ _ _ _ _ _ _ _ hn ⟨hI, r', f1, f3⟩ kK kc ks ((k1_559 K1N.rf).2 _ d1).2)
  · refine lQ.ifT (cLg 134 rfl) (decide_eq_true hk) ?_
    refine lQ.goto (cLg 147 rfl) ?_
    exact lQ.sub (LLs (by rfl) (by rfl) (by rfl) (by rfl) (by rfl)) (k _ _ _ _ _ _ _ _ hn ⟨hI, r', f1, f3⟩ kK kc ks ((k1_559 K1N.rf).2 _ d1).2)
theorem lc_door (hR : lRok R) (hJ : JAll R E) (hn : tOk ad) (hn8 : n ≤ 448) (hi : i + 7 ≤ n) (h : LV E ad b n f h1 o1 o y s A own t K N) (hK : K < 900) (hc : s.2.2.1 < 3800000000) (k : LK R E b n f h1 o1 o i s own t K N 3 25 Z) : lQ R E 1625 cd_L 148 (LL ad b h1 o1 i) [] (cp y s A) Z := by
  obtain ⟨hI, r, f1, f3⟩ := h
  obtain ⟨kk, S, x, t', own', K', N', c1, d1, th, ov, r', kK, kc, ks⟩ := lwa_door r (f (i + 1)) (f (i + 2)) (f (i + 3)) (f (i + 4))
  refine lQ.loadN (cLg 148 rfl) rfl ?_
  refine lQ.loadN (cLg 149 rfl) rfl ?_
  refine lQ.loadI (cLg 150 rfl) rfl ?_
  refine lQ.push (cLg 151 rfl) ?_
  refine lQ.binI (cLg 152 rfl) ?_
  refine lQ.ald hR (cLg 153 rfl) (hI.scr hn8 1 (by omega)) ?_
  refine lQ.loadN (cLg 154 rfl) rfl ?_
  refine lQ.loadI (cLg 155 rfl) rfl ?_
  refine lQ.push (cLg 156 rfl) ?_
  refine lQ.binI (cLg 157 rfl) ?_
  refine lQ.ald hR (cLg 158 rfl) (hI.scr hn8 2 (by omega)) ?_
  refine lQ.loadN (cLg 159 rfl) rfl ?_
  refine lQ.loadI (cLg 160 rfl) rfl ?_
  refine lQ.push (cLg 161 rfl) ?_
  refine lQ.binI (cLg 162 rfl) ?_
  refine lQ.ald hR (cLg 163 rfl) (hI.scr hn8 3 (by omega)) ?_
  refine lQ.loadN (cLg 164 rfl) rfl ?_
  refine lQ.loadI (cLg 165 rfl) rfl ?_
  refine lQ.push (cLg 166 rfl) ?_
  refine lQ.binI (cLg 167 rfl) ?_
  refine lQ.ald hR (cLg 168 rfl) (hI.scr hn8 4 (by omega)) ?_
  refine lQ.loadN (cLg 169 rfl) rfl ?_
  refine lQ.callG (args := [.ref h1, .int (f (i + 1)), .int (f (i + 2)), .int (f (i + 3)), .int (f (i + 4)), .ref o1]) (r := []) hR (cLg 170 rfl) rfl rfl (Nat.le_of_ble_eq_true rfl) (Nat.le_of_ble_eq_true rfl) (cs_314 hR hJ hI.1 (w0 := some h1) (w5 := some o1) f1 f3 c1) ?_ (fun _ _ _ z => by cases z.1)
  rintro _ _ ⟨e_, y, A, hW, hX, rfl⟩
  cases e_
  have f1 := hX.1 _ _ f1
  have f3 := hX.1 _ _ f3
  have hI := hI.ext hW hX
  refine lQ.stI (cLg 171 rfl) (lN2s rfl rfl) ?_
  refine lQ.loadN (cLg 172 rfl) rfl ?_
  refine lQ.loadN (cLg 173 rfl) rfl ?_
  refine lQ.loadI (cLg 174 rfl) rfl ?_
  refine lQ.push (cLg 175 rfl) ?_
  refine lQ.binI (cLg 176 rfl) ?_
  refine lQ.ald hR (cLg 177 rfl) (hI.scr hn8 1 (by omega)) ?_
  refine lQ.loadN (cLg 178 rfl) rfl ?_
  refine lQ.loadI (cLg 179 rfl) rfl ?_
  refine lQ.push (cLg 180 rfl) ?_
  refine lQ.binI (cLg 181 rfl) ?_
  refine lQ.ald hR (cLg 182 rfl) (hI.scr hn8 2 (by omega)) ?_
  refine lQ.loadN (cLg 183 rfl) rfl ?_
  refine lQ.loadI (cLg 184 rfl) rfl ?_
  refine lQ.push (cLg 185 rfl) ?_
  refine lQ.binI (cLg 186 rfl) ?_
  refine lQ.ald hR (cLg 187 rfl) (hI.scr hn8 3 (by omega)) ?_
  refine lQ.loadN (cLg 188 rfl) rfl ?_
  refine lQ.loadI (cLg 189 rfl) rfl ?_
  refine lQ.push (cLg 190 rfl) ?_
  refine lQ.binI (cLg 191 rfl) ?_
  refine lQ.ald hR (cLg 192 rfl) (hI.scr hn8 4 (by omega)) ?_
  rw [hI.sw]
  refine lQ.callVI (F := fun z B => x = z ∧ B = tp ad t' (cp y S A)) (G := fun _ _ => False) (args := [.ref (adr ad 0), .int (f (i + 1)), .int (f (i + 2)), .int (f (i + 3)), .int (f (i + 4))]) (r := []) hR (cLg 193 rfl) rfl rfl (Nat.le_of_ble_eq_true rfl) (Nat.le_of_ble_eq_true rfl) rfl (tk_0 hn rfl) (ts_561 hR hn d1 (cI_mk ⟨rfl, rfl⟩)) ?_ (fun _ _ _ z => z.elim)
  rintro _ _ ⟨rfl, rfl⟩
  refine lQ.stI (cLg 194 rfl) (lN2s rfl rfl) ?_
  refine lQ.loadN (cLg 195 rfl) rfl ?_
  refine lQ.callVI (F := fun z B => t'.1 0 = z ∧ B = tp ad t' (cp y S A)) (G := fun _ _ => False) (args := [.ref (adr ad 0)]) (r := []) hR (cLg 196 rfl) rfl rfl (Nat.le_of_ble_eq_true rfl) (Nat.le_of_ble_eq_true rfl) rfl (tk_0 hn rfl) (ts_556 hR hn (x := t'.1 0) rfl (cI_mk ⟨rfl, rfl⟩)) ?_ (fun _ _ _ z => z.elim)
  rintro _ _ ⟨rfl, rfl⟩
  rw [hI.mv SDa.rf t']
  have hI := hI.tw SDa.rf t'
  refine lQ.loadI (cLg 197 rfl) rfl ?_
  refine lQ.cmpT (cLg 198 rfl) (decide_eq_true th) ?_
  refine lQ.loadI (cLg 201 rfl) rfl ?_
  by_cases hk : kk = 0
  · refine lQ.ifF (cLg 202 rfl) (decide_eq_false (fun z => z hk)) ?_
    have hv := ov _ hk rfl
    have g3 := LV_out hI.1 f3 hv
    refine lQ.loadN (cLg 203 rfl) rfl ?_
    refine lQ.push (cLg 204 rfl) ?_
    refine lQ.ald hR (cLg 205 rfl) g3 ?_
    refine lQ.loadI (cLg 206 rfl) rfl ?_
    refine lQ.i2l (cLg 207 rfl) ?_
    refine lQ.lcmp (cLg 208 rfl) ?_
    refine lQ.ifT (cLg 209 rfl) (decide_eq_true (lg_cmp_rf _)) ?_
    refine lQ.goto (cLg 212 rfl) ?_
    exact lQ.sub (LLs (by rfl) (by rfl) (by rfl) (by rfl) (by rfl)) (k _ _ _ _ _ _ _ _ hn ⟨hI, r', f1, f3⟩ kK kc ks ((k1_561 K1N.rf).2 _ d1).2)
  · refine lQ.ifT (cLg 202 rfl) (decide_eq_true hk) ?_
    refine lQ.goto (cLg 212 rfl) ?_
    exact lQ.sub (LLs (by rfl) (by rfl) (by rfl) (by rfl) (by rfl)) (k _ _ _ _ _ _ _ _ hn ⟨hI, r', f1, f3⟩ kK kc ks ((k1_561 K1N.rf).2 _ d1).2)
theorem lc_find (hR : lRok R) (hJ : JAll R E) (hn : tOk ad) (hn8 : n ≤ 448) (hi : i + 7 ≤ n) (h : LV E ad b n f h1 o1 o y s A own t K N) (hK : K < 900) (hc : s.2.2.1 < 3800000000) (k : LK R E b n f h1 o1 o i s own t K N 8001 91006 Z) : lQ R E 1625 cd_L 213 (LL ad b h1 o1 i) [] (cp y s A) Z := by
  obtain ⟨hI, r, f1, f3⟩ := h
  obtain ⟨kk, S, x, t', own', K', N', c1, d1, th, ov, r', kK, kc, ks⟩ := lwa_find r hc
  refine lQ.loadN (cLg 213 rfl) rfl ?_
  refine lQ.loadN (cLg 214 rfl) rfl ?_
  refine lQ.callG (args := [.ref h1, .ref o1]) (r := []) hR (cLg 215 rfl) rfl rfl (Nat.le_of_ble_eq_true rfl) (Nat.le_of_ble_eq_true rfl) (cs_315 hR hJ hI.1 (w0 := some h1) (w1 := some o1) f1 f3 c1) ?_ (fun _ _ _ z => by cases z.1)
  rintro _ _ ⟨e_, y, A, hW, hX, rfl⟩
  cases e_
  have f1 := hX.1 _ _ f1
  have f3 := hX.1 _ _ f3
  have hI := hI.ext hW hX
  refine lQ.stI (cLg 216 rfl) (lN2s rfl rfl) ?_
  refine lQ.loadN (cLg 217 rfl) rfl ?_
  rw [hI.sw]
  refine lQ.callVI (F := fun z B => x = z ∧ ∃ ad2, tOk ad2 ∧ SDa ad ad2 ∧ adr ad2 0 = adr ad 0 ∧ B = tp ad2 t' (cp y S A)) (G := fun _ _ => False) (args := [.ref (adr ad 0)]) (r := []) hR (cLg 218 rfl) rfl rfl (Nat.le_of_ble_eq_true rfl) (Nat.le_of_ble_eq_true rfl) rfl (tk_0 hn rfl) (ts_562 hR hn d1 (fun ad2 h2 => cI_mk ⟨rfl, ad2, swp_fit hn h2⟩)) ?_ (fun _ _ _ z => z.elim)
  rintro _ _ ⟨rfl, ad2, hn2, hd, ea, rfl⟩
  have eL : LL ad b h1 o1 i = LL ad2 b h1 o1 i := by unfold LL; rw [ea]
  rw [eL]
  refine lQ.stI (cLg 219 rfl) (lN2s rfl rfl) ?_
  refine lQ.loadN (cLg 220 rfl) rfl ?_
  refine lQ.callVI (F := fun z B => t'.1 0 = z ∧ B = tp ad2 t' (cp y S A)) (G := fun _ _ => False) (args := [.ref (adr ad2 0)]) (r := []) hR (cLg 221 rfl) rfl rfl (Nat.le_of_ble_eq_true rfl) (Nat.le_of_ble_eq_true rfl) rfl (tk_0 hn2 rfl) (ts_556 hR hn2 (x := t'.1 0) rfl (cI_mk ⟨rfl, rfl⟩)) ?_ (fun _ _ _ z => z.elim)
  rintro _ _ ⟨rfl, rfl⟩
  rw [hI.mv hd t']
  have hI := hI.tw hd t'
  refine lQ.loadI (cLg 222 rfl) rfl ?_
  refine lQ.cmpT (cLg 223 rfl) (decide_eq_true th) ?_
  refine lQ.loadI (cLg 226 rfl) rfl ?_
  by_cases hk : kk = 0
  · refine lQ.ifF (cLg 227 rfl) (decide_eq_false (fun z => z hk)) ?_
    have hv := ov _ hk rfl
    have g3 := LV_out hI.1 f3 hv
    refine lQ.loadN (cLg 228 rfl) rfl ?_
    refine lQ.push (cLg 229 rfl) ?_
    refine lQ.ald hR (cLg 230 rfl) g3 ?_
    refine lQ.loadI (cLg 231 rfl) rfl ?_
    refine lQ.i2l (cLg 232 rfl) ?_
    refine lQ.lcmp (cLg 233 rfl) ?_
    refine lQ.ifT (cLg 234 rfl) (decide_eq_true (lg_cmp_rf _)) ?_
    refine lQ.goto (cLg 237 rfl) ?_
    exact lQ.sub (LLs (by rfl) (by rfl) (by rfl) (by rfl) (by rfl)) (k _ _ _ _ _ _ _ _ hn2 ⟨hI, r', f1, f3⟩ kK kc ks ((k1_562 K1N.rf).2 _ d1).2)
  · refine lQ.ifT (cLg 227 rfl) (decide_eq_true hk) ?_
    refine lQ.goto (cLg 237 rfl) ?_
    exact lQ.sub (LLs (by rfl) (by rfl) (by rfl) (by rfl) (by rfl)) (k _ _ _ _ _ _ _ _ hn2 ⟨hI, r', f1, f3⟩ kK kc ks ((k1_562 K1N.rf).2 _ d1).2)
theorem lc_count (hR : lRok R) (hJ : JAll R E) (hn : tOk ad) (hn8 : n ≤ 448) (hi : i + 7 ≤ n) (h : LV E ad b n f h1 o1 o y s A own t K N) (hK : K < 900) (hc : s.2.2.1 < 3800000000) (k : LK R E b n f h1 o1 o i s own t K N 2 10 Z) : lQ R E 1625 cd_L 238 (LL ad b h1 o1 i) [] (cp y s A) Z := by
  obtain ⟨hI, r, f1, f3⟩ := h
  obtain ⟨kk, S, x, t', own', K', N', c1, d1, th, ov, r', kK, kc, ks⟩ := lwa_count r (f (i + 1))
  refine lQ.loadN (cLg 238 rfl) rfl ?_
  refine lQ.loadN (cLg 239 rfl) rfl ?_
  refine lQ.loadI (cLg 240 rfl) rfl ?_
  refine lQ.push (cLg 241 rfl) ?_
  refine lQ.binI (cLg 242 rfl) ?_
  refine lQ.ald hR (cLg 243 rfl) (hI.scr hn8 1 (by omega)) ?_
  refine lQ.loadN (cLg 244 rfl) rfl ?_
  refine lQ.callG (args := [.ref h1, .int (f (i + 1)), .ref o1]) (r := []) hR (cLg 245 rfl) rfl rfl (Nat.le_of_ble_eq_true rfl) (Nat.le_of_ble_eq_true rfl) (cs_316 hR hJ hI.1 (w0 := some h1) (w2 := some o1) f1 f3 c1) ?_ (fun _ _ _ z => by cases z.1)
  rintro _ _ ⟨e_, y, A, hW, hX, rfl⟩
  cases e_
  have f1 := hX.1 _ _ f1
  have f3 := hX.1 _ _ f3
  have hI := hI.ext hW hX
  refine lQ.stI (cLg 246 rfl) (lN2s rfl rfl) ?_
  refine lQ.loadN (cLg 247 rfl) rfl ?_
  refine lQ.loadN (cLg 248 rfl) rfl ?_
  refine lQ.loadI (cLg 249 rfl) rfl ?_
  refine lQ.push (cLg 250 rfl) ?_
  refine lQ.binI (cLg 251 rfl) ?_
  refine lQ.ald hR (cLg 252 rfl) (hI.scr hn8 1 (by omega)) ?_
  rw [hI.sw]
  refine lQ.callVI (F := fun z B => x = z ∧ B = tp ad t' (cp y S A)) (G := fun _ _ => False) (args := [.ref (adr ad 0), .int (f (i + 1))]) (r := []) hR (cLg 253 rfl) rfl rfl (Nat.le_of_ble_eq_true rfl) (Nat.le_of_ble_eq_true rfl) rfl (tk_0 hn rfl) (ts_564 hR hn d1 (cI_mk ⟨rfl, rfl⟩)) ?_ (fun _ _ _ z => z.elim)
  rintro _ _ ⟨rfl, rfl⟩
  refine lQ.stI (cLg 254 rfl) (lN2s rfl rfl) ?_
  refine lQ.loadN (cLg 255 rfl) rfl ?_
  refine lQ.callVI (F := fun z B => t'.1 0 = z ∧ B = tp ad t' (cp y S A)) (G := fun _ _ => False) (args := [.ref (adr ad 0)]) (r := []) hR (cLg 256 rfl) rfl rfl (Nat.le_of_ble_eq_true rfl) (Nat.le_of_ble_eq_true rfl) rfl (tk_0 hn rfl) (ts_556 hR hn (x := t'.1 0) rfl (cI_mk ⟨rfl, rfl⟩)) ?_ (fun _ _ _ z => z.elim)
  rintro _ _ ⟨rfl, rfl⟩
  rw [hI.mv SDa.rf t']
  have hI := hI.tw SDa.rf t'
  refine lQ.loadI (cLg 257 rfl) rfl ?_
  refine lQ.cmpT (cLg 258 rfl) (decide_eq_true th) ?_
  refine lQ.loadI (cLg 261 rfl) rfl ?_
  by_cases hk : kk = 0
  · refine lQ.ifF (cLg 262 rfl) (decide_eq_false (fun z => z hk)) ?_
    have hv := ov _ hk rfl
    have g3 := LV_out hI.1 f3 hv
    refine lQ.loadN (cLg 263 rfl) rfl ?_
    refine lQ.push (cLg 264 rfl) ?_
    refine lQ.ald hR (cLg 265 rfl) g3 ?_
    refine lQ.loadI (cLg 266 rfl) rfl ?_
    refine lQ.i2l (cLg 267 rfl) ?_
    refine lQ.lcmp (cLg 268 rfl) ?_
    refine lQ.ifT (cLg 269 rfl) (decide_eq_true (lg_cmp_rf _)) ?_
    refine lQ.goto (cLg 272 rfl) ?_
    exact lQ.sub (LLs (by rfl) (by rfl) (by rfl) (by rfl) (by rfl)) (k _ _ _ _ _ _ _ _ hn ⟨hI, r', f1, f3⟩ kK kc ks ((k1_564 K1N.rf).2 _ d1).2)
  · refine lQ.ifT (cLg 262 rfl) (decide_eq_true hk) ?_
    refine lQ.goto (cLg 272 rfl) ?_
    exact lQ.sub (LLs (by rfl) (by rfl) (by rfl) (by rfl) (by rfl)) (k _ _ _ _ _ _ _ _ hn ⟨hI, r', f1, f3⟩ kK kc ks ((k1_564 K1N.rf).2 _ d1).2)
theorem lc_sides (hR : lRok R) (hJ : JAll R E) (hn : tOk ad) (hn8 : n ≤ 448) (hi : i + 7 ≤ n) (h : LV E ad b n f h1 o1 o y s A own t K N) (hK : K < 900) (hc : s.2.2.1 < 3800000000) (k : LK R E b n f h1 o1 o i s own t K N 1 6 Z) : lQ R E 1625 cd_L 273 (LL ad b h1 o1 i) [] (cp y s A) Z := by
  obtain ⟨hI, r, f1, f3⟩ := h
  obtain ⟨kk, S, x, t', own', K', N', c1, d1, th, ov, r', kK, kc, ks⟩ := lwa_sides r (f (i + 1)) (f (i + 2))
  refine lQ.loadN (cLg 273 rfl) rfl ?_
  refine lQ.loadN (cLg 274 rfl) rfl ?_
  refine lQ.loadI (cLg 275 rfl) rfl ?_
  refine lQ.push (cLg 276 rfl) ?_
  refine lQ.binI (cLg 277 rfl) ?_
  refine lQ.ald hR (cLg 278 rfl) (hI.scr hn8 1 (by omega)) ?_
  refine lQ.loadN (cLg 279 rfl) rfl ?_
  refine lQ.loadI (cLg 280 rfl) rfl ?_
  refine lQ.push (cLg 281 rfl) ?_
  refine lQ.binI (cLg 282 rfl) ?_
  refine lQ.ald hR (cLg 283 rfl) (hI.scr hn8 2 (by omega)) ?_
  refine lQ.loadN (cLg 284 rfl) rfl ?_
  refine lQ.callG (args := [.ref h1, .int (f (i + 1)), .int (f (i + 2)), .ref o1]) (r := []) hR (cLg 285 rfl) rfl rfl (Nat.le_of_ble_eq_true rfl) (Nat.le_of_ble_eq_true rfl) (cs_317 hR hJ hI.1 (w0 := some h1) (w3 := some o1) f1 f3 c1) ?_ (fun _ _ _ z => by cases z.1)
  rintro _ _ ⟨e_, y, A, hW, hX, rfl⟩
  cases e_
  have f1 := hX.1 _ _ f1
  have f3 := hX.1 _ _ f3
  have hI := hI.ext hW hX
  refine lQ.stI (cLg 286 rfl) (lN2s rfl rfl) ?_
  refine lQ.loadN (cLg 287 rfl) rfl ?_
  refine lQ.loadN (cLg 288 rfl) rfl ?_
  refine lQ.loadI (cLg 289 rfl) rfl ?_
  refine lQ.push (cLg 290 rfl) ?_
  refine lQ.binI (cLg 291 rfl) ?_
  refine lQ.ald hR (cLg 292 rfl) (hI.scr hn8 1 (by omega)) ?_
  refine lQ.loadN (cLg 293 rfl) rfl ?_
  refine lQ.loadI (cLg 294 rfl) rfl ?_
  refine lQ.push (cLg 295 rfl) ?_
  refine lQ.binI (cLg 296 rfl) ?_
  refine lQ.ald hR (cLg 297 rfl) (hI.scr hn8 2 (by omega)) ?_
  rw [hI.sw]
  refine lQ.callVI (F := fun z B => x = z ∧ B = tp ad t' (cp y S A)) (G := fun _ _ => False) (args := [.ref (adr ad 0), .int (f (i + 1)), .int (f (i + 2))]) (r := []) hR (cLg 298 rfl) rfl rfl (Nat.le_of_ble_eq_true rfl) (Nat.le_of_ble_eq_true rfl) rfl (tk_0 hn rfl) (ts_565 hR hn d1 (cI_mk ⟨rfl, rfl⟩)) ?_ (fun _ _ _ z => z.elim)
  rintro _ _ ⟨rfl, rfl⟩
  refine lQ.stI (cLg 299 rfl) (lN2s rfl rfl) ?_
  refine lQ.loadN (cLg 300 rfl) rfl ?_
  refine lQ.callVI (F := fun z B => t'.1 0 = z ∧ B = tp ad t' (cp y S A)) (G := fun _ _ => False) (args := [.ref (adr ad 0)]) (r := []) hR (cLg 301 rfl) rfl rfl (Nat.le_of_ble_eq_true rfl) (Nat.le_of_ble_eq_true rfl) rfl (tk_0 hn rfl) (ts_556 hR hn (x := t'.1 0) rfl (cI_mk ⟨rfl, rfl⟩)) ?_ (fun _ _ _ z => z.elim)
  rintro _ _ ⟨rfl, rfl⟩
  rw [hI.mv SDa.rf t']
  have hI := hI.tw SDa.rf t'
  refine lQ.loadI (cLg 302 rfl) rfl ?_
  refine lQ.cmpT (cLg 303 rfl) (decide_eq_true th) ?_
  refine lQ.loadI (cLg 306 rfl) rfl ?_
  by_cases hk : kk = 0
  · refine lQ.ifF (cLg 307 rfl) (decide_eq_false (fun z => z hk)) ?_
    have hv := ov _ hk rfl
    have g3 := LV_out hI.1 f3 hv
    refine lQ.loadN (cLg 308 rfl) rfl ?_
    refine lQ.push (cLg 309 rfl) ?_
    refine lQ.ald hR (cLg 310 rfl) g3 ?_
    refine lQ.loadI (cLg 311 rfl) rfl ?_
    refine lQ.i2l (cLg 312 rfl) ?_
    refine lQ.lcmp (cLg 313 rfl) ?_
    refine lQ.ifT (cLg 314 rfl) (decide_eq_true (lg_cmp_rf _)) ?_
    refine lQ.goto (cLg 317 rfl) ?_
    exact lQ.sub (LLs (by rfl) (by rfl) (by rfl) (by rfl) (by rfl)) (k _ _ _ _ _ _ _ _ hn ⟨hI, r', f1, f3⟩ kK kc ks ((k1_565 K1N.rf).2 _ d1).2)
  · refine lQ.ifT (cLg 307 rfl) (decide_eq_true hk) ?_
    refine lQ.goto (cLg 317 rfl) ?_
    exact lQ.sub (LLs (by rfl) (by rfl) (by rfl) (by rfl) (by rfl)) (k _ _ _ _ _ _ _ _ hn ⟨hI, r', f1, f3⟩ kK kc ks ((k1_565 K1N.rf).2 _ d1).2)
theorem lc_side (hR : lRok R) (hJ : JAll R E) (hn : tOk ad) (hn8 : n ≤ 448) (hi : i + 7 ≤ n) (h : LV E ad b n f h1 o1 o y s A own t K N) (hK : K < 900) (hc : s.2.2.1 < 3800000000) (k : LK R E b n f h1 o1 o i s own t K N 1 6 Z) : lQ R E 1625 cd_L 318 (LL ad b h1 o1 i) [] (cp y s A) Z := by
  obtain ⟨hI, r, f1, f3⟩ := h
  obtain ⟨kk, S, x, t', own', K', N', c1, d1, th, ov, r', kK, kc, ks⟩ := lwa_side r (f (i + 1)) (f (i + 2)) (f (i + 3)) (f (i + 4))
  refine lQ.loadN (cLg 318 rfl) rfl ?_
  refine lQ.loadN (cLg 319 rfl) rfl ?_
  refine lQ.loadI (cLg 320 rfl) rfl ?_
  refine lQ.push (cLg 321 rfl) ?_
  refine lQ.binI (cLg 322 rfl) ?_
  refine lQ.ald hR (cLg 323 rfl) (hI.scr hn8 1 (by omega)) ?_
  refine lQ.loadN (cLg 324 rfl) rfl ?_
  refine lQ.loadI (cLg 325 rfl) rfl ?_
  refine lQ.push (cLg 326 rfl) ?_
  refine lQ.binI (cLg 327 rfl) ?_
  refine lQ.ald hR (cLg 328 rfl) (hI.scr hn8 2 (by omega)) ?_
  refine lQ.loadN (cLg 329 rfl) rfl ?_
  refine lQ.loadI (cLg 330 rfl) rfl ?_
  refine lQ.push (cLg 331 rfl) ?_
  refine lQ.binI (cLg 332 rfl) ?_
  refine lQ.ald hR (cLg 333 rfl) (hI.scr hn8 3 (by omega)) ?_
  refine lQ.loadN (cLg 334 rfl) rfl ?_
  refine lQ.loadI (cLg 335 rfl) rfl ?_
  refine lQ.push (cLg 336 rfl) ?_
  refine lQ.binI (cLg 337 rfl) ?_
  refine lQ.ald hR (cLg 338 rfl) (hI.scr hn8 4 (by omega)) ?_
  refine lQ.loadN (cLg 339 rfl) rfl ?_
  refine lQ.callG (args := [.ref h1, .int (f (i + 1)), .int (f (i + 2)), .int (f (i + 3)), .int (f (i + 4)), .ref o1]) (r := []) hR (cLg 340 rfl) rfl rfl (Nat.le_of_ble_eq_true rfl) (Nat.le_of_ble_eq_true rfl) (cs_318 hR hJ hI.1 (w0 := some h1) (w5 := some o1) f1 f3 c1) ?_ (fun _ _ _ z => by cases z.1)
  rintro _ _ ⟨e_, y, A, hW, hX, rfl⟩
  cases e_
  have f1 := hX.1 _ _ f1
  have f3 := hX.1 _ _ f3
  have hI := hI.ext hW hX
  refine lQ.stI (cLg 341 rfl) (lN2s rfl rfl) ?_
  refine lQ.loadN (cLg 342 rfl) rfl ?_
  refine lQ.loadN (cLg 343 rfl) rfl ?_
  refine lQ.loadI (cLg 344 rfl) rfl ?_
  refine lQ.push (cLg 345 rfl) ?_
  refine lQ.binI (cLg 346 rfl) ?_
  refine lQ.ald hR (cLg 347 rfl) (hI.scr hn8 1 (by omega)) ?_
  refine lQ.loadN (cLg 348 rfl) rfl ?_
  refine lQ.loadI (cLg 349 rfl) rfl ?_
  refine lQ.push (cLg 350 rfl) ?_
  refine lQ.binI (cLg 351 rfl) ?_
  refine lQ.ald hR (cLg 352 rfl) (hI.scr hn8 2 (by omega)) ?_
  refine lQ.loadN (cLg 353 rfl) rfl ?_
  refine lQ.loadI (cLg 354 rfl) rfl ?_
  refine lQ.push (cLg 355 rfl) ?_
  refine lQ.binI (cLg 356 rfl) ?_
  refine lQ.ald hR (cLg 357 rfl) (hI.scr hn8 3 (by omega)) ?_
  refine lQ.loadN (cLg 358 rfl) rfl ?_
  refine lQ.loadI (cLg 359 rfl) rfl ?_
  refine lQ.push (cLg 360 rfl) ?_
  refine lQ.binI (cLg 361 rfl) ?_
  refine lQ.ald hR (cLg 362 rfl) (hI.scr hn8 4 (by omega)) ?_
  rw [hI.sw]
  refine lQ.callVI (F := fun z B => x = z ∧ B = tp ad t' (cp y S A)) (G := fun _ _ => False) (args := [.ref (adr ad 0), .int (f (i + 1)), .int (f (i + 2)), .int (f (i + 3)), .int (f (i + 4))]) (r := []) hR (cLg 363 rfl) rfl rfl (Nat.le_of_ble_eq_true rfl) (Nat.le_of_ble_eq_true rfl) rfl (tk_0 hn rfl) (ts_566 hR hn d1 (cI_mk ⟨rfl, rfl⟩)) ?_ (fun _ _ _ z => z.elim)
  rintro _ _ ⟨rfl, rfl⟩
  refine lQ.stI (cLg 364 rfl) (lN2s rfl rfl) ?_
  refine lQ.loadN (cLg 365 rfl) rfl ?_
  refine lQ.callVI (F := fun z B => t'.1 0 = z ∧ B = tp ad t' (cp y S A)) (G := fun _ _ => False) (args := [.ref (adr ad 0)]) (r := []) hR (cLg 366 rfl) rfl rfl (Nat.le_of_ble_eq_true rfl) (Nat.le_of_ble_eq_true rfl) rfl (tk_0 hn rfl) (ts_556 hR hn (x := t'.1 0) rfl (cI_mk ⟨rfl, rfl⟩)) ?_ (fun _ _ _ z => z.elim)
  rintro _ _ ⟨rfl, rfl⟩
  rw [hI.mv SDa.rf t']
  have hI := hI.tw SDa.rf t'
  refine lQ.loadI (cLg 367 rfl) rfl ?_
  refine lQ.cmpT (cLg 368 rfl) (decide_eq_true th) ?_
  refine lQ.loadI (cLg 371 rfl) rfl ?_
  by_cases hk : kk = 0
  · refine lQ.ifF (cLg 372 rfl) (decide_eq_false (fun z => z hk)) ?_
    have hv := ov _ hk rfl
    have g3 := LV_out hI.1 f3 hv
    refine lQ.loadN (cLg 373 rfl) rfl ?_
    refine lQ.push (cLg 374 rfl) ?_
    refine lQ.ald hR (cLg 375 rfl) g3 ?_
    refine lQ.loadI (cLg 376 rfl) rfl ?_
    refine lQ.i2l (cLg 377 rfl) ?_
    refine lQ.lcmp (cLg 378 rfl) ?_
    refine lQ.ifT (cLg 379 rfl) (decide_eq_true (lg_cmp_rf _)) ?_
    refine lQ.goto (cLg 382 rfl) ?_
    exact lQ.sub (LLs (by rfl) (by rfl) (by rfl) (by rfl) (by rfl)) (k _ _ _ _ _ _ _ _ hn ⟨hI, r', f1, f3⟩ kK kc ks ((k1_566 K1N.rf).2 _ d1).2)
  · refine lQ.ifT (cLg 372 rfl) (decide_eq_true hk) ?_
    refine lQ.goto (cLg 382 rfl) ?_
    exact lQ.sub (LLs (by rfl) (by rfl) (by rfl) (by rfl) (by rfl)) (k _ _ _ _ _ _ _ _ hn ⟨hI, r', f1, f3⟩ kK kc ks ((k1_566 K1N.rf).2 _ d1).2)
theorem lc_size (hR : lRok R) (hJ : JAll R E) (hn : tOk ad) (hn8 : n ≤ 448) (hi : i + 7 ≤ n) (h : LV E ad b n f h1 o1 o y s A own t K N) (hK : K < 900) (hc : s.2.2.1 < 3800000000) (k : LK R E b n f h1 o1 o i s own t K N 501 2006 Z) : lQ R E 1625 cd_L 383 (LL ad b h1 o1 i) [] (cp y s A) Z := by
  obtain ⟨hI, r, f1, f3⟩ := h
  obtain ⟨kk, S, x, t', own', K', N', c1, d1, th, ov, r', kK, kc, ks⟩ := lwa_size r (f (i + 1)) (f (i + 2))
  refine lQ.loadN (cLg 383 rfl) rfl ?_
  refine lQ.loadN (cLg 384 rfl) rfl ?_
  refine lQ.loadI (cLg 385 rfl) rfl ?_
  refine lQ.push (cLg 386 rfl) ?_
  refine lQ.binI (cLg 387 rfl) ?_
  refine lQ.ald hR (cLg 388 rfl) (hI.scr hn8 1 (by omega)) ?_
  refine lQ.loadN (cLg 389 rfl) rfl ?_
  refine lQ.loadI (cLg 390 rfl) rfl ?_
  refine lQ.push (cLg 391 rfl) ?_
  refine lQ.binI (cLg 392 rfl) ?_
  refine lQ.ald hR (cLg 393 rfl) (hI.scr hn8 2 (by omega)) ?_
  refine lQ.loadN (cLg 394 rfl) rfl ?_
  refine lQ.callG (args := [.ref h1, .int (f (i + 1)), .int (f (i + 2)), .ref o1]) (r := []) hR (cLg 395 rfl) rfl rfl (Nat.le_of_ble_eq_true rfl) (Nat.le_of_ble_eq_true rfl) (cs_319 hR hJ hI.1 (w0 := some h1) (w3 := some o1) f1 f3 c1) ?_ (fun _ _ _ z => by cases z.1)
  rintro _ _ ⟨e_, y, A, hW, hX, rfl⟩
  cases e_
  have f1 := hX.1 _ _ f1
  have f3 := hX.1 _ _ f3
  have hI := hI.ext hW hX
  refine lQ.stI (cLg 396 rfl) (lN2s rfl rfl) ?_
  refine lQ.loadN (cLg 397 rfl) rfl ?_
  refine lQ.loadN (cLg 398 rfl) rfl ?_
  refine lQ.loadI (cLg 399 rfl) rfl ?_
  refine lQ.push (cLg 400 rfl) ?_
  refine lQ.binI (cLg 401 rfl) ?_
  refine lQ.ald hR (cLg 402 rfl) (hI.scr hn8 1 (by omega)) ?_
  refine lQ.loadN (cLg 403 rfl) rfl ?_
  refine lQ.loadI (cLg 404 rfl) rfl ?_
  refine lQ.push (cLg 405 rfl) ?_
  refine lQ.binI (cLg 406 rfl) ?_
  refine lQ.ald hR (cLg 407 rfl) (hI.scr hn8 2 (by omega)) ?_
  rw [hI.sw]
  refine lQ.callVI (F := fun z B => x = z ∧ B = tp ad t' (cp y S A)) (G := fun _ _ => False) (args := [.ref (adr ad 0), .int (f (i + 1)), .int (f (i + 2))]) (r := []) hR (cLg 408 rfl) rfl rfl (Nat.le_of_ble_eq_true rfl) (Nat.le_of_ble_eq_true rfl) rfl (tk_0 hn rfl) (ts_567 hR hn d1 (cI_mk ⟨rfl, rfl⟩)) ?_ (fun _ _ _ z => z.elim)
  rintro _ _ ⟨rfl, rfl⟩
  refine lQ.stI (cLg 409 rfl) (lN2s rfl rfl) ?_
  refine lQ.loadN (cLg 410 rfl) rfl ?_
  refine lQ.callVI (F := fun z B => t'.1 0 = z ∧ B = tp ad t' (cp y S A)) (G := fun _ _ => False) (args := [.ref (adr ad 0)]) (r := []) hR (cLg 411 rfl) rfl rfl (Nat.le_of_ble_eq_true rfl) (Nat.le_of_ble_eq_true rfl) rfl (tk_0 hn rfl) (ts_556 hR hn (x := t'.1 0) rfl (cI_mk ⟨rfl, rfl⟩)) ?_ (fun _ _ _ z => z.elim)
  rintro _ _ ⟨rfl, rfl⟩
  rw [hI.mv SDa.rf t']
  have hI := hI.tw SDa.rf t'
  refine lQ.loadI (cLg 412 rfl) rfl ?_
  refine lQ.cmpT (cLg 413 rfl) (decide_eq_true th) ?_
  refine lQ.loadI (cLg 416 rfl) rfl ?_
  by_cases hk : kk = 0
  · refine lQ.ifF (cLg 417 rfl) (decide_eq_false (fun z => z hk)) ?_
    have hv := ov _ hk rfl
    have g3 := LV_out hI.1 f3 hv
    refine lQ.loadN (cLg 418 rfl) rfl ?_
    refine lQ.push (cLg 419 rfl) ?_
    refine lQ.ald hR (cLg 420 rfl) g3 ?_
    refine lQ.loadI (cLg 421 rfl) rfl ?_
    refine lQ.i2l (cLg 422 rfl) ?_
    refine lQ.lcmp (cLg 423 rfl) ?_
    refine lQ.ifT (cLg 424 rfl) (decide_eq_true (lg_cmp_rf _)) ?_
    refine lQ.goto (cLg 427 rfl) ?_
    exact lQ.sub (LLs (by rfl) (by rfl) (by rfl) (by rfl) (by rfl)) (k _ _ _ _ _ _ _ _ hn ⟨hI, r', f1, f3⟩ kK kc ks ((k1_567 K1N.rf).2 _ d1).2)
  · refine lQ.ifT (cLg 417 rfl) (decide_eq_true hk) ?_
    refine lQ.goto (cLg 427 rfl) ?_
    exact lQ.sub (LLs (by rfl) (by rfl) (by rfl) (by rfl) (by rfl)) (k _ _ _ _ _ _ _ _ hn ⟨hI, r', f1, f3⟩ kK kc ks ((k1_567 K1N.rf).2 _ d1).2)
theorem lc_at (hR : lRok R) (hJ : JAll R E) (hn : tOk ad) (hn8 : n ≤ 448) (hi : i + 7 ≤ n) (h : LV E ad b n f h1 o1 o y s A own t K N) (hK : K < 900) (hc : s.2.2.1 < 3800000000) (k : LK R E b n f h1 o1 o i s own t K N 2 10 Z) : lQ R E 1625 cd_L 428 (LL ad b h1 o1 i) [] (cp y s A) Z := by
  obtain ⟨hI, r, f1, f3⟩ := h
  obtain ⟨kk, S, x, t', own', K', N', c1, d1, th, ov, r', kK, kc, ks⟩ := lwa_at r (f (i + 1)) (f (i + 2))
  refine lQ.loadN (cLg 428 rfl) rfl ?_
  refine lQ.loadN (cLg 429 rfl) rfl ?_
  refine lQ.loadI (cLg 430 rfl) rfl ?_
  refine lQ.push (cLg 431 rfl) ?_
  refine lQ.binI (cLg 432 rfl) ?_
  refine lQ.ald hR (cLg 433 rfl) (hI.scr hn8 1 (by omega)) ?_
  refine lQ.loadN (cLg 434 rfl) rfl ?_
  refine lQ.loadI (cLg 435 rfl) rfl ?_
  refine lQ.push (cLg 436 rfl) ?_
  refine lQ.binI (cLg 437 rfl) ?_
  refine lQ.ald hR (cLg 438 rfl) (hI.scr hn8 2 (by omega)) ?_
  refine lQ.loadN (cLg 439 rfl) rfl ?_
  refine lQ.callG (args := [.ref h1, .int (f (i + 1)), .int (f (i + 2)), .ref o1]) (r := []) hR (cLg 440 rfl) rfl rfl (Nat.le_of_ble_eq_true rfl) (Nat.le_of_ble_eq_true rfl) (cs_320 hR hJ hI.1 (w0 := some h1) (w3 := some o1) f1 f3 c1) ?_ (fun _ _ _ z => by cases z.1)
  rintro _ _ ⟨e_, y, A, hW, hX, rfl⟩
  cases e_
  have f1 := hX.1 _ _ f1
  have f3 := hX.1 _ _ f3
  have hI := hI.ext hW hX
  refine lQ.stI (cLg 441 rfl) (lN2s rfl rfl) ?_
  refine lQ.loadN (cLg 442 rfl) rfl ?_
  refine lQ.loadN (cLg 443 rfl) rfl ?_
  refine lQ.loadI (cLg 444 rfl) rfl ?_
  refine lQ.push (cLg 445 rfl) ?_
  refine lQ.binI (cLg 446 rfl) ?_
  refine lQ.ald hR (cLg 447 rfl) (hI.scr hn8 1 (by omega)) ?_
  refine lQ.loadN (cLg 448 rfl) rfl ?_
  refine lQ.loadI (cLg 449 rfl) rfl ?_
  refine lQ.push (cLg 450 rfl) ?_
  refine lQ.binI (cLg 451 rfl) ?_
  refine lQ.ald hR (cLg 452 rfl) (hI.scr hn8 2 (by omega)) ?_
  rw [hI.sw]
  refine lQ.callVI (F := fun z B => x = z ∧ B = tp ad t' (cp y S A)) (G := fun _ _ => False) (args := [.ref (adr ad 0), .int (f (i + 1)), .int (f (i + 2))]) (r := []) hR (cLg 453 rfl) rfl rfl (Nat.le_of_ble_eq_true rfl) (Nat.le_of_ble_eq_true rfl) rfl (tk_0 hn rfl) (ts_568 hR hn d1 (cI_mk ⟨rfl, rfl⟩)) ?_ (fun _ _ _ z => z.elim)
  rintro _ _ ⟨rfl, rfl⟩
  refine lQ.stI (cLg 454 rfl) (lN2s rfl rfl) ?_
  refine lQ.loadN (cLg 455 rfl) rfl ?_
  refine lQ.callVI (F := fun z B => t'.1 0 = z ∧ B = tp ad t' (cp y S A)) (G := fun _ _ => False) (args := [.ref (adr ad 0)]) (r := []) hR (cLg 456 rfl) rfl rfl (Nat.le_of_ble_eq_true rfl) (Nat.le_of_ble_eq_true rfl) rfl (tk_0 hn rfl) (ts_556 hR hn (x := t'.1 0) rfl (cI_mk ⟨rfl, rfl⟩)) ?_ (fun _ _ _ z => z.elim)
  rintro _ _ ⟨rfl, rfl⟩
  rw [hI.mv SDa.rf t']
  have hI := hI.tw SDa.rf t'
  refine lQ.loadI (cLg 457 rfl) rfl ?_
  refine lQ.cmpT (cLg 458 rfl) (decide_eq_true th) ?_
  refine lQ.loadI (cLg 461 rfl) rfl ?_
  by_cases hk : kk = 0
  · refine lQ.ifF (cLg 462 rfl) (decide_eq_false (fun z => z hk)) ?_
    have hv := ov _ hk rfl
    have g3 := LV_out hI.1 f3 hv
    refine lQ.loadN (cLg 463 rfl) rfl ?_
    refine lQ.push (cLg 464 rfl) ?_
    refine lQ.ald hR (cLg 465 rfl) g3 ?_
    refine lQ.loadI (cLg 466 rfl) rfl ?_
    refine lQ.i2l (cLg 467 rfl) ?_
    refine lQ.lcmp (cLg 468 rfl) ?_
    refine lQ.ifT (cLg 469 rfl) (decide_eq_true (lg_cmp_rf _)) ?_
    refine lQ.goto (cLg 472 rfl) ?_
    exact lQ.sub (LLs (by rfl) (by rfl) (by rfl) (by rfl) (by rfl)) (k _ _ _ _ _ _ _ _ hn ⟨hI, r', f1, f3⟩ kK kc ks ((k1_568 K1N.rf).2 _ d1).2)
  · refine lQ.ifT (cLg 462 rfl) (decide_eq_true hk) ?_
    refine lQ.goto (cLg 472 rfl) ?_
    exact lQ.sub (LLs (by rfl) (by rfl) (by rfl) (by rfl) (by rfl)) (k _ _ _ _ _ _ _ _ hn ⟨hI, r', f1, f3⟩ kK kc ks ((k1_568 K1N.rf).2 _ d1).2)
theorem lc_between (hR : lRok R) (hJ : JAll R E) (hn : tOk ad) (hn8 : n ≤ 448) (hi : i + 7 ≤ n) (h : LV E ad b n f h1 o1 o y s A own t K N) (hK : K < 900) (hc : s.2.2.1 < 3800000000) (k : LK R E b n f h1 o1 o i s own t K N 501 2506 Z) : lQ R E 1625 cd_L 473 (LL ad b h1 o1 i) [] (cp y s A) Z := by
  obtain ⟨hI, r, f1, f3⟩ := h
  obtain ⟨kk, S, x, t', own', K', N', c1, d1, th, ov, r', kK, kc, ks⟩ := lwa_between r (f (i + 1)) (f (i + 2))
  refine lQ.loadN (cLg 473 rfl) rfl ?_
  refine lQ.loadN (cLg 474 rfl) rfl ?_
  refine lQ.loadI (cLg 475 rfl) rfl ?_
  refine lQ.push (cLg 476 rfl) ?_
  refine lQ.binI (cLg 477 rfl) ?_
  refine lQ.ald hR (cLg 478 rfl) (hI.scr hn8 1 (by omega)) ?_
  refine lQ.loadN (cLg 479 rfl) rfl ?_
  refine lQ.loadI (cLg 480 rfl) rfl ?_
  refine lQ.push (cLg 481 rfl) ?_
  refine lQ.binI (cLg 482 rfl) ?_
  refine lQ.ald hR (cLg 483 rfl) (hI.scr hn8 2 (by omega)) ?_
  refine lQ.loadN (cLg 484 rfl) rfl ?_
  refine lQ.callG (args := [.ref h1, .int (f (i + 1)), .int (f (i + 2)), .ref o1]) (r := []) hR (cLg 485 rfl) rfl rfl (Nat.le_of_ble_eq_true rfl) (Nat.le_of_ble_eq_true rfl) (cs_321 hR hJ hI.1 (w0 := some h1) (w3 := some o1) f1 f3 c1) ?_ (fun _ _ _ z => by cases z.1)
  rintro _ _ ⟨e_, y, A, hW, hX, rfl⟩
  cases e_
  have f1 := hX.1 _ _ f1
  have f3 := hX.1 _ _ f3
  have hI := hI.ext hW hX
  refine lQ.stI (cLg 486 rfl) (lN2s rfl rfl) ?_
  refine lQ.loadN (cLg 487 rfl) rfl ?_
  refine lQ.loadN (cLg 488 rfl) rfl ?_
  refine lQ.loadI (cLg 489 rfl) rfl ?_
  refine lQ.push (cLg 490 rfl) ?_
  refine lQ.binI (cLg 491 rfl) ?_
  refine lQ.ald hR (cLg 492 rfl) (hI.scr hn8 1 (by omega)) ?_
  refine lQ.loadN (cLg 493 rfl) rfl ?_
  refine lQ.loadI (cLg 494 rfl) rfl ?_
  refine lQ.push (cLg 495 rfl) ?_
  refine lQ.binI (cLg 496 rfl) ?_
  refine lQ.ald hR (cLg 497 rfl) (hI.scr hn8 2 (by omega)) ?_
  rw [hI.sw]
  refine lQ.callVI (F := fun z B => x = z ∧ B = tp ad t' (cp y S A)) (G := fun _ _ => False) (args := [.ref (adr ad 0), .int (f (i + 1)), .int (f (i + 2))]) (r := []) hR (cLg 498 rfl) rfl rfl (Nat.le_of_ble_eq_true rfl) (Nat.le_of_ble_eq_true rfl) rfl (tk_0 hn rfl) (ts_570 hR hn d1 (cI_mk ⟨rfl, rfl⟩)) ?_ (fun _ _ _ z => z.elim)
  rintro _ _ ⟨rfl, rfl⟩
  refine lQ.stI (cLg 499 rfl) (lN2s rfl rfl) ?_
  refine lQ.loadN (cLg 500 rfl) rfl ?_
  refine lQ.callVI (F := fun z B => t'.1 0 = z ∧ B = tp ad t' (cp y S A)) (G := fun _ _ => False) (args := [.ref (adr ad 0)]) (r := []) hR (cLg 501 rfl) rfl rfl (Nat.le_of_ble_eq_true rfl) (Nat.le_of_ble_eq_true rfl) rfl (tk_0 hn rfl) (ts_556 hR hn (x := t'.1 0) rfl (cI_mk ⟨rfl, rfl⟩)) ?_ (fun _ _ _ z => z.elim)
  rintro _ _ ⟨rfl, rfl⟩
  rw [hI.mv SDa.rf t']
  have hI := hI.tw SDa.rf t'
  refine lQ.loadI (cLg 502 rfl) rfl ?_
  refine lQ.cmpT (cLg 503 rfl) (decide_eq_true th) ?_
  refine lQ.loadI (cLg 506 rfl) rfl ?_
  by_cases hk : kk = 0
  · refine lQ.ifF (cLg 507 rfl) (decide_eq_false (fun z => z hk)) ?_
    have hv := ov _ hk rfl
    have g3 := LV_out hI.1 f3 hv
    refine lQ.loadN (cLg 508 rfl) rfl ?_
    refine lQ.push (cLg 509 rfl) ?_
    refine lQ.ald hR (cLg 510 rfl) g3 ?_
    refine lQ.loadI (cLg 511 rfl) rfl ?_
    refine lQ.i2l (cLg 512 rfl) ?_
    refine lQ.lcmp (cLg 513 rfl) ?_
    refine lQ.ifT (cLg 514 rfl) (decide_eq_true (lg_cmp_rf _)) ?_
    refine lQ.goto (cLg 517 rfl) ?_
    exact lQ.sub (LLs (by rfl) (by rfl) (by rfl) (by rfl) (by rfl)) (k _ _ _ _ _ _ _ _ hn ⟨hI, r', f1, f3⟩ kK kc ks ((k1_570 K1N.rf).2 _ d1).2)
  · refine lQ.ifT (cLg 507 rfl) (decide_eq_true hk) ?_
    refine lQ.goto (cLg 517 rfl) ?_
    exact lQ.sub (LLs (by rfl) (by rfl) (by rfl) (by rfl) (by rfl)) (k _ _ _ _ _ _ _ _ hn ⟨hI, r', f1, f3⟩ kK kc ks ((k1_570 K1N.rf).2 _ d1).2)
theorem lc_way (hR : lRok R) (hJ : JAll R E) (hn : tOk ad) (hn8 : n ≤ 448) (hi : i + 7 ≤ n) (h : LV E ad b n f h1 o1 o y s A own t K N) (hK : K < 900) (hc : s.2.2.1 < 3800000000) (k : LK R E b n f h1 o1 o i s own t K N 6701 41006 Z) : lQ R E 1625 cd_L 518 (LL ad b h1 o1 i) [] (cp y s A) Z := by
  obtain ⟨hI, r, f1, f3⟩ := h
  obtain ⟨kk, S, x, t', own', K', N', c1, d1, th, ov, r', kK, kc, ks⟩ := lwa_way r (f (i + 1)) (f (i + 2))
  refine lQ.loadN (cLg 518 rfl) rfl ?_
  refine lQ.loadN (cLg 519 rfl) rfl ?_
  refine lQ.loadI (cLg 520 rfl) rfl ?_
  refine lQ.push (cLg 521 rfl) ?_
  refine lQ.binI (cLg 522 rfl) ?_
  refine lQ.ald hR (cLg 523 rfl) (hI.scr hn8 1 (by omega)) ?_
  refine lQ.loadN (cLg 524 rfl) rfl ?_
  refine lQ.loadI (cLg 525 rfl) rfl ?_
  refine lQ.push (cLg 526 rfl) ?_
  refine lQ.binI (cLg 527 rfl) ?_
  refine lQ.ald hR (cLg 528 rfl) (hI.scr hn8 2 (by omega)) ?_
  refine lQ.loadN (cLg 529 rfl) rfl ?_
  refine lQ.callG (args := [.ref h1, .int (f (i + 1)), .int (f (i + 2)), .ref o1]) (r := []) hR (cLg 530 rfl) rfl rfl (Nat.le_of_ble_eq_true rfl) (Nat.le_of_ble_eq_true rfl) (cs_322 hR hJ hI.1 (w0 := some h1) (w3 := some o1) f1 f3 c1) ?_ (fun _ _ _ z => by cases z.1)
  rintro _ _ ⟨e_, y, A, hW, hX, rfl⟩
  cases e_
  have f1 := hX.1 _ _ f1
  have f3 := hX.1 _ _ f3
  have hI := hI.ext hW hX
  refine lQ.stI (cLg 531 rfl) (lN2s rfl rfl) ?_
  refine lQ.loadN (cLg 532 rfl) rfl ?_
  refine lQ.loadN (cLg 533 rfl) rfl ?_
  refine lQ.loadI (cLg 534 rfl) rfl ?_
  refine lQ.push (cLg 535 rfl) ?_
  refine lQ.binI (cLg 536 rfl) ?_
  refine lQ.ald hR (cLg 537 rfl) (hI.scr hn8 1 (by omega)) ?_
  refine lQ.loadN (cLg 538 rfl) rfl ?_
  refine lQ.loadI (cLg 539 rfl) rfl ?_
  refine lQ.push (cLg 540 rfl) ?_
  refine lQ.binI (cLg 541 rfl) ?_
  refine lQ.ald hR (cLg 542 rfl) (hI.scr hn8 2 (by omega)) ?_
  rw [hI.sw]
  refine lQ.callVI (F := fun z B => x = z ∧ B = tp ad t' (cp y S A)) (G := fun _ _ => False) (args := [.ref (adr ad 0), .int (f (i + 1)), .int (f (i + 2))]) (r := []) hR (cLg 543 rfl) rfl rfl (Nat.le_of_ble_eq_true rfl) (Nat.le_of_ble_eq_true rfl) rfl (tk_0 hn rfl) (ts_571 hR hn d1 (cI_mk ⟨rfl, rfl⟩)) ?_ (fun _ _ _ z => z.elim)
  rintro _ _ ⟨rfl, rfl⟩
  refine lQ.stI (cLg 544 rfl) (lN2s rfl rfl) ?_
  refine lQ.loadN (cLg 545 rfl) rfl ?_
  refine lQ.callVI (F := fun z B => t'.1 0 = z ∧ B = tp ad t' (cp y S A)) (G := fun _ _ => False) (args := [.ref (adr ad 0)]) (r := []) hR (cLg 546 rfl) rfl rfl (Nat.le_of_ble_eq_true rfl) (Nat.le_of_ble_eq_true rfl) rfl (tk_0 hn rfl) (ts_556 hR hn (x := t'.1 0) rfl (cI_mk ⟨rfl, rfl⟩)) ?_ (fun _ _ _ z => z.elim)
  rintro _ _ ⟨rfl, rfl⟩
  rw [hI.mv SDa.rf t']
  have hI := hI.tw SDa.rf t'
  refine lQ.loadI (cLg 547 rfl) rfl ?_
  refine lQ.cmpT (cLg 548 rfl) (decide_eq_true th) ?_
  refine lQ.loadI (cLg 551 rfl) rfl ?_
  by_cases hk : kk = 0
  · refine lQ.ifF (cLg 552 rfl) (decide_eq_false (fun z => z hk)) ?_
    have hv := ov _ hk rfl
    have g3 := LV_out hI.1 f3 hv
    refine lQ.loadN (cLg 553 rfl) rfl ?_
    refine lQ.push (cLg 554 rfl) ?_
    refine lQ.ald hR (cLg 555 rfl) g3 ?_
    refine lQ.loadI (cLg 556 rfl) rfl ?_
    refine lQ.i2l (cLg 557 rfl) ?_
    refine lQ.lcmp (cLg 558 rfl) ?_
    refine lQ.ifT (cLg 559 rfl) (decide_eq_true (lg_cmp_rf _)) ?_
    refine lQ.goto (cLg 562 rfl) ?_
    exact lQ.sub (LLs (by rfl) (by rfl) (by rfl) (by rfl) (by rfl)) (k _ _ _ _ _ _ _ _ hn ⟨hI, r', f1, f3⟩ kK kc ks ((k1_571 K1N.rf).2 _ d1).2)
  · refine lQ.ifT (cLg 552 rfl) (decide_eq_true hk) ?_
    refine lQ.goto (cLg 562 rfl) ?_
    exact lQ.sub (LLs (by rfl) (by rfl) (by rfl) (by rfl) (by rfl)) (k _ _ _ _ _ _ _ _ hn ⟨hI, r', f1, f3⟩ kK kc ks ((k1_571 K1N.rf).2 _ d1).2)
theorem lc_name (hR : lRok R) (hJ : JAll R E) (hn : tOk ad) (hn8 : n ≤ 448) (hi : i + 7 ≤ n) (h : LV E ad b n f h1 o1 o y s A own t K N) (hK : K < 900) (hc : s.2.2.1 < 3800000000) (k : LK R E b n f h1 o1 o i s own t K N 1 6 Z) : lQ R E 1625 cd_L 563 (LL ad b h1 o1 i) [] (cp y s A) Z := by
  obtain ⟨hI, r, f1, f3⟩ := h
  obtain ⟨kk, S, x, t', own', K', N', c1, d1, th, ov, r', kK, kc, ks⟩ := lwa_name r (f (i + 1)) (f (i + 2))
  refine lQ.loadN (cLg 563 rfl) rfl ?_
  refine lQ.loadN (cLg 564 rfl) rfl ?_
  refine lQ.loadI (cLg 565 rfl) rfl ?_
  refine lQ.push (cLg 566 rfl) ?_
  refine lQ.binI (cLg 567 rfl) ?_
  refine lQ.ald hR (cLg 568 rfl) (hI.scr hn8 1 (by omega)) ?_
  refine lQ.loadN (cLg 569 rfl) rfl ?_
  refine lQ.loadI (cLg 570 rfl) rfl ?_
  refine lQ.push (cLg 571 rfl) ?_
  refine lQ.binI (cLg 572 rfl) ?_
  refine lQ.ald hR (cLg 573 rfl) (hI.scr hn8 2 (by omega)) ?_
  refine lQ.loadN (cLg 574 rfl) rfl ?_
  refine lQ.callG (args := [.ref h1, .int (f (i + 1)), .int (f (i + 2)), .ref o1]) (r := []) hR (cLg 575 rfl) rfl rfl (Nat.le_of_ble_eq_true rfl) (Nat.le_of_ble_eq_true rfl) (cs_323 hR hJ hI.1 (w0 := some h1) (w3 := some o1) f1 f3 c1) ?_ (fun _ _ _ z => by cases z.1)
  rintro _ _ ⟨e_, y, A, hW, hX, rfl⟩
  cases e_
  have f1 := hX.1 _ _ f1
  have f3 := hX.1 _ _ f3
  have hI := hI.ext hW hX
  refine lQ.stI (cLg 576 rfl) (lN2s rfl rfl) ?_
  refine lQ.loadN (cLg 577 rfl) rfl ?_
  refine lQ.loadN (cLg 578 rfl) rfl ?_
  refine lQ.loadI (cLg 579 rfl) rfl ?_
  refine lQ.push (cLg 580 rfl) ?_
  refine lQ.binI (cLg 581 rfl) ?_
  refine lQ.ald hR (cLg 582 rfl) (hI.scr hn8 1 (by omega)) ?_
  refine lQ.loadN (cLg 583 rfl) rfl ?_
  refine lQ.loadI (cLg 584 rfl) rfl ?_
  refine lQ.push (cLg 585 rfl) ?_
  refine lQ.binI (cLg 586 rfl) ?_
  refine lQ.ald hR (cLg 587 rfl) (hI.scr hn8 2 (by omega)) ?_
  rw [hI.sw]
  refine lQ.callVI (F := fun z B => x = z ∧ B = tp ad t' (cp y S A)) (G := fun _ _ => False) (args := [.ref (adr ad 0), .int (f (i + 1)), .int (f (i + 2))]) (r := []) hR (cLg 588 rfl) rfl rfl (Nat.le_of_ble_eq_true rfl) (Nat.le_of_ble_eq_true rfl) rfl (tk_0 hn rfl) (ts_572 hR hn d1 (cI_mk ⟨rfl, rfl⟩)) ?_ (fun _ _ _ z => z.elim)
  rintro _ _ ⟨rfl, rfl⟩
  refine lQ.stI (cLg 589 rfl) (lN2s rfl rfl) ?_
  refine lQ.loadN (cLg 590 rfl) rfl ?_
  refine lQ.callVI (F := fun z B => t'.1 0 = z ∧ B = tp ad t' (cp y S A)) (G := fun _ _ => False) (args := [.ref (adr ad 0)]) (r := []) hR (cLg 591 rfl) rfl rfl (Nat.le_of_ble_eq_true rfl) (Nat.le_of_ble_eq_true rfl) rfl (tk_0 hn rfl) (ts_556 hR hn (x := t'.1 0) rfl (cI_mk ⟨rfl, rfl⟩)) ?_ (fun _ _ _ z => z.elim)
  rintro _ _ ⟨rfl, rfl⟩
  rw [hI.mv SDa.rf t']
  have hI := hI.tw SDa.rf t'
  refine lQ.loadI (cLg 592 rfl) rfl ?_
  refine lQ.cmpT (cLg 593 rfl) (decide_eq_true th) ?_
  refine lQ.loadI (cLg 596 rfl) rfl ?_
  by_cases hk : kk = 0
  · refine lQ.ifF (cLg 597 rfl) (decide_eq_false (fun z => z hk)) ?_
    have hv := ov _ hk rfl
    have g3 := LV_out hI.1 f3 hv
    refine lQ.loadN (cLg 598 rfl) rfl ?_
    refine lQ.push (cLg 599 rfl) ?_
    refine lQ.ald hR (cLg 600 rfl) g3 ?_
    refine lQ.loadI (cLg 601 rfl) rfl ?_
    refine lQ.i2l (cLg 602 rfl) ?_
    refine lQ.lcmp (cLg 603 rfl) ?_
    refine lQ.ifT (cLg 604 rfl) (decide_eq_true (lg_cmp_rf _)) ?_
    refine lQ.goto (cLg 607 rfl) ?_
    exact lQ.sub (LLs (by rfl) (by rfl) (by rfl) (by rfl) (by rfl)) (k _ _ _ _ _ _ _ _ hn ⟨hI, r', f1, f3⟩ kK kc ks ((k1_572 K1N.rf).2 _ d1).2)
  · refine lQ.ifT (cLg 597 rfl) (decide_eq_true hk) ?_
    refine lQ.goto (cLg 607 rfl) ?_
    exact lQ.sub (LLs (by rfl) (by rfl) (by rfl) (by rfl) (by rfl)) (k _ _ _ _ _ _ _ _ hn ⟨hI, r', f1, f3⟩ kK kc ks ((k1_572 K1N.rf).2 _ d1).2)
theorem lc_nameOf (hR : lRok R) (hJ : JAll R E) (hn : tOk ad) (hn8 : n ≤ 448) (hi : i + 7 ≤ n) (h : LV E ad b n f h1 o1 o y s A own t K N) (hK : K < 900) (hc : s.2.2.1 < 3800000000) (k : LK R E b n f h1 o1 o i s own t K N 1 6 Z) : lQ R E 1625 cd_L 608 (LL ad b h1 o1 i) [] (cp y s A) Z := by
  obtain ⟨hI, r, f1, f3⟩ := h
  obtain ⟨kk, S, x, t', own', K', N', c1, d1, th, ov, r', kK, kc, ks⟩ := lwa_nameOf r (f (i + 1))
  refine lQ.loadN (cLg 608 rfl) rfl ?_
  refine lQ.loadN (cLg 609 rfl) rfl ?_
  refine lQ.loadI (cLg 610 rfl) rfl ?_
  refine lQ.push (cLg 611 rfl) ?_
  refine lQ.binI (cLg 612 rfl) ?_
  refine lQ.ald hR (cLg 613 rfl) (hI.scr hn8 1 (by omega)) ?_
  refine lQ.loadN (cLg 614 rfl) rfl ?_
  refine lQ.callG (args := [.ref h1, .int (f (i + 1)), .ref o1]) (r := []) hR (cLg 615 rfl) rfl rfl (Nat.le_of_ble_eq_true rfl) (Nat.le_of_ble_eq_true rfl) (cs_324 hR hJ hI.1 (w0 := some h1) (w2 := some o1) f1 f3 c1) ?_ (fun _ _ _ z => by cases z.1)
  rintro _ _ ⟨e_, y, A, hW, hX, rfl⟩
  cases e_
  have f1 := hX.1 _ _ f1
  have f3 := hX.1 _ _ f3
  have hI := hI.ext hW hX
  refine lQ.stI (cLg 616 rfl) (lN2s rfl rfl) ?_
  refine lQ.loadN (cLg 617 rfl) rfl ?_
  refine lQ.loadN (cLg 618 rfl) rfl ?_
  refine lQ.loadI (cLg 619 rfl) rfl ?_
  refine lQ.push (cLg 620 rfl) ?_
  refine lQ.binI (cLg 621 rfl) ?_
  refine lQ.ald hR (cLg 622 rfl) (hI.scr hn8 1 (by omega)) ?_
  rw [hI.sw]
  refine lQ.callVI (F := fun z B => x = z ∧ B = tp ad t' (cp y S A)) (G := fun _ _ => False) (args := [.ref (adr ad 0), .int (f (i + 1))]) (r := []) hR (cLg 623 rfl) rfl rfl (Nat.le_of_ble_eq_true rfl) (Nat.le_of_ble_eq_true rfl) rfl (tk_0 hn rfl) (ts_573 hR hn d1 (cI_mk ⟨rfl, rfl⟩)) ?_ (fun _ _ _ z => z.elim)
  rintro _ _ ⟨rfl, rfl⟩
  refine lQ.stI (cLg 624 rfl) (lN2s rfl rfl) ?_
  refine lQ.loadN (cLg 625 rfl) rfl ?_
  refine lQ.callVI (F := fun z B => t'.1 0 = z ∧ B = tp ad t' (cp y S A)) (G := fun _ _ => False) (args := [.ref (adr ad 0)]) (r := []) hR (cLg 626 rfl) rfl rfl (Nat.le_of_ble_eq_true rfl) (Nat.le_of_ble_eq_true rfl) rfl (tk_0 hn rfl) (ts_556 hR hn (x := t'.1 0) rfl (cI_mk ⟨rfl, rfl⟩)) ?_ (fun _ _ _ z => z.elim)
  rintro _ _ ⟨rfl, rfl⟩
  rw [hI.mv SDa.rf t']
  have hI := hI.tw SDa.rf t'
  refine lQ.loadI (cLg 627 rfl) rfl ?_
  refine lQ.cmpT (cLg 628 rfl) (decide_eq_true th) ?_
  refine lQ.loadI (cLg 631 rfl) rfl ?_
  by_cases hk : kk = 0
  · refine lQ.ifF (cLg 632 rfl) (decide_eq_false (fun z => z hk)) ?_
    have hv := ov _ hk rfl
    have g3 := LV_out hI.1 f3 hv
    refine lQ.loadN (cLg 633 rfl) rfl ?_
    refine lQ.push (cLg 634 rfl) ?_
    refine lQ.ald hR (cLg 635 rfl) g3 ?_
    refine lQ.loadI (cLg 636 rfl) rfl ?_
    refine lQ.i2l (cLg 637 rfl) ?_
    refine lQ.lcmp (cLg 638 rfl) ?_
    refine lQ.ifT (cLg 639 rfl) (decide_eq_true (lg_cmp_rf _)) ?_
    refine lQ.goto (cLg 642 rfl) ?_
    exact lQ.sub (LLs (by rfl) (by rfl) (by rfl) (by rfl) (by rfl)) (k _ _ _ _ _ _ _ _ hn ⟨hI, r', f1, f3⟩ kK kc ks ((k1_573 K1N.rf).2 _ d1).2)
  · refine lQ.ifT (cLg 632 rfl) (decide_eq_true hk) ?_
    refine lQ.goto (cLg 642 rfl) ?_
    exact lQ.sub (LLs (by rfl) (by rfl) (by rfl) (by rfl) (by rfl)) (k _ _ _ _ _ _ _ _ hn ⟨hI, r', f1, f3⟩ kK kc ks ((k1_573 K1N.rf).2 _ d1).2)
theorem lc_say (hR : lRok R) (hJ : JAll R E) (hn : tOk ad) (hn8 : n ≤ 448) (hi : i + 7 ≤ n) (h : LV E ad b n f h1 o1 o y s A own t K N) (hK : K < 900) (hc : s.2.2.1 < 3800000000) (k : LK R E b n f h1 o1 o i s own t K N 17 198 Z) : lQ R E 1625 cd_L 643 (LL ad b h1 o1 i) [] (cp y s A) Z := by
  obtain ⟨hI, r, f1, f3⟩ := h
  obtain ⟨kk, S, x, t', own', K', N', c1, d1, th, ov, r', kK, kc, ks⟩ := lwa_say r (((f (i + 1)).toInt64 <<< ((32 : Int32).toInt64 &&& 63)) ||| ((f (i + 2)).toInt64 &&& 4294967295))
  refine lQ.loadN (cLg 643 rfl) rfl ?_
  refine lQ.loadN (cLg 644 rfl) rfl ?_
  refine lQ.loadI (cLg 645 rfl) rfl ?_
  refine lQ.push (cLg 646 rfl) ?_
  refine lQ.binI (cLg 647 rfl) ?_
  refine lQ.ald hR (cLg 648 rfl) (hI.scr hn8 1 (by omega)) ?_
  refine lQ.i2l (cLg 649 rfl) ?_
  refine lQ.push (cLg 650 rfl) ?_
  refine lQ.shL (cLg 651 rfl) ?_
  refine lQ.loadN (cLg 652 rfl) rfl ?_
  refine lQ.loadI (cLg 653 rfl) rfl ?_
  refine lQ.push (cLg 654 rfl) ?_
  refine lQ.binI (cLg 655 rfl) ?_
  refine lQ.ald hR (cLg 656 rfl) (hI.scr hn8 2 (by omega)) ?_
  refine lQ.i2l (cLg 657 rfl) ?_
  refine lQ.push (cLg 658 rfl) ?_
  refine lQ.binL (cLg 659 rfl) ?_
  refine lQ.binL (cLg 660 rfl) ?_
  refine lQ.loadN (cLg 661 rfl) rfl ?_
  refine lQ.callG (args := [.ref h1, .long (((f (i + 1)).toInt64 <<< ((32 : Int32).toInt64 &&& 63)) ||| ((f (i + 2)).toInt64 &&& 4294967295)), .ref o1]) (r := []) hR (cLg 662 rfl) rfl rfl (Nat.le_of_ble_eq_true rfl) (Nat.le_of_ble_eq_true rfl) (cs_325 hR hJ hI.1 (w0 := some h1) (w3 := some o1) f1 f3 c1) ?_ (fun _ _ _ z => by cases z.1)
  rintro _ _ ⟨e_, y, A, hW, hX, rfl⟩
  cases e_
  have f1 := hX.1 _ _ f1
  have f3 := hX.1 _ _ f3
  have hI := hI.ext hW hX
  refine lQ.stI (cLg 663 rfl) (lN2s rfl rfl) ?_
  refine lQ.loadN (cLg 664 rfl) rfl ?_
  refine lQ.loadN (cLg 665 rfl) rfl ?_
  refine lQ.loadI (cLg 666 rfl) rfl ?_
  refine lQ.push (cLg 667 rfl) ?_
  refine lQ.binI (cLg 668 rfl) ?_
  refine lQ.ald hR (cLg 669 rfl) (hI.scr hn8 1 (by omega)) ?_
  refine lQ.i2l (cLg 670 rfl) ?_
  refine lQ.push (cLg 671 rfl) ?_
  refine lQ.shL (cLg 672 rfl) ?_
  refine lQ.loadN (cLg 673 rfl) rfl ?_
  refine lQ.loadI (cLg 674 rfl) rfl ?_
  refine lQ.push (cLg 675 rfl) ?_
  refine lQ.binI (cLg 676 rfl) ?_
  refine lQ.ald hR (cLg 677 rfl) (hI.scr hn8 2 (by omega)) ?_
  refine lQ.i2l (cLg 678 rfl) ?_
  refine lQ.push (cLg 679 rfl) ?_
  refine lQ.binL (cLg 680 rfl) ?_
  refine lQ.binL (cLg 681 rfl) ?_
  rw [hI.sw]
  refine lQ.callVI (F := fun z B => x = z ∧ B = tp ad t' (cp y S A)) (G := fun _ _ => False) (args := [.ref (adr ad 0), .long (((f (i + 1)).toInt64 <<< ((32 : Int32).toInt64 &&& 63)) ||| ((f (i + 2)).toInt64 &&& 4294967295))]) (r := []) hR (cLg 682 rfl) rfl rfl (Nat.le_of_ble_eq_true rfl) (Nat.le_of_ble_eq_true rfl) rfl (tk_0 hn rfl) (ts_574 hR hn d1 (cI_mk ⟨rfl, rfl⟩)) ?_ (fun _ _ _ z => z.elim)
  rintro _ _ ⟨rfl, rfl⟩
  refine lQ.stI (cLg 683 rfl) (lN2s rfl rfl) ?_
  refine lQ.loadN (cLg 684 rfl) rfl ?_
  refine lQ.callVI (F := fun z B => t'.1 0 = z ∧ B = tp ad t' (cp y S A)) (G := fun _ _ => False) (args := [.ref (adr ad 0)]) (r := []) hR (cLg 685 rfl) rfl rfl (Nat.le_of_ble_eq_true rfl) (Nat.le_of_ble_eq_true rfl) rfl (tk_0 hn rfl) (ts_556 hR hn (x := t'.1 0) rfl (cI_mk ⟨rfl, rfl⟩)) ?_ (fun _ _ _ z => z.elim)
  rintro _ _ ⟨rfl, rfl⟩
  rw [hI.mv SDa.rf t']
  have hI := hI.tw SDa.rf t'
  refine lQ.loadI (cLg 686 rfl) rfl ?_
  refine lQ.cmpT (cLg 687 rfl) (decide_eq_true th) ?_
  refine lQ.loadI (cLg 690 rfl) rfl ?_
  by_cases hk : kk = 0
  · refine lQ.ifF (cLg 691 rfl) (decide_eq_false (fun z => z hk)) ?_
    have hv := ov _ hk rfl
    have g3 := LV_out hI.1 f3 hv
    refine lQ.loadN (cLg 692 rfl) rfl ?_
    refine lQ.push (cLg 693 rfl) ?_
    refine lQ.ald hR (cLg 694 rfl) g3 ?_
    refine lQ.loadI (cLg 695 rfl) rfl ?_
    refine lQ.i2l (cLg 696 rfl) ?_
    refine lQ.lcmp (cLg 697 rfl) ?_
    refine lQ.ifT (cLg 698 rfl) (decide_eq_true (lg_cmp_rf _)) ?_
    refine lQ.goto (cLg 701 rfl) ?_
    exact lQ.sub (LLs (by rfl) (by rfl) (by rfl) (by rfl) (by rfl)) (k _ _ _ _ _ _ _ _ hn ⟨hI, r', f1, f3⟩ kK kc ks ((k1_574 K1N.rf).2 _ d1).2)
  · refine lQ.ifT (cLg 691 rfl) (decide_eq_true hk) ?_
    refine lQ.goto (cLg 701 rfl) ?_
    exact lQ.sub (LLs (by rfl) (by rfl) (by rfl) (by rfl) (by rfl)) (k _ _ _ _ _ _ _ _ hn ⟨hI, r', f1, f3⟩ kK kc ks ((k1_574 K1N.rf).2 _ d1).2)
theorem lc_trim (hR : lRok R) (hJ : JAll R E) (hn : tOk ad) (hn8 : n ≤ 448) (hi : i + 7 ≤ n) (h : LV E ad b n f h1 o1 o y s A own t K N) (hK : K < 900) (hc : s.2.2.1 < 3800000000) (k : LK R E b n f h1 o1 o i s own t K N 1 6 Z) : lQ R E 1625 cd_L 702 (LL ad b h1 o1 i) [] (cp y s A) Z := by
  obtain ⟨hI, r, f1, f3⟩ := h
  obtain ⟨kk, S, x, t', own', K', N', c1, d1, th, ov, r', kK, kc, ks⟩ := lwa_trim r (f (i + 1))
  refine lQ.loadN (cLg 702 rfl) rfl ?_
  refine lQ.loadN (cLg 703 rfl) rfl ?_
  refine lQ.loadI (cLg 704 rfl) rfl ?_
  refine lQ.push (cLg 705 rfl) ?_
  refine lQ.binI (cLg 706 rfl) ?_
  refine lQ.ald hR (cLg 707 rfl) (hI.scr hn8 1 (by omega)) ?_
  refine lQ.loadN (cLg 708 rfl) rfl ?_
  refine lQ.callG (args := [.ref h1, .int (f (i + 1)), .ref o1]) (r := []) hR (cLg 709 rfl) rfl rfl (Nat.le_of_ble_eq_true rfl) (Nat.le_of_ble_eq_true rfl) (cs_326 hR hJ hI.1 (w0 := some h1) (w2 := some o1) f1 f3 c1) ?_ (fun _ _ _ z => by cases z.1)
  rintro _ _ ⟨e_, y, A, hW, hX, rfl⟩
  cases e_
  have f1 := hX.1 _ _ f1
  have f3 := hX.1 _ _ f3
  have hI := hI.ext hW hX
  refine lQ.stI (cLg 710 rfl) (lN2s rfl rfl) ?_
  refine lQ.loadN (cLg 711 rfl) rfl ?_
  refine lQ.loadN (cLg 712 rfl) rfl ?_
  refine lQ.loadI (cLg 713 rfl) rfl ?_
  refine lQ.push (cLg 714 rfl) ?_
  refine lQ.binI (cLg 715 rfl) ?_
  refine lQ.ald hR (cLg 716 rfl) (hI.scr hn8 1 (by omega)) ?_
  rw [hI.sw]
  refine lQ.callVI (F := fun z B => x = z ∧ B = tp ad t' (cp y S A)) (G := fun _ _ => False) (args := [.ref (adr ad 0), .int (f (i + 1))]) (r := []) hR (cLg 717 rfl) rfl rfl (Nat.le_of_ble_eq_true rfl) (Nat.le_of_ble_eq_true rfl) rfl (tk_0 hn rfl) (ts_575 hR hn d1 (cI_mk ⟨rfl, rfl⟩)) ?_ (fun _ _ _ z => z.elim)
  rintro _ _ ⟨rfl, rfl⟩
  refine lQ.stI (cLg 718 rfl) (lN2s rfl rfl) ?_
  refine lQ.loadN (cLg 719 rfl) rfl ?_
  refine lQ.callVI (F := fun z B => t'.1 0 = z ∧ B = tp ad t' (cp y S A)) (G := fun _ _ => False) (args := [.ref (adr ad 0)]) (r := []) hR (cLg 720 rfl) rfl rfl (Nat.le_of_ble_eq_true rfl) (Nat.le_of_ble_eq_true rfl) rfl (tk_0 hn rfl) (ts_556 hR hn (x := t'.1 0) rfl (cI_mk ⟨rfl, rfl⟩)) ?_ (fun _ _ _ z => z.elim)
  rintro _ _ ⟨rfl, rfl⟩
  rw [hI.mv SDa.rf t']
  have hI := hI.tw SDa.rf t'
  refine lQ.loadI (cLg 721 rfl) rfl ?_
  refine lQ.cmpT (cLg 722 rfl) (decide_eq_true th) ?_
  refine lQ.loadI (cLg 725 rfl) rfl ?_
  by_cases hk : kk = 0
  · refine lQ.ifF (cLg 726 rfl) (decide_eq_false (fun z => z hk)) ?_
    have hv := ov _ hk rfl
    have g3 := LV_out hI.1 f3 hv
    refine lQ.loadN (cLg 727 rfl) rfl ?_
    refine lQ.push (cLg 728 rfl) ?_
    refine lQ.ald hR (cLg 729 rfl) g3 ?_
    refine lQ.loadI (cLg 730 rfl) rfl ?_
    refine lQ.i2l (cLg 731 rfl) ?_
    refine lQ.lcmp (cLg 732 rfl) ?_
    refine lQ.ifT (cLg 733 rfl) (decide_eq_true (lg_cmp_rf _)) ?_
    refine lQ.goto (cLg 736 rfl) ?_
    exact lQ.sub (LLs (by rfl) (by rfl) (by rfl) (by rfl) (by rfl)) (k _ _ _ _ _ _ _ _ hn ⟨hI, r', f1, f3⟩ kK kc ks ((k1_575 K1N.rf).2 _ d1).2)
  · refine lQ.ifT (cLg 726 rfl) (decide_eq_true hk) ?_
    refine lQ.goto (cLg 736 rfl) ?_
    exact lQ.sub (LLs (by rfl) (by rfl) (by rfl) (by rfl) (by rfl)) (k _ _ _ _ _ _ _ _ hn ⟨hI, r', f1, f3⟩ kK kc ks ((k1_575 K1N.rf).2 _ d1).2)
theorem lc_rules (hR : lRok R) (hJ : JAll R E) (hn : tOk ad) (hn8 : n ≤ 448) (hi : i + 7 ≤ n) (h : LV E ad b n f h1 o1 o y s A own t K N) (hK : K < 900) (hc : s.2.2.1 < 3800000000) (k : LK R E b n f h1 o1 o i s own t K N 2231 6686 Z) : lQ R E 1625 cd_L 737 (LL ad b h1 o1 i) [] (cp y s A) Z := by
  obtain ⟨hI, r, f1, f3⟩ := h
  obtain ⟨x, S, t', own', K', N', c1, d1, r', kK, kc, ks⟩ := lwa_rules r
  refine lQ.loadN (cLg 737 rfl) rfl ?_
  refine cQ.callV (ks := [45]) (args := []) (rest := []) hR (cLg 738 rfl) hI.1 f1 (RL_100 r) rfl rfl rfl (Nat.le_of_ble_eq_true rfl) (Nat.le_of_ble_eq_true rfl) (cs_392 hR hJ hI.1 (w0 := some h1) f1 c1) ?_ (fun _ _ _ z => by cases z.1)
  rintro _ _ ⟨e_, y, A, hW, hX, rfl⟩
  cases e_
  have f1 := hX.1 _ _ f1
  have f3 := hX.1 _ _ f3
  have hI := hI.ext hW hX
  refine lQ.loadN (cLg 739 rfl) rfl ?_
  rw [hI.sw]
  refine lQ.callVI (F := fun z B => x = z ∧ B = tp ad t' (cp y S A)) (G := fun _ _ => False) (args := [.ref (adr ad 0)]) (r := [.int x]) hR (cLg 740 rfl) rfl rfl (Nat.le_of_ble_eq_true rfl) (Nat.le_of_ble_eq_true rfl) rfl (tk_0 hn rfl) (ts_576 hR hn d1 (cI_mk ⟨rfl, rfl⟩)) ?_ (fun _ _ _ z => z.elim)
  rintro _ _ ⟨rfl, rfl⟩
  rw [hI.mv SDa.rf t']
  have hI := hI.tw SDa.rf t'
  refine lQ.cmpT (cLg 741 rfl) (decide_eq_true rfl) ?_
  exact k _ _ _ _ _ _ _ _ hn ⟨hI, r', f1, f3⟩ kK kc ks ((k1_576 K1N.rf).2 _ d1).2
end LC
