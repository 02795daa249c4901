/-! the law's walk: cases -/
section LC
variable {R : lAR} {E : lE} {ad : List Nat} {b n : Nat} {f : Nat → Int32} {h1 o1 o i K N : Nat} {y : lY} {s : CS} {A : lMem} {own : Nat → Nat} {t : TS} {Z : lZ}
theorem lc_disturb (hR : lRok R) (hJ : JAll R E) (hn : tOk ad) (hn8 : n ≤ 448) (hi : i + 7 ≤ n) (h : LV E ad b n f h1 o1 o y s A own t K N) (hK : K < 900) (hc : s.2.2.1 < 3800000000) (k : LK R E b n f h1 o1 o i s own t K N 7 15 Z) : lQ R E 1625 cd_L 3077 (LL ad b h1 o1 i) [] (cp y s A) Z := by
  obtain ⟨hI, r, f1, f3⟩ := h
  obtain ⟨kk, S, x, t', own', K', N', c1, d1, th, ov, r', kK, kc, ks⟩ := lwa_disturb r (f (i + 1))
  refine lQ.loadN (cLg 3077 rfl) rfl ?_
  refine lQ.loadN (cLg 3078 rfl) rfl ?_
  refine lQ.loadI (cLg 3079 rfl) rfl ?_
  refine lQ.push (cLg 3080 rfl) ?_
  refine lQ.binI (cLg 3081 rfl) ?_
  refine lQ.ald hR (cLg 3082 rfl) (hI.scr hn8 1 (by omega)) ?_
  refine lQ.loadN (cLg 3083 rfl) rfl ?_
  refine lQ.callG (args := [.ref h1, .int (f (i + 1)), .ref o1]) (r := []) hR (cLg 3084 rfl) rfl rfl (Nat.le_of_ble_eq_true rfl) (Nat.le_of_ble_eq_true rfl) (cs_375 hR hJ hI.1 (w0 := some h1) (w2 := some o1) f1 f3 c1) ?_ (fun _ _ _ z => by cases z.1)
  rintro _ _ ⟨e_, y, A, hW, hX, rfl⟩
  cases e_
  have f1 := hX.1 _ _ f1
  have f3 := hX.1 _ _ f3
  have hI := hI.ext hW hX
  refine lQ.stI (cLg 3085 rfl) (lN2s rfl rfl) ?_
  refine lQ.loadN (cLg 3086 rfl) rfl ?_
  refine lQ.loadN (cLg 3087 rfl) rfl ?_
  refine lQ.loadI (cLg 3088 rfl) rfl ?_
  refine lQ.push (cLg 3089 rfl) ?_
  refine lQ.binI (cLg 3090 rfl) ?_
  refine lQ.ald hR (cLg 3091 rfl) (hI.scr hn8 1 (by omega)) ?_
  rw [hI.sw]
  refine lQ.callVI (F := fun z B => x = z ∧ B = tp ad t' (cp y S A)) (G := fun _ _ => False) (args := [.ref (adr ad 0), .int (f (i + 1))]) (r := []) hR (cLg 3092 rfl) rfl rfl (Nat.le_of_ble_eq_true rfl) (Nat.le_of_ble_eq_true rfl) rfl (tk_0 hn rfl) (ts_648 hR hn d1 (cI_mk ⟨rfl, rfl⟩)) ?_ (fun _ _ _ z => z.elim)
  rintro _ _ ⟨rfl, rfl⟩
  refine lQ.stI (cLg 3093 rfl) (lN2s rfl rfl) ?_
  refine lQ.loadN (cLg 3094 rfl) rfl ?_
  refine lQ.callVI (F := fun z B => t'.1 0 = z ∧ B = tp ad t' (cp y S A)) (G := fun _ _ => False) (args := [.ref (adr ad 0)]) (r := []) hR (cLg 3095 rfl) rfl rfl (Nat.le_of_ble_eq_true rfl) (Nat.le_of_ble_eq_true rfl) rfl (tk_0 hn rfl) (ts_556 hR hn (x := t'.1 0) rfl (cI_mk ⟨rfl, rfl⟩)) ?_ (fun _ _ _ z => z.elim)
  rintro _ _ ⟨rfl, rfl⟩
  rw [hI.mv SDa.rf t']
  have hI := hI.tw SDa.rf t'
  refine lQ.loadI (cLg 3096 rfl) rfl ?_
  refine lQ.cmpT (cLg 3097 rfl) (decide_eq_true th) ?_
  refine lQ.loadI (cLg 3100 rfl) rfl ?_
  by_cases hk : kk = 0
  · refine lQ.ifF (cLg 3101 rfl) (decide_eq_false (fun z => z hk)) ?_
    have hv := ov _ hk rfl
    have g3 := LV_out hI.1 f3 hv
    refine lQ.loadN (cLg 3102 rfl) rfl ?_
    refine lQ.push (cLg 3103 rfl) ?_
    refine lQ.ald hR (cLg 3104 rfl) g3 ?_
    refine lQ.loadI (cLg 3105 rfl) rfl ?_
    by_cases hx : x = 0
    · refine lQ.ifT (cLg 3106 rfl) (decide_eq_true hx) ?_
      refine lQ.push (cLg 3109 rfl) ?_
      rw [if_pos hx]
      refine lQ.lcmp (cLg 3110 rfl) ?_
      refine lQ.ifT (cLg 3111 rfl) (decide_eq_true (lg_cmp_rf _)) ?_
      refine lQ.goto (cLg 3114 rfl) ?_
      exact lQ.sub (LLs (by rfl) (by rfl) (by rfl) (by rfl) (by rfl)) (k _ _ _ _ _ _ _ _ hn ⟨hI, r', f1, f3⟩ kK kc ks ((k1_648 K1N.rf).2 _ d1).2)
    · refine lQ.ifF (cLg 3106 rfl) (decide_eq_false hx) ?_
      refine lQ.push (cLg 3107 rfl) ?_
      refine lQ.goto (cLg 3108 rfl) ?_
      rw [if_neg hx]
      refine lQ.lcmp (cLg 3110 rfl) ?_
      refine lQ.ifT (cLg 3111 rfl) (decide_eq_true (lg_cmp_rf _)) ?_
      refine lQ.goto (cLg 3114 rfl) ?_
      exact lQ.sub (LLs (by rfl) (by rfl) (by rfl) (by rfl) (by rfl)) (k _ _ _ _ _ _ _ _ hn ⟨hI, r', f1, f3⟩ kK kc ks ((k1_648 K1N.rf).2 _ d1).2)
  · refine lQ.ifT (cLg 3101 rfl) (decide_eq_true hk) ?_
    refine lQ.goto (cLg 3114 rfl) ?_
    exact lQ.sub (LLs (by rfl) (by rfl) (by rfl) (by rfl) (by rfl)) (k _ _ _ _ _ _ _ _ hn ⟨hI, r', f1, f3⟩ kK kc ks ((k1_648 K1N.rf).2 _ d1).2)
theorem lc_station (hR : lRok R) (hJ : JAll R E) (hn : tOk ad) (hn8 : n ≤ 448) (hi : i + 7 ≤ n) (h : LV E ad b n f h1 o1 o y s A own t K N) (hK : K < 900) (hc : s.2.2.1 < 3800000000) (k : LK R E b n f h1 o1 o i s own t K N 1 6 Z) : lQ R E 1625 cd_L 3115 (LL ad b h1 o1 i) [] (cp y s A) Z := by
  obtain ⟨hI, r, f1, f3⟩ := h
  obtain ⟨kk, S, x, t', own', K', N', c1, d1, th, ov, r', kK, kc, ks⟩ := lwa_station r (f (i + 1)) (f (i + 2))
  refine lQ.loadN (cLg 3115 rfl) rfl ?_
  refine lQ.loadN (cLg 3116 rfl) rfl ?_
  refine lQ.loadI (cLg 3117 rfl) rfl ?_
  refine lQ.push (cLg 3118 rfl) ?_
  refine lQ.binI (cLg 3119 rfl) ?_
  refine lQ.ald hR (cLg 3120 rfl) (hI.scr hn8 1 (by omega)) ?_
  refine lQ.loadN (cLg 3121 rfl) rfl ?_
  refine lQ.loadI (cLg 3122 rfl) rfl ?_
  refine lQ.push (cLg 3123 rfl) ?_
  refine lQ.binI (cLg 3124 rfl) ?_
  refine lQ.ald hR (cLg 3125 rfl) (hI.scr hn8 2 (by omega)) ?_
  refine lQ.loadN (cLg 3126 rfl) rfl ?_
  refine lQ.callG (args := [.ref h1, .int (f (i + 1)), .int (f (i + 2)), .ref o1]) (r := []) hR (cLg 3127 rfl) rfl rfl (Nat.le_of_ble_eq_true rfl) (Nat.le_of_ble_eq_true rfl) (cs_376 hR hJ hI.1 (w0 := some h1) (w3 := some o1) f1 f3 c1) ?_ (fun _ _ _ z => by cases z.1)
  rintro _ _ ⟨e_, y, A, hW, hX, rfl⟩
  cases e_
  have f1 := hX.1 _ _ f1
  have f3 := hX.1 _ _ f3
  have hI := hI.ext hW hX
  refine lQ.stI (cLg 3128 rfl) (lN2s rfl rfl) ?_
  refine lQ.loadN (cLg 3129 rfl) rfl ?_
  refine lQ.loadN (cLg 3130 rfl) rfl ?_
  refine lQ.loadI (cLg 3131 rfl) rfl ?_
  refine lQ.push (cLg 3132 rfl) ?_
  refine lQ.binI (cLg 3133 rfl) ?_
  refine lQ.ald hR (cLg 3134 rfl) (hI.scr hn8 1 (by omega)) ?_
  refine lQ.loadN (cLg 3135 rfl) rfl ?_
  refine lQ.loadI (cLg 3136 rfl) rfl ?_
  refine lQ.push (cLg 3137 rfl) ?_
  refine lQ.binI (cLg 3138 rfl) ?_
  refine lQ.ald hR (cLg 3139 rfl) (hI.scr hn8 2 (by omega)) ?_
  rw [hI.sw]
  refine lQ.callVI (F := fun z B => x = z ∧ B = tp ad t' (cp y S A)) (G := fun _ _ => False) (args := [.ref (adr ad 0), .int (f (i + 1)), .int (f (i + 2))]) (r := []) hR (cLg 3140 rfl) rfl rfl (Nat.le_of_ble_eq_true rfl) (Nat.le_of_ble_eq_true rfl) rfl (tk_0 hn rfl) (ts_649 hR hn d1 (cI_mk ⟨rfl, rfl⟩)) ?_ (fun _ _ _ z => z.elim)
  rintro _ _ ⟨rfl, rfl⟩
  refine lQ.stI (cLg 3141 rfl) (lN2s rfl rfl) ?_
  refine lQ.loadN (cLg 3142 rfl) rfl ?_
  refine lQ.callVI (F := fun z B => t'.1 0 = z ∧ B = tp ad t' (cp y S A)) (G := fun _ _ => False) (args := [.ref (adr ad 0)]) (r := []) hR (cLg 3143 rfl) rfl rfl (Nat.le_of_ble_eq_true rfl) (Nat.le_of_ble_eq_true rfl) rfl (tk_0 hn rfl) (ts_556 hR hn (x := t'.1 0) rfl (cI_mk ⟨rfl, rfl⟩)) ?_ (fun _ _ _ z => z.elim)
  rintro _ _ ⟨rfl, rfl⟩
  rw [hI.mv SDa.rf t']
  have hI := hI.tw SDa.rf t'
  refine lQ.loadI (cLg 3144 rfl) rfl ?_
  refine lQ.cmpT (cLg 3145 rfl) (decide_eq_true th) ?_
  refine lQ.loadI (cLg 3148 rfl) rfl ?_
  by_cases hk : kk = 0
  · refine lQ.ifF (cLg 3149 rfl) (decide_eq_false (fun z => z hk)) ?_
    have hv := ov _ hk rfl
    have g3 := LV_out hI.1 f3 hv
    refine lQ.loadN (cLg 3150 rfl) rfl ?_
    refine lQ.push (cLg 3151 rfl) ?_
    refine lQ.ald hR (cLg 3152 rfl) g3 ?_
    refine lQ.loadI (cLg 3153 rfl) rfl ?_
    refine lQ.i2l (cLg 3154 rfl) ?_
    refine lQ.lcmp (cLg 3155 rfl) ?_
    refine lQ.ifT (cLg 3156 rfl) (decide_eq_true (lg_cmp_rf _)) ?_
    refine lQ.goto (cLg 3159 rfl) ?_
    exact lQ.sub (LLs (by rfl) (by rfl) (by rfl) (by rfl) (by rfl)) (k _ _ _ _ _ _ _ _ hn ⟨hI, r', f1, f3⟩ kK kc ks ((k1_649 K1N.rf).2 _ d1).2)
  · refine lQ.ifT (cLg 3149 rfl) (decide_eq_true hk) ?_
    refine lQ.goto (cLg 3159 rfl) ?_
    exact lQ.sub (LLs (by rfl) (by rfl) (by rfl) (by rfl) (by rfl)) (k _ _ _ _ _ _ _ _ hn ⟨hI, r', f1, f3⟩ kK kc ks ((k1_649 K1N.rf).2 _ d1).2)
theorem lc_heard (hR : lRok R) (hJ : JAll R E) (hn : tOk ad) (hn8 : n ≤ 448) (hi : i + 7 ≤ n) (h : LV E ad b n f h1 o1 o y s A own t K N) (hK : K < 900) (hc : s.2.2.1 < 3800000000) (k : LK R E b n f h1 o1 o i s own t K N 1 6 Z) : lQ R E 1625 cd_L 3160 (LL ad b h1 o1 i) [] (cp y s A) Z := by
  obtain ⟨hI, r, f1, f3⟩ := h
  obtain ⟨kk, S, x, t', own', K', N', c1, d1, th, ov, r', kK, kc, ks⟩ := lwa_heard r (f (i + 1))
  refine lQ.loadN (cLg 3160 rfl) rfl ?_
  refine lQ.loadN (cLg 3161 rfl) rfl ?_
  refine lQ.loadI (cLg 3162 rfl) rfl ?_
  refine lQ.push (cLg 3163 rfl) ?_
  refine lQ.binI (cLg 3164 rfl) ?_
  refine lQ.ald hR (cLg 3165 rfl) (hI.scr hn8 1 (by omega)) ?_
  refine lQ.loadN (cLg 3166 rfl) rfl ?_
  refine lQ.callG (args := [.ref h1, .int (f (i + 1)), .ref o1]) (r := []) hR (cLg 3167 rfl) rfl rfl (Nat.le_of_ble_eq_true rfl) (Nat.le_of_ble_eq_true rfl) (cs_377 hR hJ hI.1 (w0 := some h1) (w2 := some o1) f1 f3 c1) ?_ (fun _ _ _ z => by cases z.1)
  rintro _ _ ⟨e_, y, A, hW, hX, rfl⟩
  cases e_
  have f1 := hX.1 _ _ f1
  have f3 := hX.1 _ _ f3
  have hI := hI.ext hW hX
  refine lQ.stI (cLg 3168 rfl) (lN2s rfl rfl) ?_
  refine lQ.loadN (cLg 3169 rfl) rfl ?_
  refine lQ.loadN (cLg 3170 rfl) rfl ?_
  refine lQ.loadI (cLg 3171 rfl) rfl ?_
  refine lQ.push (cLg 3172 rfl) ?_
  refine lQ.binI (cLg 3173 rfl) ?_
  refine lQ.ald hR (cLg 3174 rfl) (hI.scr hn8 1 (by omega)) ?_
  rw [hI.sw]
  refine lQ.callVI (F := fun z B => x = z ∧ B = tp ad t' (cp y S A)) (G := fun _ _ => False) (args := [.ref (adr ad 0), .int (f (i + 1))]) (r := []) hR (cLg 3175 rfl) rfl rfl (Nat.le_of_ble_eq_true rfl) (Nat.le_of_ble_eq_true rfl) rfl (tk_0 hn rfl) (ts_650 hR hn d1 (cI_mk ⟨rfl, rfl⟩)) ?_ (fun _ _ _ z => z.elim)
  rintro _ _ ⟨rfl, rfl⟩
  refine lQ.stI (cLg 3176 rfl) (lN2s rfl rfl) ?_
  refine lQ.loadN (cLg 3177 rfl) rfl ?_
  refine lQ.callVI (F := fun z B => t'.1 0 = z ∧ B = tp ad t' (cp y S A)) (G := fun _ _ => False) (args := [.ref (adr ad 0)]) (r := []) hR (cLg 3178 rfl) rfl rfl (Nat.le_of_ble_eq_true rfl) (Nat.le_of_ble_eq_true rfl) rfl (tk_0 hn rfl) (ts_556 hR hn (x := t'.1 0) rfl (cI_mk ⟨rfl, rfl⟩)) ?_ (fun _ _ _ z => z.elim)
  rintro _ _ ⟨rfl, rfl⟩
  rw [hI.mv SDa.rf t']
  have hI := hI.tw SDa.rf t'
  refine lQ.loadI (cLg 3179 rfl) rfl ?_
  refine lQ.cmpT (cLg 3180 rfl) (decide_eq_true th) ?_
  refine lQ.loadI (cLg 3183 rfl) rfl ?_
  by_cases hk : kk = 0
  · refine lQ.ifF (cLg 3184 rfl) (decide_eq_false (fun z => z hk)) ?_
    have hv := ov _ hk rfl
    have g3 := LV_out hI.1 f3 hv
    refine lQ.loadN (cLg 3185 rfl) rfl ?_
    refine lQ.push (cLg 3186 rfl) ?_
    refine lQ.ald hR (cLg 3187 rfl) g3 ?_
    refine lQ.loadI (cLg 3188 rfl) rfl ?_
    refine lQ.i2l (cLg 3189 rfl) ?_
    refine lQ.lcmp (cLg 3190 rfl) ?_
    refine lQ.ifT (cLg 3191 rfl) (decide_eq_true (lg_cmp_rf _)) ?_
    refine lQ.goto (cLg 3194 rfl) ?_
    exact lQ.sub (LLs (by rfl) (by rfl) (by rfl) (by rfl) (by rfl)) (k _ _ _ _ _ _ _ _ hn ⟨hI, r', f1, f3⟩ kK kc ks ((k1_650 K1N.rf).2 _ d1).2)
  · refine lQ.ifT (cLg 3184 rfl) (decide_eq_true hk) ?_
    refine lQ.goto (cLg 3194 rfl) ?_
    exact lQ.sub (LLs (by rfl) (by rfl) (by rfl) (by rfl) (by rfl)) (k _ _ _ _ _ _ _ _ hn ⟨hI, r', f1, f3⟩ kK kc ks ((k1_650 K1N.rf).2 _ d1).2)
theorem lc_byteAt (hR : lRok R) (hJ : JAll R E) (hn : tOk ad) (hn8 : n ≤ 448) (hi : i + 7 ≤ n) (h : LV E ad b n f h1 o1 o y s A own t K N) (hK : K < 900) (hc : s.2.2.1 < 3800000000) (k : LK R E b n f h1 o1 o i s own t K N 1 6 Z) : lQ R E 1625 cd_L 3195 (LL ad b h1 o1 i) [] (cp y s A) Z := by
  obtain ⟨hI, r, f1, f3⟩ := h
  obtain ⟨kk, S, x, t', own', K', N', c1, d1, th, ov, r', kK, kc, ks⟩ := lwa_byteAt r (f (i + 1))
  refine lQ.loadN (cLg 3195 rfl) rfl ?_
  refine lQ.loadN (cLg 3196 rfl) rfl ?_
  refine lQ.loadI (cLg 3197 rfl) rfl ?_
  refine lQ.push (cLg 3198 rfl) ?_
  refine lQ.binI (cLg 3199 rfl) ?_
  refine lQ.ald hR (cLg 3200 rfl) (hI.scr hn8 1 (by omega)) ?_
  refine lQ.loadN (cLg 3201 rfl) rfl ?_
  refine lQ.callG (args := [.ref h1, .int (f (i + 1)), .ref o1]) (r := []) hR (cLg 3202 rfl) rfl rfl (Nat.le_of_ble_eq_true rfl) (Nat.le_of_ble_eq_true rfl) (cs_378 hR hJ hI.1 (w0 := some h1) (w2 := some o1) f1 f3 c1) ?_ (fun _ _ _ z => by cases z.1)
  rintro _ _ ⟨e_, y, A, hW, hX, rfl⟩
  cases e_
  have f1 := hX.1 _ _ f1
  have f3 := hX.1 _ _ f3
  have hI := hI.ext hW hX
  refine lQ.stI (cLg 3203 rfl) (lN2s rfl rfl) ?_
  refine lQ.loadN (cLg 3204 rfl) rfl ?_
  refine lQ.loadN (cLg 3205 rfl) rfl ?_
  refine lQ.loadI (cLg 3206 rfl) rfl ?_
  refine lQ.push (cLg 3207 rfl) ?_
  refine lQ.binI (cLg 3208 rfl) ?_
  refine lQ.ald hR (cLg 3209 rfl) (hI.scr hn8 1 (by omega)) ?_
  rw [hI.sw]
  refine lQ.callVI (F := fun z B => x = z ∧ B = tp ad t' (cp y S A)) (G := fun _ _ => False) (args := [.ref (adr ad 0), .int (f (i + 1))]) (r := []) hR (cLg 3210 rfl) rfl rfl (Nat.le_of_ble_eq_true rfl) (Nat.le_of_ble_eq_true rfl) rfl (tk_0 hn rfl) (ts_651 hR hn d1 (cI_mk ⟨rfl, rfl⟩)) ?_ (fun _ _ _ z => z.elim)
  rintro _ _ ⟨rfl, rfl⟩
  refine lQ.stI (cLg 3211 rfl) (lN2s rfl rfl) ?_
  refine lQ.loadN (cLg 3212 rfl) rfl ?_
  refine lQ.callVI (F := fun z B => t'.1 0 = z ∧ B = tp ad t' (cp y S A)) (G := fun _ _ => False) (args := [.ref (adr ad 0)]) (r := []) hR (cLg 3213 rfl) rfl rfl (Nat.le_of_ble_eq_true rfl) (Nat.le_of_ble_eq_true rfl) rfl (tk_0 hn rfl) (ts_556 hR hn (x := t'.1 0) rfl (cI_mk ⟨rfl, rfl⟩)) ?_ (fun _ _ _ z => z.elim)
  rintro _ _ ⟨rfl, rfl⟩
  rw [hI.mv SDa.rf t']
  have hI := hI.tw SDa.rf t'
  refine lQ.loadI (cLg 3214 rfl) rfl ?_
  refine lQ.cmpT (cLg 3215 rfl) (decide_eq_true th) ?_
  refine lQ.loadI (cLg 3218 rfl) rfl ?_
  by_cases hk : kk = 0
  · refine lQ.ifF (cLg 3219 rfl) (decide_eq_false (fun z => z hk)) ?_
    have hv := ov _ hk rfl
    have g3 := LV_out hI.1 f3 hv
    refine lQ.loadN (cLg 3220 rfl) rfl ?_
    refine lQ.push (cLg 3221 rfl) ?_
    refine lQ.ald hR (cLg 3222 rfl) g3 ?_
    refine lQ.loadI (cLg 3223 rfl) rfl ?_
    refine lQ.i2l (cLg 3224 rfl) ?_
    refine lQ.lcmp (cLg 3225 rfl) ?_
    refine lQ.ifT (cLg 3226 rfl) (decide_eq_true (lg_cmp_rf _)) ?_
    refine lQ.goto (cLg 3229 rfl) ?_
    exact lQ.sub (LLs (by rfl) (by rfl) (by rfl) (by rfl) (by rfl)) (k _ _ _ _ _ _ _ _ hn ⟨hI, r', f1, f3⟩ kK kc ks ((k1_651 K1N.rf).2 _ d1).2)
  · refine lQ.ifT (cLg 3219 rfl) (decide_eq_true hk) ?_
    refine lQ.goto (cLg 3229 rfl) ?_
    exact lQ.sub (LLs (by rfl) (by rfl) (by rfl) (by rfl) (by rfl)) (k _ _ _ _ _ _ _ _ hn ⟨hI, r', f1, f3⟩ kK kc ks ((k1_651 K1N.rf).2 _ d1).2)
theorem lc_car (hR : lRok R) (hJ : JAll R E) (hn : tOk ad) (hn8 : n ≤ 448) (hi : i + 7 ≤ n) (h : LV E ad b n f h1 o1 o y s A own t K N) (hK : K < 900) (hc : s.2.2.1 < 3800000000) (k : LK R E b n f h1 o1 o i s own t K N 3 29 Z) : lQ R E 1625 cd_L 3230 (LL ad b h1 o1 i) [] (cp y s A) Z := by
  obtain ⟨hI, r, f1, f3⟩ := h
  obtain ⟨kk, S, x, t', own', K', N', c1, d1, th, ov, r', kK, kc, ks⟩ := lwa_car r (f (i + 1)) (f (i + 2))
  refine lQ.loadN (cLg 3230 rfl) rfl ?_
  refine lQ.loadN (cLg 3231 rfl) rfl ?_
  refine lQ.loadI (cLg 3232 rfl) rfl ?_
  refine lQ.push (cLg 3233 rfl) ?_
  refine lQ.binI (cLg 3234 rfl) ?_
  refine lQ.ald hR (cLg 3235 rfl) (hI.scr hn8 1 (by omega)) ?_
  refine lQ.loadN (cLg 3236 rfl) rfl ?_
  refine lQ.loadI (cLg 3237 rfl) rfl ?_
  refine lQ.push (cLg 3238 rfl) ?_
  refine lQ.binI (cLg 3239 rfl) ?_
  refine lQ.ald hR (cLg 3240 rfl) (hI.scr hn8 2 (by omega)) ?_
  refine lQ.loadN (cLg 3241 rfl) rfl ?_
  refine lQ.callG (args := [.ref h1, .int (f (i + 1)), .int (f (i + 2)), .ref o1]) (r := []) hR (cLg 3242 rfl) rfl rfl (Nat.le_of_ble_eq_true rfl) (Nat.le_of_ble_eq_true rfl) (cs_379 hR hJ hI.1 (w0 := some h1) (w3 := some o1) f1 f3 c1) ?_ (fun _ _ _ z => by cases z.1)
  rintro _ _ ⟨e_, y, A, hW, hX, rfl⟩
  cases e_
  have f1 := hX.1 _ _ f1
  have f3 := hX.1 _ _ f3
  have hI := hI.ext hW hX
  refine lQ.stI (cLg 3243 rfl) (lN2s rfl rfl) ?_
  refine lQ.loadN (cLg 3244 rfl) rfl ?_
  refine lQ.loadN (cLg 3245 rfl) rfl ?_
  refine lQ.loadI (cLg 3246 rfl) rfl ?_
  refine lQ.push (cLg 3247 rfl) ?_
  refine lQ.binI (cLg 3248 rfl) ?_
  refine lQ.ald hR (cLg 3249 rfl) (hI.scr hn8 1 (by omega)) ?_
  refine lQ.loadN (cLg 3250 rfl) rfl ?_
  refine lQ.loadI (cLg 3251 rfl) rfl ?_
  refine lQ.push (cLg 3252 rfl) ?_
  refine lQ.binI (cLg 3253 rfl) ?_
  refine lQ.ald hR (cLg 3254 rfl) (hI.scr hn8 2 (by omega)) ?_
  rw [hI.sw]
  refine lQ.callVI (F := fun z B => x = z ∧ B = tp ad t' (cp y S A)) (G := fun _ _ => False) (args := [.ref (adr ad 0), .int (f (i + 1)), .int (f (i + 2))]) (r := []) hR (cLg 3255 rfl) rfl rfl (Nat.le_of_ble_eq_true rfl) (Nat.le_of_ble_eq_true rfl) rfl (tk_0 hn rfl) (ts_652 hR hn d1 (cI_mk ⟨rfl, rfl⟩)) ?_ (fun _ _ _ z => z.elim)
  rintro _ _ ⟨rfl, rfl⟩
  refine lQ.stI (cLg 3256 rfl) (lN2s rfl rfl) ?_
  refine lQ.loadN (cLg 3257 rfl) rfl ?_
  refine lQ.callVI (F := fun z B => t'.1 0 = z ∧ B = tp ad t' (cp y S A)) (G := fun _ _ => False) (args := [.ref (adr ad 0)]) (r := []) hR (cLg 3258 rfl) rfl rfl (Nat.le_of_ble_eq_true rfl) (Nat.le_of_ble_eq_true rfl) rfl (tk_0 hn rfl) (ts_556 hR hn (x := t'.1 0) rfl (cI_mk ⟨rfl, rfl⟩)) ?_ (fun _ _ _ z => z.elim)
  rintro _ _ ⟨rfl, rfl⟩
  rw [hI.mv SDa.rf t']
  have hI := hI.tw SDa.rf t'
  refine lQ.loadI (cLg 3259 rfl) rfl ?_
  refine lQ.cmpT (cLg 3260 rfl) (decide_eq_true th) ?_
  refine lQ.loadI (cLg 3263 rfl) rfl ?_
  by_cases hk : kk = 0
  · refine lQ.ifF (cLg 3264 rfl) (decide_eq_false (fun z => z hk)) ?_
    have hv := ov _ hk rfl
    have g3 := LV_out hI.1 f3 hv
    refine lQ.loadN (cLg 3265 rfl) rfl ?_
    refine lQ.push (cLg 3266 rfl) ?_
    refine lQ.ald hR (cLg 3267 rfl) g3 ?_
    refine lQ.loadI (cLg 3268 rfl) rfl ?_
    refine lQ.i2l (cLg 3269 rfl) ?_
    refine lQ.lcmp (cLg 3270 rfl) ?_
    refine lQ.ifT (cLg 3271 rfl) (decide_eq_true (lg_cmp_rf _)) ?_
    refine lQ.goto (cLg 3274 rfl) ?_
    exact lQ.sub (LLs (by rfl) (by rfl) (by rfl) (by rfl) (by rfl)) (k _ _ _ _ _ _ _ _ hn ⟨hI, r', f1, f3⟩ kK kc ks ((k1_652 K1N.rf).2 _ d1).2)
  · refine lQ.ifT (cLg 3264 rfl) (decide_eq_true hk) ?_
    refine lQ.goto (cLg 3274 rfl) ?_
    exact lQ.sub (LLs (by rfl) (by rfl) (by rfl) (by rfl) (by rfl)) (k _ _ _ _ _ _ _ _ hn ⟨hI, r', f1, f3⟩ kK kc ks ((k1_652 K1N.rf).2 _ d1).2)
theorem lc_free (hR : lRok R) (hJ : JAll R E) (hn : tOk ad) (hn8 : n ≤ 448) (hi : i + 7 ≤ n) (h : LV E ad b n f h1 o1 o y s A own t K N) (hK : K < 900) (hc : s.2.2.1 < 3800000000) (k : LK R E b n f h1 o1 o i s own t K N 1 6 Z) : lQ R E 1625 cd_L 3275 (LL ad b h1 o1 i) [] (cp y s A) Z := by
  obtain ⟨hI, r, f1, f3⟩ := h
  obtain ⟨kk, S, x, t', own', K', N', c1, d1, th, ov, r', kK, kc, ks⟩ := lwa_free r (f (i + 1)) (f (i + 2)) (f (i + 3))
  refine lQ.loadN (cLg 3275 rfl) rfl ?_
  refine lQ.loadN (cLg 3276 rfl) rfl ?_
  refine lQ.loadI (cLg 3277 rfl) rfl ?_
  refine lQ.push (cLg 3278 rfl) ?_
  refine lQ.binI (cLg 3279 rfl) ?_
  refine lQ.ald hR (cLg 3280 rfl) (hI.scr hn8 1 (by omega)) ?_
  refine lQ.loadN (cLg 3281 rfl) rfl ?_
  refine lQ.loadI (cLg 3282 rfl) rfl ?_
  refine lQ.push (cLg 3283 rfl) ?_
  refine lQ.binI (cLg 3284 rfl) ?_
  refine lQ.ald hR (cLg 3285 rfl) (hI.scr hn8 2 (by omega)) ?_
  refine lQ.loadN (cLg 3286 rfl) rfl ?_
  refine lQ.loadI (cLg 3287 rfl) rfl ?_
  refine lQ.push (cLg 3288 rfl) ?_
  refine lQ.binI (cLg 3289 rfl) ?_
  refine lQ.ald hR (cLg 3290 rfl) (hI.scr hn8 3 (by omega)) ?_
  refine lQ.callG (args := [.ref h1, .int (f (i + 1)), .int (f (i + 2)), .int (f (i + 3))]) (r := []) hR (cLg 3291 rfl) rfl rfl (Nat.le_of_ble_eq_true rfl) (Nat.le_of_ble_eq_true rfl) (cs_380 hR hJ hI.1 (w0 := some h1) f1 c1) ?_ (fun _ _ _ z => by cases z.1)
  rintro _ _ ⟨e_, y, A, hW, hX, rfl⟩
  cases e_
  have f1 := hX.1 _ _ f1
  have f3 := hX.1 _ _ f3
  have hI := hI.ext hW hX
  refine lQ.stI (cLg 3292 rfl) (lN2s rfl rfl) ?_
  refine lQ.loadN (cLg 3293 rfl) rfl ?_
  refine lQ.loadN (cLg 3294 rfl) rfl ?_
  refine lQ.loadI (cLg 3295 rfl) rfl ?_
  refine lQ.push (cLg 3296 rfl) ?_
  refine lQ.binI (cLg 3297 rfl) ?_
  refine lQ.ald hR (cLg 3298 rfl) (hI.scr hn8 1 (by omega)) ?_
  refine lQ.loadN (cLg 3299 rfl) rfl ?_
  refine lQ.loadI (cLg 3300 rfl) rfl ?_
  refine lQ.push (cLg 3301 rfl) ?_
  refine lQ.binI (cLg 3302 rfl) ?_
  refine lQ.ald hR (cLg 3303 rfl) (hI.scr hn8 2 (by omega)) ?_
  refine lQ.loadN (cLg 3304 rfl) rfl ?_
  refine lQ.loadI (cLg 3305 rfl) rfl ?_
  refine lQ.push (cLg 3306 rfl) ?_
  refine lQ.binI (cLg 3307 rfl) ?_
  refine lQ.ald hR (cLg 3308 rfl) (hI.scr hn8 3 (by omega)) ?_
  rw [hI.sw]
  have d2 := uT_some d1
  refine lQ.callVV (F := fun B => B = tp ad t' (cp y S A)) (G := fun _ _ => False) (args := [.ref (adr ad 0), .int (f (i + 1)), .int (f (i + 2)), .int (f (i + 3))]) (r := []) hR (cLg 3309 rfl) rfl rfl (Nat.le_of_ble_eq_true rfl) (Nat.le_of_ble_eq_true rfl) rfl (tk_0 hn rfl) (ts_653 hR hn d2 (cV_mk rfl)) ?_ (fun _ _ _ z => z.elim)
  rintro _ rfl
  refine lQ.loadN (cLg 3310 rfl) rfl ?_
  refine lQ.callVI (F := fun z B => t'.1 0 = z ∧ B = tp ad t' (cp y S A)) (G := fun _ _ => False) (args := [.ref (adr ad 0)]) (r := []) hR (cLg 3311 rfl) rfl rfl (Nat.le_of_ble_eq_true rfl) (Nat.le_of_ble_eq_true rfl) rfl (tk_0 hn rfl) (ts_556 hR hn (x := t'.1 0) rfl (cI_mk ⟨rfl, rfl⟩)) ?_ (fun _ _ _ z => z.elim)
  rintro _ _ ⟨rfl, rfl⟩
  rw [hI.mv SDa.rf t']
  have hI := hI.tw SDa.rf t'
  refine lQ.loadI (cLg 3312 rfl) rfl ?_
  refine lQ.cmpT (cLg 3313 rfl) (decide_eq_true th) ?_
  refine lQ.goto (cLg 3316 rfl) ?_
  exact lQ.sub (LLs (by rfl) (by rfl) (by rfl) (by rfl) (by rfl)) (k _ _ _ _ _ _ _ _ hn ⟨hI, r', f1, f3⟩ kK kc ks ((k1_653 K1N.rf).2 _ d2).2)
theorem lc_span (hR : lRok R) (hJ : JAll R E) (hn : tOk ad) (hn8 : n ≤ 448) (hi : i + 7 ≤ n) (h : LV E ad b n f h1 o1 o y s A own t K N) (hK : K < 900) (hc : s.2.2.1 < 3800000000) (k : LK R E b n f h1 o1 o i s own t K N 1 6 Z) : lQ R E 1625 cd_L 3317 (LL ad b h1 o1 i) [] (cp y s A) Z := by
  obtain ⟨hI, r, f1, f3⟩ := h
  obtain ⟨kk, S, x, t', own', K', N', c1, d1, th, ov, r', kK, kc, ks⟩ := lwa_span r (f (i + 1)) (f (i + 2)) (f (i + 3))
  refine lQ.loadN (cLg 3317 rfl) rfl ?_
  refine lQ.loadN (cLg 3318 rfl) rfl ?_
  refine lQ.loadI (cLg 3319 rfl) rfl ?_
  refine lQ.push (cLg 3320 rfl) ?_
  refine lQ.binI (cLg 3321 rfl) ?_
  refine lQ.ald hR (cLg 3322 rfl) (hI.scr hn8 1 (by omega)) ?_
  refine lQ.loadN (cLg 3323 rfl) rfl ?_
  refine lQ.loadI (cLg 3324 rfl) rfl ?_
  refine lQ.push (cLg 3325 rfl) ?_
  refine lQ.binI (cLg 3326 rfl) ?_
  refine lQ.ald hR (cLg 3327 rfl) (hI.scr hn8 2 (by omega)) ?_
  refine lQ.loadN (cLg 3328 rfl) rfl ?_
  refine lQ.loadI (cLg 3329 rfl) rfl ?_
  refine lQ.push (cLg 3330 rfl) ?_
  refine lQ.binI (cLg 3331 rfl) ?_
  refine lQ.ald hR (cLg 3332 rfl) (hI.scr hn8 3 (by omega)) ?_
  refine lQ.callG (args := [.ref h1, .int (f (i + 1)), .int (f (i + 2)), .int (f (i + 3))]) (r := []) hR (cLg 3333 rfl) rfl rfl (Nat.le_of_ble_eq_true rfl) (Nat.le_of_ble_eq_true rfl) (cs_381 hR hJ hI.1 (w0 := some h1) f1 c1) ?_ (fun _ _ _ z => by cases z.1)
  rintro _ _ ⟨e_, y, A, hW, hX, rfl⟩
  cases e_
  have f1 := hX.1 _ _ f1
  have f3 := hX.1 _ _ f3
  have hI := hI.ext hW hX
  refine lQ.stI (cLg 3334 rfl) (lN2s rfl rfl) ?_
  refine lQ.loadN (cLg 3335 rfl) rfl ?_
  refine lQ.loadN (cLg 3336 rfl) rfl ?_
  refine lQ.loadI (cLg 3337 rfl) rfl ?_
  refine lQ.push (cLg 3338 rfl) ?_
  refine lQ.binI (cLg 3339 rfl) ?_
  refine lQ.ald hR (cLg 3340 rfl) (hI.scr hn8 1 (by omega)) ?_
  refine lQ.loadN (cLg 3341 rfl) rfl ?_
  refine lQ.loadI (cLg 3342 rfl) rfl ?_
  refine lQ.push (cLg 3343 rfl) ?_
  refine lQ.binI (cLg 3344 rfl) ?_
  refine lQ.ald hR (cLg 3345 rfl) (hI.scr hn8 2 (by omega)) ?_
  refine lQ.loadN (cLg 3346 rfl) rfl ?_
  refine lQ.loadI (cLg 3347 rfl) rfl ?_
  refine lQ.push (cLg 3348 rfl) ?_
  refine lQ.binI (cLg 3349 rfl) ?_
  refine lQ.ald hR (cLg 3350 rfl) (hI.scr hn8 3 (by omega)) ?_
  rw [hI.sw]
  have d2 := uT_some d1
  refine lQ.callVV (F := fun B => B = tp ad t' (cp y S A)) (G := fun _ _ => False) (args := [.ref (adr ad 0), .int (f (i + 1)), .int (f (i + 2)), .int (f (i + 3))]) (r := []) hR (cLg 3351 rfl) rfl rfl (Nat.le_of_ble_eq_true rfl) (Nat.le_of_ble_eq_true rfl) rfl (tk_0 hn rfl) (ts_654 hR hn d2 (cV_mk rfl)) ?_ (fun _ _ _ z => z.elim)
  rintro _ rfl
  refine lQ.loadN (cLg 3352 rfl) rfl ?_
  refine lQ.callVI (F := fun z B => t'.1 0 = z ∧ B = tp ad t' (cp y S A)) (G := fun _ _ => False) (args := [.ref (adr ad 0)]) (r := []) hR (cLg 3353 rfl) rfl rfl (Nat.le_of_ble_eq_true rfl) (Nat.le_of_ble_eq_true rfl) rfl (tk_0 hn rfl) (ts_556 hR hn (x := t'.1 0) rfl (cI_mk ⟨rfl, rfl⟩)) ?_ (fun _ _ _ z => z.elim)
  rintro _ _ ⟨rfl, rfl⟩
  rw [hI.mv SDa.rf t']
  have hI := hI.tw SDa.rf t'
  refine lQ.loadI (cLg 3354 rfl) rfl ?_
  refine lQ.cmpT (cLg 3355 rfl) (decide_eq_true th) ?_
  refine lQ.goto (cLg 3358 rfl) ?_
  exact lQ.sub (LLs (by rfl) (by rfl) (by rfl) (by rfl) (by rfl)) (k _ _ _ _ _ _ _ _ hn ⟨hI, r', f1, f3⟩ kK kc ks ((k1_654 K1N.rf).2 _ d2).2)
theorem lc_call (hR : lRok R) (hJ : JAll R E) (hn : tOk ad) (hn8 : n ≤ 448) (hi : i + 7 ≤ n) (h : LV E ad b n f h1 o1 o y s A own t K N) (hK : K < 900) (hc : s.2.2.1 < 3800000000) (k : LK R E b n f h1 o1 o i s own t K N 4 18 Z) : lQ R E 1625 cd_L 3359 (LL ad b h1 o1 i) [] (cp y s A) Z := by
  obtain ⟨hI, r, f1, f3⟩ := h
  obtain ⟨kk, S, x, t', own', K', N', c1, d1, th, ov, r', kK, kc, ks⟩ := lwa_call r (f (i + 1)) (f (i + 2))
  refine lQ.loadN (cLg 3359 rfl) rfl ?_
  refine lQ.loadN (cLg 3360 rfl) rfl ?_
  refine lQ.loadI (cLg 3361 rfl) rfl ?_
  refine lQ.push (cLg 3362 rfl) ?_
  refine lQ.binI (cLg 3363 rfl) ?_
  refine lQ.ald hR (cLg 3364 rfl) (hI.scr hn8 1 (by omega)) ?_
  refine lQ.loadN (cLg 3365 rfl) rfl ?_
  refine lQ.loadI (cLg 3366 rfl) rfl ?_
  refine lQ.push (cLg 3367 rfl) ?_
  refine lQ.binI (cLg 3368 rfl) ?_
  refine lQ.ald hR (cLg 3369 rfl) (hI.scr hn8 2 (by omega)) ?_
  refine lQ.loadN (cLg 3370 rfl) rfl ?_
  refine lQ.callG (args := [.ref h1, .int (f (i + 1)), .int (f (i + 2)), .ref o1]) (r := []) hR (cLg 3371 rfl) rfl rfl (Nat.le_of_ble_eq_true rfl) (Nat.le_of_ble_eq_true rfl) (cs_382 hR hJ hI.1 (w0 := some h1) (w3 := some o1) f1 f3 c1) ?_ (fun _ _ _ z => by cases z.1)
  rintro _ _ ⟨e_, y, A, hW, hX, rfl⟩
  cases e_
  have f1 := hX.1 _ _ f1
  have f3 := hX.1 _ _ f3
  have hI := hI.ext hW hX
  refine lQ.stI (cLg 3372 rfl) (lN2s rfl rfl) ?_
  refine lQ.loadN (cLg 3373 rfl) rfl ?_
  refine lQ.loadN (cLg 3374 rfl) rfl ?_
  refine lQ.loadI (cLg 3375 rfl) rfl ?_
  refine lQ.push (cLg 3376 rfl) ?_
  refine lQ.binI (cLg 3377 rfl) ?_
  refine lQ.ald hR (cLg 3378 rfl) (hI.scr hn8 1 (by omega)) ?_
  refine lQ.loadN (cLg 3379 rfl) rfl ?_
  refine lQ.loadI (cLg 3380 rfl) rfl ?_
  refine lQ.push (cLg 3381 rfl) ?_
  refine lQ.binI (cLg 3382 rfl) ?_
  refine lQ.ald hR (cLg 3383 rfl) (hI.scr hn8 2 (by omega)) ?_
  rw [hI.sw]
  refine lQ.callVI (F := fun z B => x = z ∧ B = tp ad t' (cp y S A)) (G := fun _ _ => False) (args := [.ref (adr ad 0), .int (f (i + 1)), .int (f (i + 2))]) (r := []) hR (cLg 3384 rfl) rfl rfl (Nat.le_of_ble_eq_true rfl) (Nat.le_of_ble_eq_true rfl) rfl (tk_0 hn rfl) (ts_655 hR hn d1 (cI_mk ⟨rfl, rfl⟩)) ?_ (fun _ _ _ z => z.elim)
  rintro _ _ ⟨rfl, rfl⟩
  refine lQ.stI (cLg 3385 rfl) (lN2s rfl rfl) ?_
  refine lQ.loadN (cLg 3386 rfl) rfl ?_
  refine lQ.callVI (F := fun z B => t'.1 0 = z ∧ B = tp ad t' (cp y S A)) (G := fun _ _ => False) (args := [.ref (adr ad 0)]) (r := []) hR (cLg 3387 rfl) rfl rfl (Nat.le_of_ble_eq_true rfl) (Nat.le_of_ble_eq_true rfl) rfl (tk_0 hn rfl) (ts_556 hR hn (x := t'.1 0) rfl (cI_mk ⟨rfl, rfl⟩)) ?_ (fun _ _ _ z => z.elim)
  rintro _ _ ⟨rfl, rfl⟩
  rw [hI.mv SDa.rf t']
  have hI := hI.tw SDa.rf t'
  refine lQ.loadI (cLg 3388 rfl) rfl ?_
  refine lQ.cmpT (cLg 3389 rfl) (decide_eq_true th) ?_
  refine lQ.loadI (cLg 3392 rfl) rfl ?_
  by_cases hk : kk = 0
  · refine lQ.ifF (cLg 3393 rfl) (decide_eq_false (fun z => z hk)) ?_
    have hv := ov _ hk rfl
    have g3 := LV_out hI.1 f3 hv
    refine lQ.loadN (cLg 3394 rfl) rfl ?_
    refine lQ.push (cLg 3395 rfl) ?_
    refine lQ.ald hR (cLg 3396 rfl) g3 ?_
    refine lQ.loadI (cLg 3397 rfl) rfl ?_
    refine lQ.i2l (cLg 3398 rfl) ?_
    refine lQ.lcmp (cLg 3399 rfl) ?_
    refine lQ.ifT (cLg 3400 rfl) (decide_eq_true (lg_cmp_rf _)) ?_
    refine lQ.goto (cLg 3403 rfl) ?_
    exact lQ.sub (LLs (by rfl) (by rfl) (by rfl) (by rfl) (by rfl)) (k _ _ _ _ _ _ _ _ hn ⟨hI, r', f1, f3⟩ kK kc ks ((k1_655 K1N.rf).2 _ d1).2)
  · refine lQ.ifT (cLg 3393 rfl) (decide_eq_true hk) ?_
    refine lQ.goto (cLg 3403 rfl) ?_
    exact lQ.sub (LLs (by rfl) (by rfl) (by rfl) (by rfl) (by rfl)) (k _ _ _ _ _ _ _ _ hn ⟨hI, r', f1, f3⟩ kK kc ks ((k1_655 K1N.rf).2 _ d1).2)
theorem lc_begin (hR : lRok R) (hJ : JAll R E) (hn : tOk ad) (hn8 : n ≤ 448) (hi : i + 7 ≤ n) (h : LV E ad b n f h1 o1 o y s A own t K N) (hK : K < 900) (hc : s.2.2.1 < 3800000000) (k : LK R E b n f h1 o1 o i s own t K N 2 7 Z) : lQ R E 1625 cd_L 3404 (LL ad b h1 o1 i) [] (cp y s A) Z := by
  obtain ⟨hI, r, f1, f3⟩ := h
  obtain ⟨kk, S, x, t', own', K', N', c1, d1, th, ov, r', kK, kc, ks⟩ := lwa_begin r (f (i + 1)) (f (i + 2))
  refine lQ.loadN (cLg 3404 rfl) rfl ?_
  refine lQ.loadN (cLg 3405 rfl) rfl ?_
  refine lQ.loadI (cLg 3406 rfl) rfl ?_
  refine lQ.push (cLg 3407 rfl) ?_
  refine lQ.binI (cLg 3408 rfl) ?_
  refine lQ.ald hR (cLg 3409 rfl) (hI.scr hn8 1 (by omega)) ?_
  refine lQ.loadN (cLg 3410 rfl) rfl ?_
  refine lQ.loadI (cLg 3411 rfl) rfl ?_
  refine lQ.push (cLg 3412 rfl) ?_
  refine lQ.binI (cLg 3413 rfl) ?_
  refine lQ.ald hR (cLg 3414 rfl) (hI.scr hn8 2 (by omega)) ?_
  refine lQ.loadN (cLg 3415 rfl) rfl ?_
  refine lQ.callG (args := [.ref h1, .int (f (i + 1)), .int (f (i + 2)), .ref o1]) (r := []) hR (cLg 3416 rfl) rfl rfl (Nat.le_of_ble_eq_true rfl) (Nat.le_of_ble_eq_true rfl) (cs_383 hR hJ hI.1 (w0 := some h1) (w3 := some o1) f1 f3 c1) ?_ (fun _ _ _ z => by cases z.1)
  rintro _ _ ⟨e_, y, A, hW, hX, rfl⟩
  cases e_
  have f1 := hX.1 _ _ f1
  have f3 := hX.1 _ _ f3
  have hI := hI.ext hW hX
  refine lQ.stI (cLg 3417 rfl) (lN2s rfl rfl) ?_
  refine lQ.loadN (cLg 3418 rfl) rfl ?_
  refine lQ.loadN (cLg 3419 rfl) rfl ?_
  refine lQ.loadI (cLg 3420 rfl) rfl ?_
  refine lQ.push (cLg 3421 rfl) ?_
  refine lQ.binI (cLg 3422 rfl) ?_
  refine lQ.ald hR (cLg 3423 rfl) (hI.scr hn8 1 (by omega)) ?_
  refine lQ.loadN (cLg 3424 rfl) rfl ?_
  refine lQ.loadI (cLg 3425 rfl) rfl ?_
  refine lQ.push (cLg 3426 rfl) ?_
  refine lQ.binI (cLg 3427 rfl) ?_
  refine lQ.ald hR (cLg 3428 rfl) (hI.scr hn8 2 (by omega)) ?_
  rw [hI.sw]
  refine lQ.callVI (F := fun z B => x = z ∧ B = tp ad t' (cp y S A)) (G := fun _ _ => False) (args := [.ref (adr ad 0), .int (f (i + 1)), .int (f (i + 2))]) (r := []) hR (cLg 3429 rfl) rfl rfl (Nat.le_of_ble_eq_true rfl) (Nat.le_of_ble_eq_true rfl) rfl (tk_0 hn rfl) (ts_656 hR hn d1 (cI_mk ⟨rfl, rfl⟩)) ?_ (fun _ _ _ z => z.elim)
  rintro _ _ ⟨rfl, rfl⟩
  refine lQ.stI (cLg 3430 rfl) (lN2s rfl rfl) ?_
  refine lQ.loadN (cLg 3431 rfl) rfl ?_
  refine lQ.callVI (F := fun z B => t'.1 0 = z ∧ B = tp ad t' (cp y S A)) (G := fun _ _ => False) (args := [.ref (adr ad 0)]) (r := []) hR (cLg 3432 rfl) rfl rfl (Nat.le_of_ble_eq_true rfl) (Nat.le_of_ble_eq_true rfl) rfl (tk_0 hn rfl) (ts_556 hR hn (x := t'.1 0) rfl (cI_mk ⟨rfl, rfl⟩)) ?_ (fun _ _ _ z => z.elim)
  rintro _ _ ⟨rfl, rfl⟩
  rw [hI.mv SDa.rf t']
  have hI := hI.tw SDa.rf t'
  refine lQ.loadI (cLg 3433 rfl) rfl ?_
  refine lQ.cmpT (cLg 3434 rfl) (decide_eq_true th) ?_
  refine lQ.loadI (cLg 3437 rfl) rfl ?_
  by_cases hk : kk = 0
  · refine lQ.ifF (cLg 3438 rfl) (decide_eq_false (fun z => z hk)) ?_
    have hv := ov _ hk rfl
    have g3 := LV_out hI.1 f3 hv
    refine lQ.loadN (cLg 3439 rfl) rfl ?_
    refine lQ.push (cLg 3440 rfl) ?_
    refine lQ.ald hR (cLg 3441 rfl) g3 ?_
    refine lQ.loadI (cLg 3442 rfl) rfl ?_
    by_cases hx : x = 0
    · refine lQ.ifT (cLg 3443 rfl) (decide_eq_true hx) ?_
      refine lQ.push (cLg 3446 rfl) ?_
      rw [if_pos hx]
      refine lQ.lcmp (cLg 3447 rfl) ?_
      refine lQ.ifT (cLg 3448 rfl) (decide_eq_true (lg_cmp_rf _)) ?_
      refine lQ.goto (cLg 3451 rfl) ?_
      exact lQ.sub (LLs (by rfl) (by rfl) (by rfl) (by rfl) (by rfl)) (k _ _ _ _ _ _ _ _ hn ⟨hI, r', f1, f3⟩ kK kc ks ((k1_656 K1N.rf).2 _ d1).2)
    · refine lQ.ifF (cLg 3443 rfl) (decide_eq_false hx) ?_
      refine lQ.push (cLg 3444 rfl) ?_
      refine lQ.goto (cLg 3445 rfl) ?_
      rw [if_neg hx]
      refine lQ.lcmp (cLg 3447 rfl) ?_
      refine lQ.ifT (cLg 3448 rfl) (decide_eq_true (lg_cmp_rf _)) ?_
      refine lQ.goto (cLg 3451 rfl) ?_
      exact lQ.sub (LLs (by rfl) (by rfl) (by rfl) (by rfl) (by rfl)) (k _ _ _ _ _ _ _ _ hn ⟨hI, r', f1, f3⟩ kK kc ks ((k1_656 K1N.rf).2 _ d1).2)
  · refine lQ.ifT (cLg 3438 rfl) (decide_eq_true hk) ?_
    refine lQ.goto (cLg 3451 rfl) ?_
    exact lQ.sub (LLs (by rfl) (by rfl) (by rfl) (by rfl) (by rfl)) (k _ _ _ _ _ _ _ _ hn ⟨hI, r', f1, f3⟩ kK kc ks ((k1_656 K1N.rf).2 _ d1).2)
theorem lc_done (hR : lRok R) (hJ : JAll R E) (hn : tOk ad) (hn8 : n ≤ 448) (hi : i + 7 ≤ n) (h : LV E ad b n f h1 o1 o y s A own t K N) (hK : K < 900) (hc : s.2.2.1 < 3800000000) (k : LK R E b n f h1 o1 o i s own t K N 4 8 Z) : lQ R E 1625 cd_L 3452 (LL ad b h1 o1 i) [] (cp y s A) Z := by
  obtain ⟨hI, r, f1, f3⟩ := h
  obtain ⟨kk, S, x, t', own', K', N', c1, d1, th, ov, r', kK, kc, ks⟩ := lwa_done r (f (i + 1))
  refine lQ.loadN (cLg 3452 rfl) rfl ?_
  refine lQ.loadN (cLg 3453 rfl) rfl ?_
  refine lQ.loadI (cLg 3454 rfl) rfl ?_
  refine lQ.push (cLg 3455 rfl) ?_
  refine lQ.binI (cLg 3456 rfl) ?_
  refine lQ.ald hR (cLg 3457 rfl) (hI.scr hn8 1 (by omega)) ?_
  refine lQ.callG (args := [.ref h1, .int (f (i + 1))]) (r := []) hR (cLg 3458 rfl) rfl rfl (Nat.le_of_ble_eq_true rfl) (Nat.le_of_ble_eq_true rfl) (cs_384 hR hJ hI.1 (w0 := some h1) f1 c1) ?_ (fun _ _ _ z => by cases z.1)
  rintro _ _ ⟨e_, y, A, hW, hX, rfl⟩
  cases e_
  have f1 := hX.1 _ _ f1
  have f3 := hX.1 _ _ f3
  have hI := hI.ext hW hX
  refine lQ.stI (cLg 3459 rfl) (lN2s rfl rfl) ?_
  refine lQ.loadN (cLg 3460 rfl) rfl ?_
  refine lQ.loadN (cLg 3461 rfl) rfl ?_
  refine lQ.loadI (cLg 3462 rfl) rfl ?_
  refine lQ.push (cLg 3463 rfl) ?_
  refine lQ.binI (cLg 3464 rfl) ?_
  refine lQ.ald hR (cLg 3465 rfl) (hI.scr hn8 1 (by omega)) ?_
  rw [hI.sw]
  have d2 := uT_some d1
  refine lQ.callVV (F := fun B => B = tp ad t' (cp y S A)) (G := fun _ _ => False) (args := [.ref (adr ad 0), .int (f (i + 1))]) (r := []) hR (cLg 3466 rfl) rfl rfl (Nat.le_of_ble_eq_true rfl) (Nat.le_of_ble_eq_true rfl) rfl (tk_0 hn rfl) (ts_657 hR hn d2 (cV_mk rfl)) ?_ (fun _ _ _ z => z.elim)
  rintro _ rfl
  refine lQ.loadN (cLg 3467 rfl) rfl ?_
  refine lQ.callVI (F := fun z B => t'.1 0 = z ∧ B = tp ad t' (cp y S A)) (G := fun _ _ => False) (args := [.ref (adr ad 0)]) (r := []) hR (cLg 3468 rfl) rfl rfl (Nat.le_of_ble_eq_true rfl) (Nat.le_of_ble_eq_true rfl) rfl (tk_0 hn rfl) (ts_556 hR hn (x := t'.1 0) rfl (cI_mk ⟨rfl, rfl⟩)) ?_ (fun _ _ _ z => z.elim)
  rintro _ _ ⟨rfl, rfl⟩
  rw [hI.mv SDa.rf t']
  have hI := hI.tw SDa.rf t'
  refine lQ.loadI (cLg 3469 rfl) rfl ?_
  refine lQ.cmpT (cLg 3470 rfl) (decide_eq_true th) ?_
  refine lQ.goto (cLg 3473 rfl) ?_
  exact lQ.sub (LLs (by rfl) (by rfl) (by rfl) (by rfl) (by rfl)) (k _ _ _ _ _ _ _ _ hn ⟨hI, r', f1, f3⟩ kK kc ks ((k1_657 K1N.rf).2 _ d2).2)
theorem lc_give (hR : lRok R) (hJ : JAll R E) (hn : tOk ad) (hn8 : n ≤ 448) (hi : i + 7 ≤ n) (h : LV E ad b n f h1 o1 o y s A own t K N) (hK : K < 900) (hc : s.2.2.1 < 3800000000) (k : LK R E b n f h1 o1 o i s own t K N 1001 7006 Z) : lQ R E 1625 cd_L 3474 (LL ad b h1 o1 i) [] (cp y s A) Z := by
  obtain ⟨hI, r, f1, f3⟩ := h
  obtain ⟨kk, S, x, t', own', K', N', c1, d1, th, ov, r', kK, kc, ks⟩ := lwa_give r hc
  refine lQ.loadN (cLg 3474 rfl) rfl ?_
  refine lQ.loadN (cLg 3475 rfl) rfl ?_
  refine lQ.callG (args := [.ref h1, .ref o1]) (r := []) hR (cLg 3476 rfl) rfl rfl (Nat.le_of_ble_eq_true rfl) (Nat.le_of_ble_eq_true rfl) (cs_385 hR hJ hI.1 (w0 := some h1) (w1 := some o1) f1 f3 c1) ?_ (fun _ _ _ z => by cases z.1)
  rintro _ _ ⟨e_, y, A, hW, hX, rfl⟩
  cases e_
  have f1 := hX.1 _ _ f1
  have f3 := hX.1 _ _ f3
  have hI := hI.ext hW hX
  refine lQ.stI (cLg 3477 rfl) (lN2s rfl rfl) ?_
  refine lQ.loadN (cLg 3478 rfl) rfl ?_
  rw [hI.sw]
  refine lQ.callVL (F := fun z B => x = z ∧ B = tp ad t' (cp y S A)) (G := fun _ _ => False) (args := [.ref (adr ad 0)]) (r := []) hR (cLg 3479 rfl) rfl rfl (Nat.le_of_ble_eq_true rfl) (Nat.le_of_ble_eq_true rfl) rfl (tk_0 hn rfl) (ts_658 hR hn d1 (cL_mk ⟨rfl, rfl⟩)) ?_ (fun _ _ _ z => z.elim)
  rintro _ _ ⟨rfl, rfl⟩
  refine lQ.stL (cLg 3480 rfl) (lN2s rfl rfl) rfl ?_
  refine lQ.loadN (cLg 3481 rfl) rfl ?_
  refine lQ.callVI (F := fun z B => t'.1 0 = z ∧ B = tp ad t' (cp y S A)) (G := fun _ _ => False) (args := [.ref (adr ad 0)]) (r := []) hR (cLg 3482 rfl) rfl rfl (Nat.le_of_ble_eq_true rfl) (Nat.le_of_ble_eq_true rfl) rfl (tk_0 hn rfl) (ts_556 hR hn (x := t'.1 0) rfl (cI_mk ⟨rfl, rfl⟩)) ?_ (fun _ _ _ z => z.elim)
  rintro _ _ ⟨rfl, rfl⟩
  rw [hI.mv SDa.rf t']
  have hI := hI.tw SDa.rf t'
  refine lQ.loadI (cLg 3483 rfl) rfl ?_
  refine lQ.cmpT (cLg 3484 rfl) (decide_eq_true th) ?_
  refine lQ.loadI (cLg 3487 rfl) rfl ?_
  by_cases hk : kk = 0
  · refine lQ.ifF (cLg 3488 rfl) (decide_eq_false (fun z => z hk)) ?_
    have hv := ov _ hk rfl
    have g3 := LV_out hI.1 f3 hv
    refine lQ.loadN (cLg 3489 rfl) rfl ?_
    refine lQ.push (cLg 3490 rfl) ?_
    refine lQ.ald hR (cLg 3491 rfl) g3 ?_
    refine lQ.loadL (cLg 3492 rfl) rfl ?_
    refine lQ.lcmp (cLg 3493 rfl) ?_
    refine lQ.ifT (cLg 3494 rfl) (decide_eq_true (lg_cmp_rf _)) ?_
    refine lQ.goto (cLg 3497 rfl) ?_
    exact lQ.sub (LLs (by rfl) (by rfl) (by rfl) (by rfl) (by rfl)) (k _ _ _ _ _ _ _ _ hn ⟨hI, r', f1, f3⟩ kK kc ks ((k1_658 K1N.rf).2 _ d1).2)
  · refine lQ.ifT (cLg 3488 rfl) (decide_eq_true hk) ?_
    refine lQ.goto (cLg 3497 rfl) ?_
    exact lQ.sub (LLs (by rfl) (by rfl) (by rfl) (by rfl) (by rfl)) (k _ _ _ _ _ _ _ _ hn ⟨hI, r', f1, f3⟩ kK kc ks ((k1_658 K1N.rf).2 _ d1).2)
theorem lc_given (hR : lRok R) (hJ : JAll R E) (hn : tOk ad) (hn8 : n ≤ 448) (hi : i + 7 ≤ n) (h : LV E ad b n f h1 o1 o y s A own t K N) (hK : K < 900) (hc : s.2.2.1 < 3800000000) (k : LK R E b n f h1 o1 o i s own t K N 2 7 Z) : lQ R E 1625 cd_L 3498 (LL ad b h1 o1 i) [] (cp y s A) Z := by
  obtain ⟨hI, r, f1, f3⟩ := h
  obtain ⟨kk, S, x, t', own', K', N', c1, d1, th, ov, r', kK, kc, ks⟩ := lwa_given r (f (i + 1)) (f (i + 2))
  refine lQ.loadN (cLg 3498 rfl) rfl ?_
  refine lQ.loadN (cLg 3499 rfl) rfl ?_
  refine lQ.loadI (cLg 3500 rfl) rfl ?_
  refine lQ.push (cLg 3501 rfl) ?_
  refine lQ.binI (cLg 3502 rfl) ?_
  refine lQ.ald hR (cLg 3503 rfl) (hI.scr hn8 1 (by omega)) ?_
  refine lQ.loadN (cLg 3504 rfl) rfl ?_
  refine lQ.loadI (cLg 3505 rfl) rfl ?_
  refine lQ.push (cLg 3506 rfl) ?_
  refine lQ.binI (cLg 3507 rfl) ?_
  refine lQ.ald hR (cLg 3508 rfl) (hI.scr hn8 2 (by omega)) ?_
  refine lQ.loadN (cLg 3509 rfl) rfl ?_
  refine lQ.callG (args := [.ref h1, .int (f (i + 1)), .int (f (i + 2)), .ref o1]) (r := []) hR (cLg 3510 rfl) rfl rfl (Nat.le_of_ble_eq_true rfl) (Nat.le_of_ble_eq_true rfl) (cs_386 hR hJ hI.1 (w0 := some h1) (w3 := some o1) f1 f3 c1) ?_ (fun _ _ _ z => by cases z.1)
  rintro _ _ ⟨e_, y, A, hW, hX, rfl⟩
  cases e_
  have f1 := hX.1 _ _ f1
  have f3 := hX.1 _ _ f3
  have hI := hI.ext hW hX
  refine lQ.stI (cLg 3511 rfl) (lN2s rfl rfl) ?_
  refine lQ.loadN (cLg 3512 rfl) rfl ?_
  refine lQ.loadN (cLg 3513 rfl) rfl ?_
  refine lQ.loadI (cLg 3514 rfl) rfl ?_
  refine lQ.push (cLg 3515 rfl) ?_
  refine lQ.binI (cLg 3516 rfl) ?_
  refine lQ.ald hR (cLg 3517 rfl) (hI.scr hn8 1 (by omega)) ?_
  refine lQ.loadN (cLg 3518 rfl) rfl ?_
  refine lQ.loadI (cLg 3519 rfl) rfl ?_
  refine lQ.push (cLg 3520 rfl) ?_
  refine lQ.binI (cLg 3521 rfl) ?_
  refine lQ.ald hR (cLg 3522 rfl) (hI.scr hn8 2 (by omega)) ?_
  rw [hI.sw]
  refine lQ.callVI (F := fun z B => x = z ∧ B = tp ad t' (cp y S A)) (G := fun _ _ => False) (args := [.ref (adr ad 0), .int (f (i + 1)), .int (f (i + 2))]) (r := []) hR (cLg 3523 rfl) rfl rfl (Nat.le_of_ble_eq_true rfl) (Nat.le_of_ble_eq_true rfl) rfl (tk_0 hn rfl) (ts_659 hR hn d1 (cI_mk ⟨rfl, rfl⟩)) ?_ (fun _ _ _ z => z.elim)
  rintro _ _ ⟨rfl, rfl⟩
  refine lQ.stI (cLg 3524 rfl) (lN2s rfl rfl) ?_
  refine lQ.loadN (cLg 3525 rfl) rfl ?_
  refine lQ.callVI (F := fun z B => t'.1 0 = z ∧ B = tp ad t' (cp y S A)) (G := fun _ _ => False) (args := [.ref (adr ad 0)]) (r := []) hR (cLg 3526 rfl) rfl rfl (Nat.le_of_ble_eq_true rfl) (Nat.le_of_ble_eq_true rfl) rfl (tk_0 hn rfl) (ts_556 hR hn (x := t'.1 0) rfl (cI_mk ⟨rfl, rfl⟩)) ?_ (fun _ _ _ z => z.elim)
  rintro _ _ ⟨rfl, rfl⟩
  rw [hI.mv SDa.rf t']
  have hI := hI.tw SDa.rf t'
  refine lQ.loadI (cLg 3527 rfl) rfl ?_
  refine lQ.cmpT (cLg 3528 rfl) (decide_eq_true th) ?_
  refine lQ.loadI (cLg 3531 rfl) rfl ?_
  by_cases hk : kk = 0
  · refine lQ.ifF (cLg 3532 rfl) (decide_eq_false (fun z => z hk)) ?_
    have hv := ov _ hk rfl
    have g3 := LV_out hI.1 f3 hv
    refine lQ.loadN (cLg 3533 rfl) rfl ?_
    refine lQ.push (cLg 3534 rfl) ?_
    refine lQ.ald hR (cLg 3535 rfl) g3 ?_
    refine lQ.loadI (cLg 3536 rfl) rfl ?_
    refine lQ.i2l (cLg 3537 rfl) ?_
    refine lQ.lcmp (cLg 3538 rfl) ?_
    refine lQ.ifT (cLg 3539 rfl) (decide_eq_true (lg_cmp_rf _)) ?_
    refine lQ.goto (cLg 3542 rfl) ?_
    exact lQ.sub (LLs (by rfl) (by rfl) (by rfl) (by rfl) (by rfl)) (k _ _ _ _ _ _ _ _ hn ⟨hI, r', f1, f3⟩ kK kc ks ((k1_659 K1N.rf).2 _ d1).2)
  · refine lQ.ifT (cLg 3532 rfl) (decide_eq_true hk) ?_
    refine lQ.goto (cLg 3542 rfl) ?_
    exact lQ.sub (LLs (by rfl) (by rfl) (by rfl) (by rfl) (by rfl)) (k _ _ _ _ _ _ _ _ hn ⟨hI, r', f1, f3⟩ kK kc ks ((k1_659 K1N.rf).2 _ d1).2)
theorem lc_fire (hR : lRok R) (hJ : JAll R E) (hn : tOk ad) (hn8 : n ≤ 448) (hi : i + 7 ≤ n) (h : LV E ad b n f h1 o1 o y s A own t K N) (hK : K < 900) (hc : s.2.2.1 < 3800000000) (k : LK R E b n f h1 o1 o i s own t K N 2 26 Z) : lQ R E 1625 cd_L 3543 (LL ad b h1 o1 i) [] (cp y s A) Z := by
  obtain ⟨hI, r, f1, f3⟩ := h
  obtain ⟨kk, S, x, t', own', K', N', c1, d1, th, ov, r', kK, kc, ks⟩ := lwa_fire r (f (i + 1)) (f (i + 2))
  refine lQ.loadN (cLg 3543 rfl) rfl ?_
  refine lQ.loadN (cLg 3544 rfl) rfl ?_
  refine lQ.loadI (cLg 3545 rfl) rfl ?_
  refine lQ.push (cLg 3546 rfl) ?_
  refine lQ.binI (cLg 3547 rfl) ?_
  refine lQ.ald hR (cLg 3548 rfl) (hI.scr hn8 1 (by omega)) ?_
  refine lQ.loadN (cLg 3549 rfl) rfl ?_
  refine lQ.loadI (cLg 3550 rfl) rfl ?_
  refine lQ.push (cLg 3551 rfl) ?_
  refine lQ.binI (cLg 3552 rfl) ?_
  refine lQ.ald hR (cLg 3553 rfl) (hI.scr hn8 2 (by omega)) ?_
  refine lQ.loadN (cLg 3554 rfl) rfl ?_
  refine lQ.callG (args := [.ref h1, .int (f (i + 1)), .int (f (i + 2)), .ref o1]) (r := []) hR (cLg 3555 rfl) rfl rfl (Nat.le_of_ble_eq_true rfl) (Nat.le_of_ble_eq_true rfl) (cs_387 hR hJ hI.1 (w0 := some h1) (w3 := some o1) f1 f3 c1) ?_ (fun _ _ _ z => by cases z.1)
  rintro _ _ ⟨e_, y, A, hW, hX, rfl⟩
  cases e_
  have f1 := hX.1 _ _ f1
  have f3 := hX.1 _ _ f3
  have hI := hI.ext hW hX
  refine lQ.stI (cLg 3556 rfl) (lN2s rfl rfl) ?_
  refine lQ.loadN (cLg 3557 rfl) rfl ?_
  refine lQ.loadN (cLg 3558 rfl) rfl ?_
  refine lQ.loadI (cLg 3559 rfl) rfl ?_
  refine lQ.push (cLg 3560 rfl) ?_
  refine lQ.binI (cLg 3561 rfl) ?_
  refine lQ.ald hR (cLg 3562 rfl) (hI.scr hn8 1 (by omega)) ?_
  refine lQ.loadN (cLg 3563 rfl) rfl ?_
  refine lQ.loadI (cLg 3564 rfl) rfl ?_
  refine lQ.push (cLg 3565 rfl) ?_
  refine lQ.binI (cLg 3566 rfl) ?_
  refine lQ.ald hR (cLg 3567 rfl) (hI.scr hn8 2 (by omega)) ?_
  rw [hI.sw]
  refine lQ.callVI (F := fun z B => x = z ∧ B = tp ad t' (cp y S A)) (G := fun _ _ => False) (args := [.ref (adr ad 0), .int (f (i + 1)), .int (f (i + 2))]) (r := []) hR (cLg 3568 rfl) rfl rfl (Nat.le_of_ble_eq_true rfl) (Nat.le_of_ble_eq_true rfl) rfl (tk_0 hn rfl) (ts_660 hR hn d1 (cI_mk ⟨rfl, rfl⟩)) ?_ (fun _ _ _ z => z.elim)
  rintro _ _ ⟨rfl, rfl⟩
  refine lQ.stI (cLg 3569 rfl) (lN2s rfl rfl) ?_
  refine lQ.loadN (cLg 3570 rfl) rfl ?_
  refine lQ.callVI (F := fun z B => t'.1 0 = z ∧ B = tp ad t' (cp y S A)) (G := fun _ _ => False) (args := [.ref (adr ad 0)]) (r := []) hR (cLg 3571 rfl) rfl rfl (Nat.le_of_ble_eq_true rfl) (Nat.le_of_ble_eq_true rfl) rfl (tk_0 hn rfl) (ts_556 hR hn (x := t'.1 0) rfl (cI_mk ⟨rfl, rfl⟩)) ?_ (fun _ _ _ z => z.elim)
  rintro _ _ ⟨rfl, rfl⟩
  rw [hI.mv SDa.rf t']
  have hI := hI.tw SDa.rf t'
  refine lQ.loadI (cLg 3572 rfl) rfl ?_
  refine lQ.cmpT (cLg 3573 rfl) (decide_eq_true th) ?_
  refine lQ.loadI (cLg 3576 rfl) rfl ?_
  by_cases hk : kk = 0
  · refine lQ.ifF (cLg 3577 rfl) (decide_eq_false (fun z => z hk)) ?_
    have hv := ov _ hk rfl
    have g3 := LV_out hI.1 f3 hv
    refine lQ.loadN (cLg 3578 rfl) rfl ?_
    refine lQ.push (cLg 3579 rfl) ?_
    refine lQ.ald hR (cLg 3580 rfl) g3 ?_
    refine lQ.loadI (cLg 3581 rfl) rfl ?_
    by_cases hx : x = 0
    · refine lQ.ifT (cLg 3582 rfl) (decide_eq_true hx) ?_
      refine lQ.push (cLg 3585 rfl) ?_
      rw [if_pos hx]
      refine lQ.lcmp (cLg 3586 rfl) ?_
      refine lQ.ifT (cLg 3587 rfl) (decide_eq_true (lg_cmp_rf _)) ?_
      refine lQ.goto (cLg 3590 rfl) ?_
      exact lQ.sub (LLs (by rfl) (by rfl) (by rfl) (by rfl) (by rfl)) (k _ _ _ _ _ _ _ _ hn ⟨hI, r', f1, f3⟩ kK kc ks ((k1_660 K1N.rf).2 _ d1).2)
    · refine lQ.ifF (cLg 3582 rfl) (decide_eq_false hx) ?_
      refine lQ.push (cLg 3583 rfl) ?_
      refine lQ.goto (cLg 3584 rfl) ?_
      rw [if_neg hx]
      refine lQ.lcmp (cLg 3586 rfl) ?_
      refine lQ.ifT (cLg 3587 rfl) (decide_eq_true (lg_cmp_rf _)) ?_
      refine lQ.goto (cLg 3590 rfl) ?_
      exact lQ.sub (LLs (by rfl) (by rfl) (by rfl) (by rfl) (by rfl)) (k _ _ _ _ _ _ _ _ hn ⟨hI, r', f1, f3⟩ kK kc ks ((k1_660 K1N.rf).2 _ d1).2)
  · refine lQ.ifT (cLg 3577 rfl) (decide_eq_true hk) ?_
    refine lQ.goto (cLg 3590 rfl) ?_
    exact lQ.sub (LLs (by rfl) (by rfl) (by rfl) (by rfl) (by rfl)) (k _ _ _ _ _ _ _ _ hn ⟨hI, r', f1, f3⟩ kK kc ks ((k1_660 K1N.rf).2 _ d1).2)
theorem lc_cell (hR : lRok R) (hJ : JAll R E) (hn : tOk ad) (hn8 : n ≤ 448) (hi : i + 7 ≤ n) (h : LV E ad b n f h1 o1 o y s A own t K N) (hK : K < 900) (hc : s.2.2.1 < 3800000000) (k : LK R E b n f h1 o1 o i s own t K N 1 6 Z) : lQ R E 1625 cd_L 3591 (LL ad b h1 o1 i) [] (cp y s A) Z := by
  obtain ⟨hI, r, f1, f3⟩ := h
  obtain ⟨kk, S, x, t', own', K', N', c1, d1, th, ov, r', kK, kc, ks⟩ := lwa_cell r (f (i + 1)) (f (i + 2)) (f (i + 3))
  refine lQ.loadN (cLg 3591 rfl) rfl ?_
  refine lQ.loadN (cLg 3592 rfl) rfl ?_
  refine lQ.loadI (cLg 3593 rfl) rfl ?_
  refine lQ.push (cLg 3594 rfl) ?_
  refine lQ.binI (cLg 3595 rfl) ?_
  refine lQ.ald hR (cLg 3596 rfl) (hI.scr hn8 1 (by omega)) ?_
  refine lQ.loadN (cLg 3597 rfl) rfl ?_
  refine lQ.loadI (cLg 3598 rfl) rfl ?_
  refine lQ.push (cLg 3599 rfl) ?_
  refine lQ.binI (cLg 3600 rfl) ?_
  refine lQ.ald hR (cLg 3601 rfl) (hI.scr hn8 2 (by omega)) ?_
  refine lQ.loadN (cLg 3602 rfl) rfl ?_
  refine lQ.loadI (cLg 3603 rfl) rfl ?_
  refine lQ.push (cLg 3604 rfl) ?_
  refine lQ.binI (cLg 3605 rfl) ?_
  refine lQ.ald hR (cLg 3606 rfl) (hI.scr hn8 3 (by omega)) ?_
  refine lQ.loadN (cLg 3607 rfl) rfl ?_
  refine lQ.callG (args := [.ref h1, .int (f (i + 1)), .int (f (i + 2)), .int (f (i + 3)), .ref o1]) (r := []) hR (cLg 3608 rfl) rfl rfl (Nat.le_of_ble_eq_true rfl) (Nat.le_of_ble_eq_true rfl) (cs_388 hR hJ hI.1 (w0 := some h1) (w4 := some o1) f1 f3 c1) ?_ (fun _ _ _ z => by cases z.1)
  rintro _ _ ⟨e_, y, A, hW, hX, rfl⟩
  cases e_
  have f1 := hX.1 _ _ f1
  have f3 := hX.1 _ _ f3
  have hI := hI.ext hW hX
  refine lQ.stI (cLg 3609 rfl) (lN2s rfl rfl) ?_
  refine lQ.loadN (cLg 3610 rfl) rfl ?_
  refine lQ.loadN (cLg 3611 rfl) rfl ?_
  refine lQ.loadI (cLg 3612 rfl) rfl ?_
  refine lQ.push (cLg 3613 rfl) ?_
  refine lQ.binI (cLg 3614 rfl) ?_
  refine lQ.ald hR (cLg 3615 rfl) (hI.scr hn8 1 (by omega)) ?_
  refine lQ.loadN (cLg 3616 rfl) rfl ?_
  refine lQ.loadI (cLg 3617 rfl) rfl ?_
  refine lQ.push (cLg 3618 rfl) ?_
  refine lQ.binI (cLg 3619 rfl) ?_
  refine lQ.ald hR (cLg 3620 rfl) (hI.scr hn8 2 (by omega)) ?_
  refine lQ.loadN (cLg 3621 rfl) rfl ?_
  refine lQ.loadI (cLg 3622 rfl) rfl ?_
  refine lQ.push (cLg 3623 rfl) ?_
  refine lQ.binI (cLg 3624 rfl) ?_
  refine lQ.ald hR (cLg 3625 rfl) (hI.scr hn8 3 (by omega)) ?_
  rw [hI.sw]
  refine lQ.callVI (F := fun z B => x = z ∧ B = tp ad t' (cp y S A)) (G := fun _ _ => False) (args := [.ref (adr ad 0), .int (f (i + 1)), .int (f (i + 2)), .int (f (i + 3))]) (r := []) hR (cLg 3626 rfl) rfl rfl (Nat.le_of_ble_eq_true rfl) (Nat.le_of_ble_eq_true rfl) rfl (tk_0 hn rfl) (ts_661 hR hn d1 (cI_mk ⟨rfl, rfl⟩)) ?_ (fun _ _ _ z => z.elim)
  rintro _ _ ⟨rfl, rfl⟩
  refine lQ.stI (cLg 3627 rfl) (lN2s rfl rfl) ?_
  refine lQ.loadN (cLg 3628 rfl) rfl ?_
  refine lQ.callVI (F := fun z B => t'.1 0 = z ∧ B = tp ad t' (cp y S A)) (G := fun _ _ => False) (args := [.ref (adr ad 0)]) (r := []) hR (cLg 3629 rfl) rfl rfl (Nat.le_of_ble_eq_true rfl) (Nat.le_of_ble_eq_true rfl) rfl (tk_0 hn rfl) (ts_556 hR hn (x := t'.1 0) rfl (cI_mk ⟨rfl, rfl⟩)) ?_ (fun _ _ _ z => z.elim)
  rintro _ _ ⟨rfl, rfl⟩
  rw [hI.mv SDa.rf t']
  have hI := hI.tw SDa.rf t'
  refine lQ.loadI (cLg 3630 rfl) rfl ?_
  refine lQ.cmpT (cLg 3631 rfl) (decide_eq_true th) ?_
  refine lQ.loadI (cLg 3634 rfl) rfl ?_
  by_cases hk : kk = 0
  · refine lQ.ifF (cLg 3635 rfl) (decide_eq_false (fun z => z hk)) ?_
    have hv := ov _ hk rfl
    have g3 := LV_out hI.1 f3 hv
    refine lQ.loadN (cLg 3636 rfl) rfl ?_
    refine lQ.push (cLg 3637 rfl) ?_
    refine lQ.ald hR (cLg 3638 rfl) g3 ?_
    refine lQ.loadI (cLg 3639 rfl) rfl ?_
    refine lQ.i2l (cLg 3640 rfl) ?_
    refine lQ.lcmp (cLg 3641 rfl) ?_
    refine lQ.ifT (cLg 3642 rfl) (decide_eq_true (lg_cmp_rf _)) ?_
    refine lQ.goto (cLg 3645 rfl) ?_
    exact lQ.sub (LLs (by rfl) (by rfl) (by rfl) (by rfl) (by rfl)) (k _ _ _ _ _ _ _ _ hn ⟨hI, r', f1, f3⟩ kK kc ks ((k1_661 K1N.rf).2 _ d1).2)
  · refine lQ.ifT (cLg 3635 rfl) (decide_eq_true hk) ?_
    refine lQ.goto (cLg 3645 rfl) ?_
    exact lQ.sub (LLs (by rfl) (by rfl) (by rfl) (by rfl) (by rfl)) (k _ _ _ _ _ _ _ _ hn ⟨hI, r', f1, f3⟩ kK kc ks ((k1_661 K1N.rf).2 _ d1).2)
theorem lc_pass (hR : lRok R) (hJ : JAll R E) (hn : tOk ad) (hn8 : n ≤ 448) (hi : i + 7 ≤ n) (h : LV E ad b n f h1 o1 o y s A own t K N) (hK : K < 900) (hc : s.2.2.1 < 3800000000) (k : LK R E b n f h1 o1 o i s own t K N 5660 39790 Z) : lQ R E 1625 cd_L 3646 (LL ad b h1 o1 i) [] (cp y s A) Z := by
  obtain ⟨hI, r, f1, f3⟩ := h
  obtain ⟨kk, S, x, t', own', K', N', c1, d1, th, ov, r', kK, kc, ks⟩ := lwa_pass r (f (i + 1))
  refine lQ.loadN (cLg 3646 rfl) rfl ?_
  refine lQ.loadN (cLg 3647 rfl) rfl ?_
  refine lQ.loadI (cLg 3648 rfl) rfl ?_
  refine lQ.push (cLg 3649 rfl) ?_
  refine lQ.binI (cLg 3650 rfl) ?_
  refine lQ.ald hR (cLg 3651 rfl) (hI.scr hn8 1 (by omega)) ?_
  refine lQ.loadN (cLg 3652 rfl) rfl ?_
  refine lQ.callG (args := [.ref h1, .int (f (i + 1)), .ref o1]) (r := []) hR (cLg 3653 rfl) rfl rfl (Nat.le_of_ble_eq_true rfl) (Nat.le_of_ble_eq_true rfl) (cs_389 hR hJ hI.1 (w0 := some h1) (w2 := some o1) f1 f3 c1) ?_ (fun _ _ _ z => by cases z.1)
  rintro _ _ ⟨e_, y, A, hW, hX, rfl⟩
  cases e_
  have f1 := hX.1 _ _ f1
  have f3 := hX.1 _ _ f3
  have hI := hI.ext hW hX
  refine lQ.stI (cLg 3654 rfl) (lN2s rfl rfl) ?_
  refine lQ.loadN (cLg 3655 rfl) rfl ?_
  refine lQ.loadN (cLg 3656 rfl) rfl ?_
  refine lQ.loadI (cLg 3657 rfl) rfl ?_
  refine lQ.push (cLg 3658 rfl) ?_
  refine lQ.binI (cLg 3659 rfl) ?_
  refine lQ.ald hR (cLg 3660 rfl) (hI.scr hn8 1 (by omega)) ?_
  rw [hI.sw]
  refine lQ.callVI (F := fun z B => x = z ∧ B = tp ad t' (cp y S A)) (G := fun _ _ => False) (args := [.ref (adr ad 0), .int (f (i + 1))]) (r := []) hR (cLg 3661 rfl) rfl rfl (Nat.le_of_ble_eq_true rfl) (Nat.le_of_ble_eq_true rfl) rfl (tk_0 hn rfl) (ts_662 hR hn d1 (cI_mk ⟨rfl, rfl⟩)) ?_ (fun _ _ _ z => z.elim)
  rintro _ _ ⟨rfl, rfl⟩
  refine lQ.stI (cLg 3662 rfl) (lN2s rfl rfl) ?_
  refine lQ.loadN (cLg 3663 rfl) rfl ?_
  refine lQ.callVI (F := fun z B => t'.1 0 = z ∧ B = tp ad t' (cp y S A)) (G := fun _ _ => False) (args := [.ref (adr ad 0)]) (r := []) hR (cLg 3664 rfl) rfl rfl (Nat.le_of_ble_eq_true rfl) (Nat.le_of_ble_eq_true rfl) rfl (tk_0 hn rfl) (ts_556 hR hn (x := t'.1 0) rfl (cI_mk ⟨rfl, rfl⟩)) ?_ (fun _ _ _ z => z.elim)
  rintro _ _ ⟨rfl, rfl⟩
  rw [hI.mv SDa.rf t']
  have hI := hI.tw SDa.rf t'
  refine lQ.loadI (cLg 3665 rfl) rfl ?_
  refine lQ.cmpT (cLg 3666 rfl) (decide_eq_true th) ?_
  refine lQ.loadI (cLg 3669 rfl) rfl ?_
  by_cases hk : kk = 0
  · refine lQ.ifF (cLg 3670 rfl) (decide_eq_false (fun z => z hk)) ?_
    have hv := ov _ hk rfl
    have g3 := LV_out hI.1 f3 hv
    refine lQ.loadN (cLg 3671 rfl) rfl ?_
    refine lQ.push (cLg 3672 rfl) ?_
    refine lQ.ald hR (cLg 3673 rfl) g3 ?_
    refine lQ.loadI (cLg 3674 rfl) rfl ?_
    refine lQ.i2l (cLg 3675 rfl) ?_
    refine lQ.lcmp (cLg 3676 rfl) ?_
    refine lQ.ifT (cLg 3677 rfl) (decide_eq_true (lg_cmp_rf _)) ?_
    refine lQ.goto (cLg 3680 rfl) ?_
    exact lQ.sub (LLs (by rfl) (by rfl) (by rfl) (by rfl) (by rfl)) (k _ _ _ _ _ _ _ _ hn ⟨hI, r', f1, f3⟩ kK kc ks ((k1_662 K1N.rf).2 _ d1).2)
  · refine lQ.ifT (cLg 3670 rfl) (decide_eq_true hk) ?_
    refine lQ.goto (cLg 3680 rfl) ?_
    exact lQ.sub (LLs (by rfl) (by rfl) (by rfl) (by rfl) (by rfl)) (k _ _ _ _ _ _ _ _ hn ⟨hI, r', f1, f3⟩ kK kc ks ((k1_662 K1N.rf).2 _ d1).2)
theorem lc_told (hR : lRok R) (hJ : JAll R E) (hn : tOk ad) (hn8 : n ≤ 448) (hi : i + 7 ≤ n) (h : LV E ad b n f h1 o1 o y s A own t K N) (hK : K < 900) (hc : s.2.2.1 < 3800000000) (k : LK R E b n f h1 o1 o i s own t K N 1 6 Z) : lQ R E 1625 cd_L 3681 (LL ad b h1 o1 i) [] (cp y s A) Z := by
  obtain ⟨hI, r, f1, f3⟩ := h
  obtain ⟨kk, S, x, t', own', K', N', c1, d1, th, ov, r', kK, kc, ks⟩ := lwa_told r (f (i + 1))
  refine lQ.loadN (cLg 3681 rfl) rfl ?_
  refine lQ.loadN (cLg 3682 rfl) rfl ?_
  refine lQ.loadI (cLg 3683 rfl) rfl ?_
  refine lQ.push (cLg 3684 rfl) ?_
  refine lQ.binI (cLg 3685 rfl) ?_
  refine lQ.ald hR (cLg 3686 rfl) (hI.scr hn8 1 (by omega)) ?_
  refine lQ.loadN (cLg 3687 rfl) rfl ?_
  refine lQ.callG (args := [.ref h1, .int (f (i + 1)), .ref o1]) (r := []) hR (cLg 3688 rfl) rfl rfl (Nat.le_of_ble_eq_true rfl) (Nat.le_of_ble_eq_true rfl) (cs_390 hR hJ hI.1 (w0 := some h1) (w2 := some o1) f1 f3 c1) ?_ (fun _ _ _ z => by cases z.1)
  rintro _ _ ⟨e_, y, A, hW, hX, rfl⟩
  cases e_
  have f1 := hX.1 _ _ f1
  have f3 := hX.1 _ _ f3
  have hI := hI.ext hW hX
  refine lQ.stI (cLg 3689 rfl) (lN2s rfl rfl) ?_
  refine lQ.loadN (cLg 3690 rfl) rfl ?_
  refine lQ.loadN (cLg 3691 rfl) rfl ?_
  refine lQ.loadI (cLg 3692 rfl) rfl ?_
  refine lQ.push (cLg 3693 rfl) ?_
  refine lQ.binI (cLg 3694 rfl) ?_
  refine lQ.ald hR (cLg 3695 rfl) (hI.scr hn8 1 (by omega)) ?_
  rw [hI.sw]
  refine lQ.callVI (F := fun z B => x = z ∧ B = tp ad t' (cp y S A)) (G := fun _ _ => False) (args := [.ref (adr ad 0), .int (f (i + 1))]) (r := []) hR (cLg 3696 rfl) rfl rfl (Nat.le_of_ble_eq_true rfl) (Nat.le_of_ble_eq_true rfl) rfl (tk_0 hn rfl) (ts_673 hR hn d1 (cI_mk ⟨rfl, rfl⟩)) ?_ (fun _ _ _ z => z.elim)
  rintro _ _ ⟨rfl, rfl⟩
  refine lQ.stI (cLg 3697 rfl) (lN2s rfl rfl) ?_
  refine lQ.loadN (cLg 3698 rfl) rfl ?_
  refine lQ.callVI (F := fun z B => t'.1 0 = z ∧ B = tp ad t' (cp y S A)) (G := fun _ _ => False) (args := [.ref (adr ad 0)]) (r := []) hR (cLg 3699 rfl) rfl rfl (Nat.le_of_ble_eq_true rfl) (Nat.le_of_ble_eq_true rfl) rfl (tk_0 hn rfl) (ts_556 hR hn (x := t'.1 0) rfl (cI_mk ⟨rfl, rfl⟩)) ?_ (fun _ _ _ z => z.elim)
  rintro _ _ ⟨rfl, rfl⟩
  rw [hI.mv SDa.rf t']
  have hI := hI.tw SDa.rf t'
  refine lQ.loadI (cLg 3700 rfl) rfl ?_
  refine lQ.cmpT (cLg 3701 rfl) (decide_eq_true th) ?_
  refine lQ.loadI (cLg 3704 rfl) rfl ?_
  by_cases hk : kk = 0
  · refine lQ.ifF (cLg 3705 rfl) (decide_eq_false (fun z => z hk)) ?_
    have hv := ov _ hk rfl
    have g3 := LV_out hI.1 f3 hv
    refine lQ.loadN (cLg 3706 rfl) rfl ?_
    refine lQ.push (cLg 3707 rfl) ?_
    refine lQ.ald hR (cLg 3708 rfl) g3 ?_
    refine lQ.loadI (cLg 3709 rfl) rfl ?_
    refine lQ.i2l (cLg 3710 rfl) ?_
    refine lQ.lcmp (cLg 3711 rfl) ?_
    refine lQ.ifT (cLg 3712 rfl) (decide_eq_true (lg_cmp_rf _)) ?_
    refine lQ.goto (cLg 3715 rfl) ?_
    exact lQ.sub (LLs (by rfl) (by rfl) (by rfl) (by rfl) (by rfl)) (k _ _ _ _ _ _ _ _ hn ⟨hI, r', f1, f3⟩ kK kc ks ((k1_673 K1N.rf).2 _ d1).2)
  · refine lQ.ifT (cLg 3705 rfl) (decide_eq_true hk) ?_
    refine lQ.goto (cLg 3715 rfl) ?_
    exact lQ.sub (LLs (by rfl) (by rfl) (by rfl) (by rfl) (by rfl)) (k _ _ _ _ _ _ _ _ hn ⟨hI, r', f1, f3⟩ kK kc ks ((k1_673 K1N.rf).2 _ d1).2)
end LC
