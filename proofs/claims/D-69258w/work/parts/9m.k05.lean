/-! the law's walk: cases -/
section LC
variable {R : lAR} {E : lE} {ad : List Nat} {b n : Nat} {f : Nat → Int32} {h1 o1 o i K N : Nat} {y : lY} {s : CS} {A : lMem} {own : Nat → Nat} {t : TS} {Z : lZ}
theorem lc_block (hR : lRok R) (hJ : JAll R E) (hn : tOk ad) (hn8 : n ≤ 448) (hi : i + 7 ≤ n) (h : LV E ad b n f h1 o1 o y s A own t K N) (hK : K < 900) (hc : s.2.2.1 < 3800000000) (k : LK R E b n f h1 o1 o i s own t K N 511 30106 Z) : lQ R E 1625 cd_L 2289 (LL ad b h1 o1 i) [] (cp y s A) Z := by
  obtain ⟨hI, r, f1, f3⟩ := h
  obtain ⟨kk, S, x, t', own', K', N', c1, d1, th, ov, r', kK, kc, ks⟩ := lwa_block r (f (i + 1))
  refine lQ.loadN (cLg 2289 rfl) rfl ?_
  refine lQ.loadN (cLg 2290 rfl) rfl ?_
  refine lQ.loadI (cLg 2291 rfl) rfl ?_
  refine lQ.push (cLg 2292 rfl) ?_
  refine lQ.binI (cLg 2293 rfl) ?_
  refine lQ.ald hR (cLg 2294 rfl) (hI.scr hn8 1 (by omega)) ?_
  refine lQ.loadN (cLg 2295 rfl) rfl ?_
  refine lQ.callG (args := [.ref h1, .int (f (i + 1)), .ref o1]) (r := []) hR (cLg 2296 rfl) rfl rfl (Nat.le_of_ble_eq_true rfl) (Nat.le_of_ble_eq_true rfl) (cs_359 hR hJ hI.1 (w0 := some h1) (w2 := some o1) f1 f3 c1) ?_ (fun _ _ _ z => by cases z.1)
  rintro _ _ ⟨e_, y, A, hW, hX, rfl⟩
  cases e_
  have f1 := hX.1 _ _ f1
  have f3 := hX.1 _ _ f3
  have hI := hI.ext hW hX
  refine lQ.stI (cLg 2297 rfl) (lN2s rfl rfl) ?_
  refine lQ.loadN (cLg 2298 rfl) rfl ?_
  refine lQ.loadN (cLg 2299 rfl) rfl ?_
  refine lQ.loadI (cLg 2300 rfl) rfl ?_
  refine lQ.push (cLg 2301 rfl) ?_
  refine lQ.binI (cLg 2302 rfl) ?_
  refine lQ.ald hR (cLg 2303 rfl) (hI.scr hn8 1 (by omega)) ?_
  rw [hI.sw]
  refine lQ.callVI (F := fun z B => x = z ∧ B = tp ad t' (cp y S A)) (G := fun _ _ => False) (args := [.ref (adr ad 0), .int (f (i + 1))]) (r := []) hR (cLg 2304 rfl) rfl rfl (Nat.le_of_ble_eq_true rfl) (Nat.le_of_ble_eq_true rfl) rfl (tk_0 hn rfl) (ts_632 hR hn d1 (cI_mk ⟨rfl, rfl⟩)) ?_ (fun _ _ _ z => z.elim)
  rintro _ _ ⟨rfl, rfl⟩
  refine lQ.stI (cLg 2305 rfl) (lN2s rfl rfl) ?_
  refine lQ.loadN (cLg 2306 rfl) rfl ?_
  refine lQ.callVI (F := fun z B => t'.1 0 = z ∧ B = tp ad t' (cp y S A)) (G := fun _ _ => False) (args := [.ref (adr ad 0)]) (r := []) hR (cLg 2307 rfl) rfl rfl (Nat.le_of_ble_eq_true rfl) (Nat.le_of_ble_eq_true rfl) rfl (tk_0 hn rfl) (ts_556 hR hn (x := t'.1 0) rfl (cI_mk ⟨rfl, rfl⟩)) ?_ (fun _ _ _ z => z.elim)
  rintro _ _ ⟨rfl, rfl⟩
  rw [hI.mv SDa.rf t']
  have hI := hI.tw SDa.rf t'
  refine lQ.loadI (cLg 2308 rfl) rfl ?_
  refine lQ.cmpT (cLg 2309 rfl) (decide_eq_true th) ?_
  refine lQ.loadI (cLg 2312 rfl) rfl ?_
  by_cases hk : kk = 0
  · refine lQ.ifF (cLg 2313 rfl) (decide_eq_false (fun z => z hk)) ?_
    have hv := ov _ hk rfl
    have g3 := LV_out hI.1 f3 hv
    refine lQ.loadN (cLg 2314 rfl) rfl ?_
    refine lQ.push (cLg 2315 rfl) ?_
    refine lQ.ald hR (cLg 2316 rfl) g3 ?_
    refine lQ.loadI (cLg 2317 rfl) rfl ?_
    refine lQ.i2l (cLg 2318 rfl) ?_
    refine lQ.lcmp (cLg 2319 rfl) ?_
    refine lQ.ifT (cLg 2320 rfl) (decide_eq_true (lg_cmp_rf _)) ?_
    refine lQ.goto (cLg 2323 rfl) ?_
    exact lQ.sub (LLs (by rfl) (by rfl) (by rfl) (by rfl) (by rfl)) (k _ _ _ _ _ _ _ _ hn ⟨hI, r', f1, f3⟩ kK kc ks ((k1_632 K1N.rf).2 _ d1).2)
  · refine lQ.ifT (cLg 2313 rfl) (decide_eq_true hk) ?_
    refine lQ.goto (cLg 2323 rfl) ?_
    exact lQ.sub (LLs (by rfl) (by rfl) (by rfl) (by rfl) (by rfl)) (k _ _ _ _ _ _ _ _ hn ⟨hI, r', f1, f3⟩ kK kc ks ((k1_632 K1N.rf).2 _ d1).2)
theorem lc_wire (hR : lRok R) (hJ : JAll R E) (hn : tOk ad) (hn8 : n ≤ 448) (hi : i + 7 ≤ n) (h : LV E ad b n f h1 o1 o y s A own t K N) (hK : K < 900) (hc : s.2.2.1 < 3800000000) (k : LK R E b n f h1 o1 o i s own t K N 501 30006 Z) : lQ R E 1625 cd_L 2324 (LL ad b h1 o1 i) [] (cp y s A) Z := by
  obtain ⟨hI, r, f1, f3⟩ := h
  obtain ⟨kk, S, x, t', own', K', N', c1, d1, th, ov, r', kK, kc, ks⟩ := lwa_wire r (f (i + 1)) (f (i + 2)) (f (i + 3))
  refine lQ.loadN (cLg 2324 rfl) rfl ?_
  refine lQ.loadN (cLg 2325 rfl) rfl ?_
  refine lQ.loadI (cLg 2326 rfl) rfl ?_
  refine lQ.push (cLg 2327 rfl) ?_
  refine lQ.binI (cLg 2328 rfl) ?_
  refine lQ.ald hR (cLg 2329 rfl) (hI.scr hn8 1 (by omega)) ?_
  refine lQ.loadN (cLg 2330 rfl) rfl ?_
  refine lQ.loadI (cLg 2331 rfl) rfl ?_
  refine lQ.push (cLg 2332 rfl) ?_
  refine lQ.binI (cLg 2333 rfl) ?_
  refine lQ.ald hR (cLg 2334 rfl) (hI.scr hn8 2 (by omega)) ?_
  refine lQ.loadN (cLg 2335 rfl) rfl ?_
  refine lQ.loadI (cLg 2336 rfl) rfl ?_
  refine lQ.push (cLg 2337 rfl) ?_
  refine lQ.binI (cLg 2338 rfl) ?_
  refine lQ.ald hR (cLg 2339 rfl) (hI.scr hn8 3 (by omega)) ?_
  refine lQ.loadN (cLg 2340 rfl) rfl ?_
  refine lQ.callG (args := [.ref h1, .int (f (i + 1)), .int (f (i + 2)), .int (f (i + 3)), .ref o1]) (r := []) hR (cLg 2341 rfl) rfl rfl (Nat.le_of_ble_eq_true rfl) (Nat.le_of_ble_eq_true rfl) (cs_360 hR hJ hI.1 (w0 := some h1) (w4 := some o1) f1 f3 c1) ?_ (fun _ _ _ z => by cases z.1)
  rintro _ _ ⟨e_, y, A, hW, hX, rfl⟩
  cases e_
  have f1 := hX.1 _ _ f1
  have f3 := hX.1 _ _ f3
  have hI := hI.ext hW hX
  refine lQ.stI (cLg 2342 rfl) (lN2s rfl rfl) ?_
  refine lQ.loadN (cLg 2343 rfl) rfl ?_
  refine lQ.loadN (cLg 2344 rfl) rfl ?_
  refine lQ.loadI (cLg 2345 rfl) rfl ?_
  refine lQ.push (cLg 2346 rfl) ?_
  refine lQ.binI (cLg 2347 rfl) ?_
  refine lQ.ald hR (cLg 2348 rfl) (hI.scr hn8 1 (by omega)) ?_
  refine lQ.loadN (cLg 2349 rfl) rfl ?_
  refine lQ.loadI (cLg 2350 rfl) rfl ?_
  refine lQ.push (cLg 2351 rfl) ?_
  refine lQ.binI (cLg 2352 rfl) ?_
  refine lQ.ald hR (cLg 2353 rfl) (hI.scr hn8 2 (by omega)) ?_
  refine lQ.loadN (cLg 2354 rfl) rfl ?_
  refine lQ.loadI (cLg 2355 rfl) rfl ?_
  refine lQ.push (cLg 2356 rfl) ?_
  refine lQ.binI (cLg 2357 rfl) ?_
  refine lQ.ald hR (cLg 2358 rfl) (hI.scr hn8 3 (by omega)) ?_
  rw [hI.sw]
  refine lQ.callVI (F := fun z B => x = z ∧ B = tp ad t' (cp y S A)) (G := fun _ _ => False) (args := [.ref (adr ad 0), .int (f (i + 1)), .int (f (i + 2)), .int (f (i + 3))]) (r := []) hR (cLg 2359 rfl) rfl rfl (Nat.le_of_ble_eq_true rfl) (Nat.le_of_ble_eq_true rfl) rfl (tk_0 hn rfl) (ts_633 hR hn d1 (cI_mk ⟨rfl, rfl⟩)) ?_ (fun _ _ _ z => z.elim)
  rintro _ _ ⟨rfl, rfl⟩
  refine lQ.stI (cLg 2360 rfl) (lN2s rfl rfl) ?_
  refine lQ.loadN (cLg 2361 rfl) rfl ?_
  refine lQ.callVI (F := fun z B => t'.1 0 = z ∧ B = tp ad t' (cp y S A)) (G := fun _ _ => False) (args := [.ref (adr ad 0)]) (r := []) hR (cLg 2362 rfl) rfl rfl (Nat.le_of_ble_eq_true rfl) (Nat.le_of_ble_eq_true rfl) rfl (tk_0 hn rfl) (ts_556 hR hn (x := t'.1 0) rfl (cI_mk ⟨rfl, rfl⟩)) ?_ (fun _ _ _ z => z.elim)
  rintro _ _ ⟨rfl, rfl⟩
  rw [hI.mv SDa.rf t']
  have hI := hI.tw SDa.rf t'
  refine lQ.loadI (cLg 2363 rfl) rfl ?_
  refine lQ.cmpT (cLg 2364 rfl) (decide_eq_true th) ?_
  refine lQ.loadI (cLg 2367 rfl) rfl ?_
  by_cases hk : kk = 0
  · refine lQ.ifF (cLg 2368 rfl) (decide_eq_false (fun z => z hk)) ?_
    have hv := ov _ hk rfl
    have g3 := LV_out hI.1 f3 hv
    refine lQ.loadN (cLg 2369 rfl) rfl ?_
    refine lQ.push (cLg 2370 rfl) ?_
    refine lQ.ald hR (cLg 2371 rfl) g3 ?_
    refine lQ.loadI (cLg 2372 rfl) rfl ?_
    refine lQ.i2l (cLg 2373 rfl) ?_
    refine lQ.lcmp (cLg 2374 rfl) ?_
    refine lQ.ifT (cLg 2375 rfl) (decide_eq_true (lg_cmp_rf _)) ?_
    refine lQ.goto (cLg 2378 rfl) ?_
    exact lQ.sub (LLs (by rfl) (by rfl) (by rfl) (by rfl) (by rfl)) (k _ _ _ _ _ _ _ _ hn ⟨hI, r', f1, f3⟩ kK kc ks ((k1_633 K1N.rf).2 _ d1).2)
  · refine lQ.ifT (cLg 2368 rfl) (decide_eq_true hk) ?_
    refine lQ.goto (cLg 2378 rfl) ?_
    exact lQ.sub (LLs (by rfl) (by rfl) (by rfl) (by rfl) (by rfl)) (k _ _ _ _ _ _ _ _ hn ⟨hI, r', f1, f3⟩ kK kc ks ((k1_633 K1N.rf).2 _ d1).2)
theorem lc_numbers (hR : lRok R) (hJ : JAll R E) (hn : tOk ad) (hn8 : n ≤ 448) (hi : i + 7 ≤ n) (h : LV E ad b n f h1 o1 o y s A own t K N) (hK : K < 900) (hc : s.2.2.1 < 3800000000) (k : LK R E b n f h1 o1 o i s own t K N 501 30006 Z) : lQ R E 1625 cd_L 2379 (LL ad b h1 o1 i) [] (cp y s A) Z := by
  obtain ⟨hI, r, f1, f3⟩ := h
  obtain ⟨kk, S, x, t', own', K', N', c1, d1, th, ov, r', kK, kc, ks⟩ := lwa_numbers r (f (i + 1)) (f (i + 2)) (f (i + 3))
  refine lQ.loadN (cLg 2379 rfl) rfl ?_
  refine lQ.loadN (cLg 2380 rfl) rfl ?_
  refine lQ.loadI (cLg 2381 rfl) rfl ?_
  refine lQ.push (cLg 2382 rfl) ?_
  refine lQ.binI (cLg 2383 rfl) ?_
  refine lQ.ald hR (cLg 2384 rfl) (hI.scr hn8 1 (by omega)) ?_
  refine lQ.loadN (cLg 2385 rfl) rfl ?_
  refine lQ.loadI (cLg 2386 rfl) rfl ?_
  refine lQ.push (cLg 2387 rfl) ?_
  refine lQ.binI (cLg 2388 rfl) ?_
  refine lQ.ald hR (cLg 2389 rfl) (hI.scr hn8 2 (by omega)) ?_
  refine lQ.loadN (cLg 2390 rfl) rfl ?_
  refine lQ.loadI (cLg 2391 rfl) rfl ?_
  refine lQ.push (cLg 2392 rfl) ?_
  refine lQ.binI (cLg 2393 rfl) ?_
  refine lQ.ald hR (cLg 2394 rfl) (hI.scr hn8 3 (by omega)) ?_
  refine lQ.callG (args := [.ref h1, .int (f (i + 1)), .int (f (i + 2)), .int (f (i + 3))]) (r := []) hR (cLg 2395 rfl) rfl rfl (Nat.le_of_ble_eq_true rfl) (Nat.le_of_ble_eq_true rfl) (cs_361 hR hJ hI.1 (w0 := some h1) f1 c1) ?_ (fun _ _ _ z => by cases z.1)
  rintro _ _ ⟨e_, y, A, hW, hX, rfl⟩
  cases e_
  have f1 := hX.1 _ _ f1
  have f3 := hX.1 _ _ f3
  have hI := hI.ext hW hX
  refine lQ.stI (cLg 2396 rfl) (lN2s rfl rfl) ?_
  refine lQ.loadN (cLg 2397 rfl) rfl ?_
  refine lQ.loadN (cLg 2398 rfl) rfl ?_
  refine lQ.loadI (cLg 2399 rfl) rfl ?_
  refine lQ.push (cLg 2400 rfl) ?_
  refine lQ.binI (cLg 2401 rfl) ?_
  refine lQ.ald hR (cLg 2402 rfl) (hI.scr hn8 1 (by omega)) ?_
  refine lQ.loadN (cLg 2403 rfl) rfl ?_
  refine lQ.loadI (cLg 2404 rfl) rfl ?_
  refine lQ.push (cLg 2405 rfl) ?_
  refine lQ.binI (cLg 2406 rfl) ?_
  refine lQ.ald hR (cLg 2407 rfl) (hI.scr hn8 2 (by omega)) ?_
  refine lQ.loadN (cLg 2408 rfl) rfl ?_
  refine lQ.loadI (cLg 2409 rfl) rfl ?_
  refine lQ.push (cLg 2410 rfl) ?_
  refine lQ.binI (cLg 2411 rfl) ?_
  refine lQ.ald hR (cLg 2412 rfl) (hI.scr hn8 3 (by omega)) ?_
  rw [hI.sw]
  have d2 := uT_some d1
  refine lQ.callVV (F := fun B => B = tp ad t' (cp y S A)) (G := fun _ _ => False) (args := [.ref (adr ad 0), .int (f (i + 1)), .int (f (i + 2)), .int (f (i + 3))]) (r := []) hR (cLg 2413 rfl) rfl rfl (Nat.le_of_ble_eq_true rfl) (Nat.le_of_ble_eq_true rfl) rfl (tk_0 hn rfl) (ts_634 hR hn d2 (cV_mk rfl)) ?_ (fun _ _ _ z => z.elim)
  rintro _ rfl
  refine lQ.loadN (cLg 2414 rfl) rfl ?_
  refine lQ.callVI (F := fun z B => t'.1 0 = z ∧ B = tp ad t' (cp y S A)) (G := fun _ _ => False) (args := [.ref (adr ad 0)]) (r := []) hR (cLg 2415 rfl) rfl rfl (Nat.le_of_ble_eq_true rfl) (Nat.le_of_ble_eq_true rfl) rfl (tk_0 hn rfl) (ts_556 hR hn (x := t'.1 0) rfl (cI_mk ⟨rfl, rfl⟩)) ?_ (fun _ _ _ z => z.elim)
  rintro _ _ ⟨rfl, rfl⟩
  rw [hI.mv SDa.rf t']
  have hI := hI.tw SDa.rf t'
  refine lQ.loadI (cLg 2416 rfl) rfl ?_
  refine lQ.cmpT (cLg 2417 rfl) (decide_eq_true th) ?_
  refine lQ.goto (cLg 2420 rfl) ?_
  exact lQ.sub (LLs (by rfl) (by rfl) (by rfl) (by rfl) (by rfl)) (k _ _ _ _ _ _ _ _ hn ⟨hI, r', f1, f3⟩ kK kc ks ((k1_634 K1N.rf).2 _ d2).2)
theorem lc_row (hR : lRok R) (hJ : JAll R E) (hn : tOk ad) (hn8 : n ≤ 448) (hi : i + 7 ≤ n) (h : LV E ad b n f h1 o1 o y s A own t K N) (hK : K < 900) (hc : s.2.2.1 < 3800000000) (k : LK R E b n f h1 o1 o i s own t K N 501 30006 Z) : lQ R E 1625 cd_L 2421 (LL ad b h1 o1 i) [] (cp y s A) Z := by
  obtain ⟨hI, r, f1, f3⟩ := h
  obtain ⟨kk, S, x, t', own', K', N', c1, d1, th, ov, r', kK, kc, ks⟩ := lwa_row r (f (i + 1)) (f (i + 2)) (f (i + 3))
  refine lQ.loadN (cLg 2421 rfl) rfl ?_
  refine lQ.loadN (cLg 2422 rfl) rfl ?_
  refine lQ.loadI (cLg 2423 rfl) rfl ?_
  refine lQ.push (cLg 2424 rfl) ?_
  refine lQ.binI (cLg 2425 rfl) ?_
  refine lQ.ald hR (cLg 2426 rfl) (hI.scr hn8 1 (by omega)) ?_
  refine lQ.loadN (cLg 2427 rfl) rfl ?_
  refine lQ.loadI (cLg 2428 rfl) rfl ?_
  refine lQ.push (cLg 2429 rfl) ?_
  refine lQ.binI (cLg 2430 rfl) ?_
  refine lQ.ald hR (cLg 2431 rfl) (hI.scr hn8 2 (by omega)) ?_
  refine lQ.loadN (cLg 2432 rfl) rfl ?_
  refine lQ.loadI (cLg 2433 rfl) rfl ?_
  refine lQ.push (cLg 2434 rfl) ?_
  refine lQ.binI (cLg 2435 rfl) ?_
  refine lQ.ald hR (cLg 2436 rfl) (hI.scr hn8 3 (by omega)) ?_
  refine lQ.loadN (cLg 2437 rfl) rfl ?_
  refine lQ.callG (args := [.ref h1, .int (f (i + 1)), .int (f (i + 2)), .int (f (i + 3)), .ref o1]) (r := []) hR (cLg 2438 rfl) rfl rfl (Nat.le_of_ble_eq_true rfl) (Nat.le_of_ble_eq_true rfl) (cs_362 hR hJ hI.1 (w0 := some h1) (w4 := some o1) f1 f3 c1) ?_ (fun _ _ _ z => by cases z.1)
  rintro _ _ ⟨e_, y, A, hW, hX, rfl⟩
  cases e_
  have f1 := hX.1 _ _ f1
  have f3 := hX.1 _ _ f3
  have hI := hI.ext hW hX
  refine lQ.stI (cLg 2439 rfl) (lN2s rfl rfl) ?_
  refine lQ.loadN (cLg 2440 rfl) rfl ?_
  refine lQ.loadN (cLg 2441 rfl) rfl ?_
  refine lQ.loadI (cLg 2442 rfl) rfl ?_
  refine lQ.push (cLg 2443 rfl) ?_
  refine lQ.binI (cLg 2444 rfl) ?_
  refine lQ.ald hR (cLg 2445 rfl) (hI.scr hn8 1 (by omega)) ?_
  refine lQ.loadN (cLg 2446 rfl) rfl ?_
  refine lQ.loadI (cLg 2447 rfl) rfl ?_
  refine lQ.push (cLg 2448 rfl) ?_
  refine lQ.binI (cLg 2449 rfl) ?_
  refine lQ.ald hR (cLg 2450 rfl) (hI.scr hn8 2 (by omega)) ?_
  refine lQ.loadN (cLg 2451 rfl) rfl ?_
  refine lQ.loadI (cLg 2452 rfl) rfl ?_
  refine lQ.push (cLg 2453 rfl) ?_
  refine lQ.binI (cLg 2454 rfl) ?_
  refine lQ.ald hR (cLg 2455 rfl) (hI.scr hn8 3 (by omega)) ?_
  rw [hI.sw]
  refine lQ.callVI (F := fun z B => x = z ∧ B = tp ad t' (cp y S A)) (G := fun _ _ => False) (args := [.ref (adr ad 0), .int (f (i + 1)), .int (f (i + 2)), .int (f (i + 3))]) (r := []) hR (cLg 2456 rfl) rfl rfl (Nat.le_of_ble_eq_true rfl) (Nat.le_of_ble_eq_true rfl) rfl (tk_0 hn rfl) (ts_635 hR hn d1 (cI_mk ⟨rfl, rfl⟩)) ?_ (fun _ _ _ z => z.elim)
  rintro _ _ ⟨rfl, rfl⟩
  refine lQ.stI (cLg 2457 rfl) (lN2s rfl rfl) ?_
  refine lQ.loadN (cLg 2458 rfl) rfl ?_
  refine lQ.callVI (F := fun z B => t'.1 0 = z ∧ B = tp ad t' (cp y S A)) (G := fun _ _ => False) (args := [.ref (adr ad 0)]) (r := []) hR (cLg 2459 rfl) rfl rfl (Nat.le_of_ble_eq_true rfl) (Nat.le_of_ble_eq_true rfl) rfl (tk_0 hn rfl) (ts_556 hR hn (x := t'.1 0) rfl (cI_mk ⟨rfl, rfl⟩)) ?_ (fun _ _ _ z => z.elim)
  rintro _ _ ⟨rfl, rfl⟩
  rw [hI.mv SDa.rf t']
  have hI := hI.tw SDa.rf t'
  refine lQ.loadI (cLg 2460 rfl) rfl ?_
  refine lQ.cmpT (cLg 2461 rfl) (decide_eq_true th) ?_
  refine lQ.loadI (cLg 2464 rfl) rfl ?_
  by_cases hk : kk = 0
  · refine lQ.ifF (cLg 2465 rfl) (decide_eq_false (fun z => z hk)) ?_
    have hv := ov _ hk rfl
    have g3 := LV_out hI.1 f3 hv
    refine lQ.loadN (cLg 2466 rfl) rfl ?_
    refine lQ.push (cLg 2467 rfl) ?_
    refine lQ.ald hR (cLg 2468 rfl) g3 ?_
    refine lQ.loadI (cLg 2469 rfl) rfl ?_
    refine lQ.i2l (cLg 2470 rfl) ?_
    refine lQ.lcmp (cLg 2471 rfl) ?_
    refine lQ.ifT (cLg 2472 rfl) (decide_eq_true (lg_cmp_rf _)) ?_
    refine lQ.goto (cLg 2475 rfl) ?_
    exact lQ.sub (LLs (by rfl) (by rfl) (by rfl) (by rfl) (by rfl)) (k _ _ _ _ _ _ _ _ hn ⟨hI, r', f1, f3⟩ kK kc ks ((k1_635 K1N.rf).2 _ d1).2)
  · refine lQ.ifT (cLg 2465 rfl) (decide_eq_true hk) ?_
    refine lQ.goto (cLg 2475 rfl) ?_
    exact lQ.sub (LLs (by rfl) (by rfl) (by rfl) (by rfl) (by rfl)) (k _ _ _ _ _ _ _ _ hn ⟨hI, r', f1, f3⟩ kK kc ks ((k1_635 K1N.rf).2 _ d1).2)
theorem lc_safe (hR : lRok R) (hJ : JAll R E) (hn : tOk ad) (hn8 : n ≤ 448) (hi : i + 7 ≤ n) (h : LV E ad b n f h1 o1 o y s A own t K N) (hK : K < 900) (hc : s.2.2.1 < 3800000000) (k : LK R E b n f h1 o1 o i s own t K N 501 30006 Z) : lQ R E 1625 cd_L 2476 (LL ad b h1 o1 i) [] (cp y s A) Z := by
  obtain ⟨hI, r, f1, f3⟩ := h
  obtain ⟨kk, S, x, t', own', K', N', c1, d1, th, ov, r', kK, kc, ks⟩ := lwa_safe r (f (i + 1)) (f (i + 2))
  refine lQ.loadN (cLg 2476 rfl) rfl ?_
  refine lQ.loadN (cLg 2477 rfl) rfl ?_
  refine lQ.loadI (cLg 2478 rfl) rfl ?_
  refine lQ.push (cLg 2479 rfl) ?_
  refine lQ.binI (cLg 2480 rfl) ?_
  refine lQ.ald hR (cLg 2481 rfl) (hI.scr hn8 1 (by omega)) ?_
  refine lQ.loadN (cLg 2482 rfl) rfl ?_
  refine lQ.loadI (cLg 2483 rfl) rfl ?_
  refine lQ.push (cLg 2484 rfl) ?_
  refine lQ.binI (cLg 2485 rfl) ?_
  refine lQ.ald hR (cLg 2486 rfl) (hI.scr hn8 2 (by omega)) ?_
  refine lQ.loadN (cLg 2487 rfl) rfl ?_
  refine lQ.callG (args := [.ref h1, .int (f (i + 1)), .int (f (i + 2)), .ref o1]) (r := []) hR (cLg 2488 rfl) rfl rfl (Nat.le_of_ble_eq_true rfl) (Nat.le_of_ble_eq_true rfl) (cs_363 hR hJ hI.1 (w0 := some h1) (w3 := some o1) f1 f3 c1) ?_ (fun _ _ _ z => by cases z.1)
  rintro _ _ ⟨e_, y, A, hW, hX, rfl⟩
  cases e_
  have f1 := hX.1 _ _ f1
  have f3 := hX.1 _ _ f3
  have hI := hI.ext hW hX
  refine lQ.stI (cLg 2489 rfl) (lN2s rfl rfl) ?_
  refine lQ.loadN (cLg 2490 rfl) rfl ?_
  refine lQ.loadN (cLg 2491 rfl) rfl ?_
  refine lQ.loadI (cLg 2492 rfl) rfl ?_
  refine lQ.push (cLg 2493 rfl) ?_
  refine lQ.binI (cLg 2494 rfl) ?_
  refine lQ.ald hR (cLg 2495 rfl) (hI.scr hn8 1 (by omega)) ?_
  refine lQ.loadN (cLg 2496 rfl) rfl ?_
  refine lQ.loadI (cLg 2497 rfl) rfl ?_
  refine lQ.push (cLg 2498 rfl) ?_
  refine lQ.binI (cLg 2499 rfl) ?_
  refine lQ.ald hR (cLg 2500 rfl) (hI.scr hn8 2 (by omega)) ?_
  rw [hI.sw]
  refine lQ.callVI (F := fun z B => x = z ∧ B = tp ad t' (cp y S A)) (G := fun _ _ => False) (args := [.ref (adr ad 0), .int (f (i + 1)), .int (f (i + 2))]) (r := []) hR (cLg 2501 rfl) rfl rfl (Nat.le_of_ble_eq_true rfl) (Nat.le_of_ble_eq_true rfl) rfl (tk_0 hn rfl) (ts_636 hR hn d1 (cI_mk ⟨rfl, rfl⟩)) ?_ (fun _ _ _ z => z.elim)
  rintro _ _ ⟨rfl, rfl⟩
  refine lQ.stI (cLg 2502 rfl) (lN2s rfl rfl) ?_
  refine lQ.loadN (cLg 2503 rfl) rfl ?_
  refine lQ.callVI (F := fun z B => t'.1 0 = z ∧ B = tp ad t' (cp y S A)) (G := fun _ _ => False) (args := [.ref (adr ad 0)]) (r := []) hR (cLg 2504 rfl) rfl rfl (Nat.le_of_ble_eq_true rfl) (Nat.le_of_ble_eq_true rfl) rfl (tk_0 hn rfl) (ts_556 hR hn (x := t'.1 0) rfl (cI_mk ⟨rfl, rfl⟩)) ?_ (fun _ _ _ z => z.elim)
  rintro _ _ ⟨rfl, rfl⟩
  rw [hI.mv SDa.rf t']
  have hI := hI.tw SDa.rf t'
  refine lQ.loadI (cLg 2505 rfl) rfl ?_
  refine lQ.cmpT (cLg 2506 rfl) (decide_eq_true th) ?_
  refine lQ.loadI (cLg 2509 rfl) rfl ?_
  by_cases hk : kk = 0
  · refine lQ.ifF (cLg 2510 rfl) (decide_eq_false (fun z => z hk)) ?_
    have hv := ov _ hk rfl
    have g3 := LV_out hI.1 f3 hv
    refine lQ.loadN (cLg 2511 rfl) rfl ?_
    refine lQ.push (cLg 2512 rfl) ?_
    refine lQ.ald hR (cLg 2513 rfl) g3 ?_
    refine lQ.loadI (cLg 2514 rfl) rfl ?_
    refine lQ.i2l (cLg 2515 rfl) ?_
    refine lQ.lcmp (cLg 2516 rfl) ?_
    refine lQ.ifT (cLg 2517 rfl) (decide_eq_true (lg_cmp_rf _)) ?_
    refine lQ.goto (cLg 2520 rfl) ?_
    exact lQ.sub (LLs (by rfl) (by rfl) (by rfl) (by rfl) (by rfl)) (k _ _ _ _ _ _ _ _ hn ⟨hI, r', f1, f3⟩ kK kc ks ((k1_636 K1N.rf).2 _ d1).2)
  · refine lQ.ifT (cLg 2510 rfl) (decide_eq_true hk) ?_
    refine lQ.goto (cLg 2520 rfl) ?_
    exact lQ.sub (LLs (by rfl) (by rfl) (by rfl) (by rfl) (by rfl)) (k _ _ _ _ _ _ _ _ hn ⟨hI, r', f1, f3⟩ kK kc ks ((k1_636 K1N.rf).2 _ d1).2)
theorem lc_hand (hR : lRok R) (hJ : JAll R E) (hn : tOk ad) (hn8 : n ≤ 448) (hi : i + 7 ≤ n) (h : LV E ad b n f h1 o1 o y s A own t K N) (hK : K < 900) (hc : s.2.2.1 < 3800000000) (k : LK R E b n f h1 o1 o i s own t K N 501 30006 Z) : lQ R E 1625 cd_L 2521 (LL ad b h1 o1 i) [] (cp y s A) Z := by
  obtain ⟨hI, r, f1, f3⟩ := h
  by_cases hb : f (i + 2) = 0
  · obtain ⟨kk, S, x, t', own', K', N', c1, d1, th, ov, r', kK, kc, ks⟩ := lwa_hand r (f (i + 1)) 0 (f (i + 3)) (Or.inl rfl)
    refine lQ.loadN (cLg 2521 rfl) rfl ?_
    refine lQ.loadN (cLg 2522 rfl) rfl ?_
    refine lQ.loadI (cLg 2523 rfl) rfl ?_
    refine lQ.push (cLg 2524 rfl) ?_
    refine lQ.binI (cLg 2525 rfl) ?_
    refine lQ.ald hR (cLg 2526 rfl) (hI.scr hn8 1 (by omega)) ?_
    refine lQ.loadN (cLg 2527 rfl) rfl ?_
    refine lQ.loadI (cLg 2528 rfl) rfl ?_
    refine lQ.push (cLg 2529 rfl) ?_
    refine lQ.binI (cLg 2530 rfl) ?_
    refine lQ.ald hR (cLg 2531 rfl) (hI.scr hn8 2 (by omega)) ?_
    refine lQ.ifT (cLg 2532 rfl) (decide_eq_true hb) ?_
    refine lQ.push (cLg 2535 rfl) ?_
    refine lQ.loadN (cLg 2536 rfl) rfl ?_
    refine lQ.loadI (cLg 2537 rfl) rfl ?_
    refine lQ.push (cLg 2538 rfl) ?_
    refine lQ.binI (cLg 2539 rfl) ?_
    refine lQ.ald hR (cLg 2540 rfl) (hI.scr hn8 3 (by omega)) ?_
    refine lQ.loadN (cLg 2541 rfl) rfl ?_
    refine lQ.callG (args := [.ref h1, .int (f (i + 1)), .int 0, .int (f (i + 3)), .ref o1]) (r := []) hR (cLg 2542 rfl) rfl rfl (Nat.le_of_ble_eq_true rfl) (Nat.le_of_ble_eq_true rfl) (cs_364 hR hJ hI.1 (w0 := some h1) (w4 := some o1) f1 f3 c1) ?_ (fun _ _ _ z => by cases z.1)
    rintro _ _ ⟨e_, y, A, hW, hX, rfl⟩
    cases e_
    have f1 := hX.1 _ _ f1
    have f3 := hX.1 _ _ f3
    have hI := hI.ext hW hX
    refine lQ.stI (cLg 2543 rfl) (lN2s rfl rfl) ?_
    refine lQ.loadN (cLg 2544 rfl) rfl ?_
    refine lQ.loadN (cLg 2545 rfl) rfl ?_
    refine lQ.loadI (cLg 2546 rfl) rfl ?_
    refine lQ.push (cLg 2547 rfl) ?_
    refine lQ.binI (cLg 2548 rfl) ?_
    refine lQ.ald hR (cLg 2549 rfl) (hI.scr hn8 1 (by omega)) ?_
    refine lQ.loadN (cLg 2550 rfl) rfl ?_
    refine lQ.loadI (cLg 2551 rfl) rfl ?_
    refine lQ.push (cLg 2552 rfl) ?_
    refine lQ.binI (cLg 2553 rfl) ?_
    refine lQ.ald hR (cLg 2554 rfl) (hI.scr hn8 2 (by omega)) ?_
    refine lQ.ifT (cLg 2555 rfl) (decide_eq_true hb) ?_
    refine lQ.push (cLg 2558 rfl) ?_
    refine lQ.loadN (cLg 2559 rfl) rfl ?_
    refine lQ.loadI (cLg 2560 rfl) rfl ?_
    refine lQ.push (cLg 2561 rfl) ?_
    refine lQ.binI (cLg 2562 rfl) ?_
    refine lQ.ald hR (cLg 2563 rfl) (hI.scr hn8 3 (by omega)) ?_
    rw [hI.sw]
    refine lQ.callVI (F := fun z B => x = z ∧ B = tp ad t' (cp y S A)) (G := fun _ _ => False) (args := [.ref (adr ad 0), .int (f (i + 1)), .int 0, .int (f (i + 3))]) (r := []) hR (cLg 2564 rfl) rfl rfl (Nat.le_of_ble_eq_true rfl) (Nat.le_of_ble_eq_true rfl) rfl (tk_0 hn rfl) (ts_637 hR hn d1 (cI_mk ⟨rfl, rfl⟩)) ?_ (fun _ _ _ z => z.elim)
    rintro _ _ ⟨rfl, rfl⟩
    refine lQ.stI (cLg 2565 rfl) (lN2s rfl rfl) ?_
    refine lQ.loadN (cLg 2566 rfl) rfl ?_
    refine lQ.callVI (F := fun z B => t'.1 0 = z ∧ B = tp ad t' (cp y S A)) (G := fun _ _ => False) (args := [.ref (adr ad 0)]) (r := []) hR (cLg 2567 rfl) rfl rfl (Nat.le_of_ble_eq_true rfl) (Nat.le_of_ble_eq_true rfl) rfl (tk_0 hn rfl) (ts_556 hR hn (x := t'.1 0) rfl (cI_mk ⟨rfl, rfl⟩)) ?_ (fun _ _ _ z => z.elim)
    rintro _ _ ⟨rfl, rfl⟩
    rw [hI.mv SDa.rf t']
    have hI := hI.tw SDa.rf t'
    refine lQ.loadI (cLg 2568 rfl) rfl ?_
    refine lQ.cmpT (cLg 2569 rfl) (decide_eq_true th) ?_
    refine lQ.loadI (cLg 2572 rfl) rfl ?_
    by_cases hk : kk = 0
    · refine lQ.ifF (cLg 2573 rfl) (decide_eq_false (fun z => z hk)) ?_
      have hv := ov _ hk rfl
      have g3 := LV_out hI.1 f3 hv
      refine lQ.loadN (cLg 2574 rfl) rfl ?_
      refine lQ.push (cLg 2575 rfl) ?_
      refine lQ.ald hR (cLg 2576 rfl) g3 ?_
      refine lQ.loadI (cLg 2577 rfl) rfl ?_
      by_cases hx : x = 0
      · refine lQ.ifT (cLg 2578 rfl) (decide_eq_true hx) ?_
        refine lQ.push (cLg 2581 rfl) ?_
        rw [if_pos hx]
        refine lQ.lcmp (cLg 2582 rfl) ?_
        refine lQ.ifT (cLg 2583 rfl) (decide_eq_true (lg_cmp_rf _)) ?_
        refine lQ.goto (cLg 2586 rfl) ?_
        exact lQ.sub (LLs (by rfl) (by rfl) (by rfl) (by rfl) (by rfl)) (k _ _ _ _ _ _ _ _ hn ⟨hI, r', f1, f3⟩ kK kc ks ((k1_637 K1N.rf).2 _ d1).2)
      · refine lQ.ifF (cLg 2578 rfl) (decide_eq_false hx) ?_
        refine lQ.push (cLg 2579 rfl) ?_
        refine lQ.goto (cLg 2580 rfl) ?_
        rw [if_neg hx]
        refine lQ.lcmp (cLg 2582 rfl) ?_
        refine lQ.ifT (cLg 2583 rfl) (decide_eq_true (lg_cmp_rf _)) ?_
        refine lQ.goto (cLg 2586 rfl) ?_
        exact lQ.sub (LLs (by rfl) (by rfl) (by rfl) (by rfl) (by rfl)) (k _ _ _ _ _ _ _ _ hn ⟨hI, r', f1, f3⟩ kK kc ks ((k1_637 K1N.rf).2 _ d1).2)
    · refine lQ.ifT (cLg 2573 rfl) (decide_eq_true hk) ?_
      refine lQ.goto (cLg 2586 rfl) ?_
      exact lQ.sub (LLs (by rfl) (by rfl) (by rfl) (by rfl) (by rfl)) (k _ _ _ _ _ _ _ _ hn ⟨hI, r', f1, f3⟩ kK kc ks ((k1_637 K1N.rf).2 _ d1).2)
  · obtain ⟨kk, S, x, t', own', K', N', c1, d1, th, ov, r', kK, kc, ks⟩ := lwa_hand r (f (i + 1)) 1 (f (i + 3)) (Or.inr rfl)
    refine lQ.loadN (cLg 2521 rfl) rfl ?_
    refine lQ.loadN (cLg 2522 rfl) rfl ?_
    refine lQ.loadI (cLg 2523 rfl) rfl ?_
    refine lQ.push (cLg 2524 rfl) ?_
    refine lQ.binI (cLg 2525 rfl) ?_
    refine lQ.ald hR (cLg 2526 rfl) (hI.scr hn8 1 (by omega)) ?_
    refine lQ.loadN (cLg 2527 rfl) rfl ?_
    refine lQ.loadI (cLg 2528 rfl) rfl ?_
    refine lQ.push (cLg 2529 rfl) ?_
    refine lQ.binI (cLg 2530 rfl) ?_
    refine lQ.ald hR (cLg 2531 rfl) (hI.scr hn8 2 (by omega)) ?_
    refine lQ.ifF (cLg 2532 rfl) (decide_eq_false hb) ?_
    refine lQ.push (cLg 2533 rfl) ?_
    refine lQ.goto (cLg 2534 rfl) ?_
    refine lQ.loadN (cLg 2536 rfl) rfl ?_
    refine lQ.loadI (cLg 2537 rfl) rfl ?_
    refine lQ.push (cLg 2538 rfl) ?_
    refine lQ.binI (cLg 2539 rfl) ?_
    refine lQ.ald hR (cLg 2540 rfl) (hI.scr hn8 3 (by omega)) ?_
    refine lQ.loadN (cLg 2541 rfl) rfl ?_
    refine lQ.callG (args := [.ref h1, .int (f (i + 1)), .int 1, .int (f (i + 3)), .ref o1]) (r := []) hR (cLg 2542 rfl) rfl rfl (Nat.le_of_ble_eq_true rfl) (Nat.le_of_ble_eq_true rfl) (cs_364 hR hJ hI.1 (w0 := some h1) (w4 := some o1) f1 f3 c1) ?_ (fun _ _ _ z => by cases z.1)
    rintro _ _ ⟨e_, y, A, hW, hX, rfl⟩
    cases e_
    have f1 := hX.1 _ _ f1
    have f3 := hX.1 _ _ f3
    have hI := hI.ext hW hX
    refine lQ.stI (cLg 2543 rfl) (lN2s rfl rfl) ?_
    refine lQ.loadN (cLg 2544 rfl) rfl ?_
    refine lQ.loadN (cLg 2545 rfl) rfl ?_
    refine lQ.loadI (cLg 2546 rfl) rfl ?_
    refine lQ.push (cLg 2547 rfl) ?_
    refine lQ.binI (cLg 2548 rfl) ?_
    refine lQ.ald hR (cLg 2549 rfl) (hI.scr hn8 1 (by omega)) ?_
    refine lQ.loadN (cLg 2550 rfl) rfl ?_
    refine lQ.loadI (cLg 2551 rfl) rfl ?_
    refine lQ.push (cLg 2552 rfl) ?_
    refine lQ.binI (cLg 2553 rfl) ?_
    refine lQ.ald hR (cLg 2554 rfl) (hI.scr hn8 2 (by omega)) ?_
    refine lQ.ifF (cLg 2555 rfl) (decide_eq_false hb) ?_
    refine lQ.push (cLg 2556 rfl) ?_
    refine lQ.goto (cLg 2557 rfl) ?_
    refine lQ.loadN (cLg 2559 rfl) rfl ?_
    refine lQ.loadI (cLg 2560 rfl) rfl ?_
    refine lQ.push (cLg 2561 rfl) ?_
    refine lQ.binI (cLg 2562 rfl) ?_
    refine lQ.ald hR (cLg 2563 rfl) (hI.scr hn8 3 (by omega)) ?_
    rw [hI.sw]
    refine lQ.callVI (F := fun z B => x = z ∧ B = tp ad t' (cp y S A)) (G := fun _ _ => False) (args := [.ref (adr ad 0), .int (f (i + 1)), .int 1, .int (f (i + 3))]) (r := []) hR (cLg 2564 rfl) rfl rfl (Nat.le_of_ble_eq_true rfl) (Nat.le_of_ble_eq_true rfl) rfl (tk_0 hn rfl) (ts_637 hR hn d1 (cI_mk ⟨rfl, rfl⟩)) ?_ (fun _ _ _ z => z.elim)
    rintro _ _ ⟨rfl, rfl⟩
    refine lQ.stI (cLg 2565 rfl) (lN2s rfl rfl) ?_
    refine lQ.loadN (cLg 2566 rfl) rfl ?_
    refine lQ.callVI (F := fun z B => t'.1 0 = z ∧ B = tp ad t' (cp y S A)) (G := fun _ _ => False) (args := [.ref (adr ad 0)]) (r := []) hR (cLg 2567 rfl) rfl rfl (Nat.le_of_ble_eq_true rfl) (Nat.le_of_ble_eq_true rfl) rfl (tk_0 hn rfl) (ts_556 hR hn (x := t'.1 0) rfl (cI_mk ⟨rfl, rfl⟩)) ?_ (fun _ _ _ z => z.elim)
    rintro _ _ ⟨rfl, rfl⟩
    rw [hI.mv SDa.rf t']
    have hI := hI.tw SDa.rf t'
    refine lQ.loadI (cLg 2568 rfl) rfl ?_
    refine lQ.cmpT (cLg 2569 rfl) (decide_eq_true th) ?_
    refine lQ.loadI (cLg 2572 rfl) rfl ?_
    by_cases hk : kk = 0
    · refine lQ.ifF (cLg 2573 rfl) (decide_eq_false (fun z => z hk)) ?_
      have hv := ov _ hk rfl
      have g3 := LV_out hI.1 f3 hv
      refine lQ.loadN (cLg 2574 rfl) rfl ?_
      refine lQ.push (cLg 2575 rfl) ?_
      refine lQ.ald hR (cLg 2576 rfl) g3 ?_
      refine lQ.loadI (cLg 2577 rfl) rfl ?_
      by_cases hx : x = 0
      · refine lQ.ifT (cLg 2578 rfl) (decide_eq_true hx) ?_
        refine lQ.push (cLg 2581 rfl) ?_
        rw [if_pos hx]
        refine lQ.lcmp (cLg 2582 rfl) ?_
        refine lQ.ifT (cLg 2583 rfl) (decide_eq_true (lg_cmp_rf _)) ?_
        refine lQ.goto (cLg 2586 rfl) ?_
        exact lQ.sub (LLs (by rfl) (by rfl) (by rfl) (by rfl) (by rfl)) (k _ _ _ _ _ _ _ _ hn ⟨hI, r', f1, f3⟩ kK kc ks ((k1_637 K1N.rf).2 _ d1).2)
      · refine lQ.ifF (cLg 2578 rfl) (decide_eq_false hx) ?_
        refine lQ.push (cLg 2579 rfl) ?_
        refine lQ.goto (cLg 2580 rfl) ?_
        rw [if_neg hx]
        refine lQ.lcmp (cLg 2582 rfl) ?_
        refine lQ.ifT (cLg 2583 rfl) (decide_eq_true (lg_cmp_rf _)) ?_
        refine lQ.goto (cLg 2586 rfl) ?_
        exact lQ.sub (LLs (by rfl) (by rfl) (by rfl) (by rfl) (by rfl)) (k _ _ _ _ _ _ _ _ hn ⟨hI, r', f1, f3⟩ kK kc ks ((k1_637 K1N.rf).2 _ d1).2)
    · refine lQ.ifT (cLg 2573 rfl) (decide_eq_true hk) ?_
      refine lQ.goto (cLg 2586 rfl) ?_
      exact lQ.sub (LLs (by rfl) (by rfl) (by rfl) (by rfl) (by rfl)) (k _ _ _ _ _ _ _ _ hn ⟨hI, r', f1, f3⟩ kK kc ks ((k1_637 K1N.rf).2 _ d1).2)
theorem lc_bind (hR : lRok R) (hJ : JAll R E) (hn : tOk ad) (hn8 : n ≤ 448) (hi : i + 7 ≤ n) (h : LV E ad b n f h1 o1 o y s A own t K N) (hK : K < 900) (hc : s.2.2.1 < 3800000000) (k : LK R E b n f h1 o1 o i s own t K N 501 30006 Z) : lQ R E 1625 cd_L 2587 (LL ad b h1 o1 i) [] (cp y s A) Z := by
  obtain ⟨hI, r, f1, f3⟩ := h
  obtain ⟨kk, S, x, t', own', K', N', c1, d1, th, ov, r', kK, kc, ks⟩ := lwa_bind r (f (i + 1)) (f (i + 2))
  refine lQ.loadN (cLg 2587 rfl) rfl ?_
  refine lQ.loadN (cLg 2588 rfl) rfl ?_
  refine lQ.loadI (cLg 2589 rfl) rfl ?_
  refine lQ.push (cLg 2590 rfl) ?_
  refine lQ.binI (cLg 2591 rfl) ?_
  refine lQ.ald hR (cLg 2592 rfl) (hI.scr hn8 1 (by omega)) ?_
  refine lQ.loadN (cLg 2593 rfl) rfl ?_
  refine lQ.loadI (cLg 2594 rfl) rfl ?_
  refine lQ.push (cLg 2595 rfl) ?_
  refine lQ.binI (cLg 2596 rfl) ?_
  refine lQ.ald hR (cLg 2597 rfl) (hI.scr hn8 2 (by omega)) ?_
  refine lQ.loadN (cLg 2598 rfl) rfl ?_
  refine lQ.callG (args := [.ref h1, .int (f (i + 1)), .int (f (i + 2)), .ref o1]) (r := []) hR (cLg 2599 rfl) rfl rfl (Nat.le_of_ble_eq_true rfl) (Nat.le_of_ble_eq_true rfl) (cs_365 hR hJ hI.1 (w0 := some h1) (w3 := some o1) f1 f3 c1) ?_ (fun _ _ _ z => by cases z.1)
  rintro _ _ ⟨e_, y, A, hW, hX, rfl⟩
  cases e_
  have f1 := hX.1 _ _ f1
  have f3 := hX.1 _ _ f3
  have hI := hI.ext hW hX
  refine lQ.stI (cLg 2600 rfl) (lN2s rfl rfl) ?_
  refine lQ.loadN (cLg 2601 rfl) rfl ?_
  refine lQ.loadN (cLg 2602 rfl) rfl ?_
  refine lQ.loadI (cLg 2603 rfl) rfl ?_
  refine lQ.push (cLg 2604 rfl) ?_
  refine lQ.binI (cLg 2605 rfl) ?_
  refine lQ.ald hR (cLg 2606 rfl) (hI.scr hn8 1 (by omega)) ?_
  refine lQ.loadN (cLg 2607 rfl) rfl ?_
  refine lQ.loadI (cLg 2608 rfl) rfl ?_
  refine lQ.push (cLg 2609 rfl) ?_
  refine lQ.binI (cLg 2610 rfl) ?_
  refine lQ.ald hR (cLg 2611 rfl) (hI.scr hn8 2 (by omega)) ?_
  rw [hI.sw]
  refine lQ.callVI (F := fun z B => x = z ∧ B = tp ad t' (cp y S A)) (G := fun _ _ => False) (args := [.ref (adr ad 0), .int (f (i + 1)), .int (f (i + 2))]) (r := []) hR (cLg 2612 rfl) rfl rfl (Nat.le_of_ble_eq_true rfl) (Nat.le_of_ble_eq_true rfl) rfl (tk_0 hn rfl) (ts_638 hR hn d1 (cI_mk ⟨rfl, rfl⟩)) ?_ (fun _ _ _ z => z.elim)
  rintro _ _ ⟨rfl, rfl⟩
  refine lQ.stI (cLg 2613 rfl) (lN2s rfl rfl) ?_
  refine lQ.loadN (cLg 2614 rfl) rfl ?_
  refine lQ.callVI (F := fun z B => t'.1 0 = z ∧ B = tp ad t' (cp y S A)) (G := fun _ _ => False) (args := [.ref (adr ad 0)]) (r := []) hR (cLg 2615 rfl) rfl rfl (Nat.le_of_ble_eq_true rfl) (Nat.le_of_ble_eq_true rfl) rfl (tk_0 hn rfl) (ts_556 hR hn (x := t'.1 0) rfl (cI_mk ⟨rfl, rfl⟩)) ?_ (fun _ _ _ z => z.elim)
  rintro _ _ ⟨rfl, rfl⟩
  rw [hI.mv SDa.rf t']
  have hI := hI.tw SDa.rf t'
  refine lQ.loadI (cLg 2616 rfl) rfl ?_
  refine lQ.cmpT (cLg 2617 rfl) (decide_eq_true th) ?_
  refine lQ.loadI (cLg 2620 rfl) rfl ?_
  by_cases hk : kk = 0
  · refine lQ.ifF (cLg 2621 rfl) (decide_eq_false (fun z => z hk)) ?_
    have hv := ov _ hk rfl
    have g3 := LV_out hI.1 f3 hv
    refine lQ.loadN (cLg 2622 rfl) rfl ?_
    refine lQ.push (cLg 2623 rfl) ?_
    refine lQ.ald hR (cLg 2624 rfl) g3 ?_
    refine lQ.loadI (cLg 2625 rfl) rfl ?_
    refine lQ.i2l (cLg 2626 rfl) ?_
    refine lQ.lcmp (cLg 2627 rfl) ?_
    refine lQ.ifT (cLg 2628 rfl) (decide_eq_true (lg_cmp_rf _)) ?_
    refine lQ.goto (cLg 2631 rfl) ?_
    exact lQ.sub (LLs (by rfl) (by rfl) (by rfl) (by rfl) (by rfl)) (k _ _ _ _ _ _ _ _ hn ⟨hI, r', f1, f3⟩ kK kc ks ((k1_638 K1N.rf).2 _ d1).2)
  · refine lQ.ifT (cLg 2621 rfl) (decide_eq_true hk) ?_
    refine lQ.goto (cLg 2631 rfl) ?_
    exact lQ.sub (LLs (by rfl) (by rfl) (by rfl) (by rfl) (by rfl)) (k _ _ _ _ _ _ _ _ hn ⟨hI, r', f1, f3⟩ kK kc ks ((k1_638 K1N.rf).2 _ d1).2)
theorem lc_point (hR : lRok R) (hJ : JAll R E) (hn : tOk ad) (hn8 : n ≤ 448) (hi : i + 7 ≤ n) (h : LV E ad b n f h1 o1 o y s A own t K N) (hK : K < 900) (hc : s.2.2.1 < 3800000000) (k : LK R E b n f h1 o1 o i s own t K N 1 6 Z) : lQ R E 1625 cd_L 2632 (LL ad b h1 o1 i) [] (cp y s A) Z := by
  obtain ⟨hI, r, f1, f3⟩ := h
  obtain ⟨kk, S, x, t', own', K', N', c1, d1, th, ov, r', kK, kc, ks⟩ := lwa_point r (f (i + 1)) (f (i + 2))
  refine lQ.loadN (cLg 2632 rfl) rfl ?_
  refine lQ.loadN (cLg 2633 rfl) rfl ?_
  refine lQ.loadI (cLg 2634 rfl) rfl ?_
  refine lQ.push (cLg 2635 rfl) ?_
  refine lQ.binI (cLg 2636 rfl) ?_
  refine lQ.ald hR (cLg 2637 rfl) (hI.scr hn8 1 (by omega)) ?_
  refine lQ.loadN (cLg 2638 rfl) rfl ?_
  refine lQ.loadI (cLg 2639 rfl) rfl ?_
  refine lQ.push (cLg 2640 rfl) ?_
  refine lQ.binI (cLg 2641 rfl) ?_
  refine lQ.ald hR (cLg 2642 rfl) (hI.scr hn8 2 (by omega)) ?_
  refine lQ.loadN (cLg 2643 rfl) rfl ?_
  refine lQ.callG (args := [.ref h1, .int (f (i + 1)), .int (f (i + 2)), .ref o1]) (r := []) hR (cLg 2644 rfl) rfl rfl (Nat.le_of_ble_eq_true rfl) (Nat.le_of_ble_eq_true rfl) (cs_366 hR hJ hI.1 (w0 := some h1) (w3 := some o1) f1 f3 c1) ?_ (fun _ _ _ z => by cases z.1)
  rintro _ _ ⟨e_, y, A, hW, hX, rfl⟩
  cases e_
  have f1 := hX.1 _ _ f1
  have f3 := hX.1 _ _ f3
  have hI := hI.ext hW hX
  refine lQ.stI (cLg 2645 rfl) (lN2s rfl rfl) ?_
  refine lQ.loadN (cLg 2646 rfl) rfl ?_
  refine lQ.loadN (cLg 2647 rfl) rfl ?_
  refine lQ.loadI (cLg 2648 rfl) rfl ?_
  refine lQ.push (cLg 2649 rfl) ?_
  refine lQ.binI (cLg 2650 rfl) ?_
  refine lQ.ald hR (cLg 2651 rfl) (hI.scr hn8 1 (by omega)) ?_
  refine lQ.loadN (cLg 2652 rfl) rfl ?_
  refine lQ.loadI (cLg 2653 rfl) rfl ?_
  refine lQ.push (cLg 2654 rfl) ?_
  refine lQ.binI (cLg 2655 rfl) ?_
  refine lQ.ald hR (cLg 2656 rfl) (hI.scr hn8 2 (by omega)) ?_
  rw [hI.sw]
  refine lQ.callVI (F := fun z B => x = z ∧ B = tp ad t' (cp y S A)) (G := fun _ _ => False) (args := [.ref (adr ad 0), .int (f (i + 1)), .int (f (i + 2))]) (r := []) hR (cLg 2657 rfl) rfl rfl (Nat.le_of_ble_eq_true rfl) (Nat.le_of_ble_eq_true rfl) rfl (tk_0 hn rfl) (ts_639 hR hn d1 (cI_mk ⟨rfl, rfl⟩)) ?_ (fun _ _ _ z => z.elim)
  rintro _ _ ⟨rfl, rfl⟩
  refine lQ.stI (cLg 2658 rfl) (lN2s rfl rfl) ?_
  refine lQ.loadN (cLg 2659 rfl) rfl ?_
  refine lQ.callVI (F := fun z B => t'.1 0 = z ∧ B = tp ad t' (cp y S A)) (G := fun _ _ => False) (args := [.ref (adr ad 0)]) (r := []) hR (cLg 2660 rfl) rfl rfl (Nat.le_of_ble_eq_true rfl) (Nat.le_of_ble_eq_true rfl) rfl (tk_0 hn rfl) (ts_556 hR hn (x := t'.1 0) rfl (cI_mk ⟨rfl, rfl⟩)) ?_ (fun _ _ _ z => z.elim)
  rintro _ _ ⟨rfl, rfl⟩
  rw [hI.mv SDa.rf t']
  have hI := hI.tw SDa.rf t'
  refine lQ.loadI (cLg 2661 rfl) rfl ?_
  refine lQ.cmpT (cLg 2662 rfl) (decide_eq_true th) ?_
  refine lQ.loadI (cLg 2665 rfl) rfl ?_
  by_cases hk : kk = 0
  · refine lQ.ifF (cLg 2666 rfl) (decide_eq_false (fun z => z hk)) ?_
    have hv := ov _ hk rfl
    have g3 := LV_out hI.1 f3 hv
    refine lQ.loadN (cLg 2667 rfl) rfl ?_
    refine lQ.push (cLg 2668 rfl) ?_
    refine lQ.ald hR (cLg 2669 rfl) g3 ?_
    refine lQ.loadI (cLg 2670 rfl) rfl ?_
    refine lQ.i2l (cLg 2671 rfl) ?_
    refine lQ.lcmp (cLg 2672 rfl) ?_
    refine lQ.ifT (cLg 2673 rfl) (decide_eq_true (lg_cmp_rf _)) ?_
    refine lQ.goto (cLg 2676 rfl) ?_
    exact lQ.sub (LLs (by rfl) (by rfl) (by rfl) (by rfl) (by rfl)) (k _ _ _ _ _ _ _ _ hn ⟨hI, r', f1, f3⟩ kK kc ks ((k1_639 K1N.rf).2 _ d1).2)
  · refine lQ.ifT (cLg 2666 rfl) (decide_eq_true hk) ?_
    refine lQ.goto (cLg 2676 rfl) ?_
    exact lQ.sub (LLs (by rfl) (by rfl) (by rfl) (by rfl) (by rfl)) (k _ _ _ _ _ _ _ _ hn ⟨hI, r', f1, f3⟩ kK kc ks ((k1_639 K1N.rf).2 _ d1).2)
theorem lc_pointAt (hR : lRok R) (hJ : JAll R E) (hn : tOk ad) (hn8 : n ≤ 448) (hi : i + 7 ≤ n) (h : LV E ad b n f h1 o1 o y s A own t K N) (hK : K < 900) (hc : s.2.2.1 < 3800000000) (k : LK R E b n f h1 o1 o i s own t K N 1 6 Z) : lQ R E 1625 cd_L 2677 (LL ad b h1 o1 i) [] (cp y s A) Z := by
  obtain ⟨hI, r, f1, f3⟩ := h
  obtain ⟨kk, S, x, t', own', K', N', c1, d1, th, ov, r', kK, kc, ks⟩ := lwa_pointAt r (f (i + 1))
  refine lQ.loadN (cLg 2677 rfl) rfl ?_
  refine lQ.loadN (cLg 2678 rfl) rfl ?_
  refine lQ.loadI (cLg 2679 rfl) rfl ?_
  refine lQ.push (cLg 2680 rfl) ?_
  refine lQ.binI (cLg 2681 rfl) ?_
  refine lQ.ald hR (cLg 2682 rfl) (hI.scr hn8 1 (by omega)) ?_
  refine lQ.loadN (cLg 2683 rfl) rfl ?_
  refine lQ.callG (args := [.ref h1, .int (f (i + 1)), .ref o1]) (r := []) hR (cLg 2684 rfl) rfl rfl (Nat.le_of_ble_eq_true rfl) (Nat.le_of_ble_eq_true rfl) (cs_367 hR hJ hI.1 (w0 := some h1) (w2 := some o1) f1 f3 c1) ?_ (fun _ _ _ z => by cases z.1)
  rintro _ _ ⟨e_, y, A, hW, hX, rfl⟩
  cases e_
  have f1 := hX.1 _ _ f1
  have f3 := hX.1 _ _ f3
  have hI := hI.ext hW hX
  refine lQ.stI (cLg 2685 rfl) (lN2s rfl rfl) ?_
  refine lQ.loadN (cLg 2686 rfl) rfl ?_
  refine lQ.loadN (cLg 2687 rfl) rfl ?_
  refine lQ.loadI (cLg 2688 rfl) rfl ?_
  refine lQ.push (cLg 2689 rfl) ?_
  refine lQ.binI (cLg 2690 rfl) ?_
  refine lQ.ald hR (cLg 2691 rfl) (hI.scr hn8 1 (by omega)) ?_
  rw [hI.sw]
  refine lQ.callVI (F := fun z B => x = z ∧ B = tp ad t' (cp y S A)) (G := fun _ _ => False) (args := [.ref (adr ad 0), .int (f (i + 1))]) (r := []) hR (cLg 2692 rfl) rfl rfl (Nat.le_of_ble_eq_true rfl) (Nat.le_of_ble_eq_true rfl) rfl (tk_0 hn rfl) (ts_640 hR hn d1 (cI_mk ⟨rfl, rfl⟩)) ?_ (fun _ _ _ z => z.elim)
  rintro _ _ ⟨rfl, rfl⟩
  refine lQ.stI (cLg 2693 rfl) (lN2s rfl rfl) ?_
  refine lQ.loadN (cLg 2694 rfl) rfl ?_
  refine lQ.callVI (F := fun z B => t'.1 0 = z ∧ B = tp ad t' (cp y S A)) (G := fun _ _ => False) (args := [.ref (adr ad 0)]) (r := []) hR (cLg 2695 rfl) rfl rfl (Nat.le_of_ble_eq_true rfl) (Nat.le_of_ble_eq_true rfl) rfl (tk_0 hn rfl) (ts_556 hR hn (x := t'.1 0) rfl (cI_mk ⟨rfl, rfl⟩)) ?_ (fun _ _ _ z => z.elim)
  rintro _ _ ⟨rfl, rfl⟩
  rw [hI.mv SDa.rf t']
  have hI := hI.tw SDa.rf t'
  refine lQ.loadI (cLg 2696 rfl) rfl ?_
  refine lQ.cmpT (cLg 2697 rfl) (decide_eq_true th) ?_
  refine lQ.loadI (cLg 2700 rfl) rfl ?_
  by_cases hk : kk = 0
  · refine lQ.ifF (cLg 2701 rfl) (decide_eq_false (fun z => z hk)) ?_
    have hv := ov _ hk rfl
    have g3 := LV_out hI.1 f3 hv
    refine lQ.loadN (cLg 2702 rfl) rfl ?_
    refine lQ.push (cLg 2703 rfl) ?_
    refine lQ.ald hR (cLg 2704 rfl) g3 ?_
    refine lQ.loadI (cLg 2705 rfl) rfl ?_
    refine lQ.i2l (cLg 2706 rfl) ?_
    refine lQ.lcmp (cLg 2707 rfl) ?_
    refine lQ.ifT (cLg 2708 rfl) (decide_eq_true (lg_cmp_rf _)) ?_
    refine lQ.goto (cLg 2711 rfl) ?_
    exact lQ.sub (LLs (by rfl) (by rfl) (by rfl) (by rfl) (by rfl)) (k _ _ _ _ _ _ _ _ hn ⟨hI, r', f1, f3⟩ kK kc ks ((k1_640 K1N.rf).2 _ d1).2)
  · refine lQ.ifT (cLg 2701 rfl) (decide_eq_true hk) ?_
    refine lQ.goto (cLg 2711 rfl) ?_
    exact lQ.sub (LLs (by rfl) (by rfl) (by rfl) (by rfl) (by rfl)) (k _ _ _ _ _ _ _ _ hn ⟨hI, r', f1, f3⟩ kK kc ks ((k1_640 K1N.rf).2 _ d1).2)
theorem lc_order (hR : lRok R) (hJ : JAll R E) (hn : tOk ad) (hn8 : n ≤ 448) (hi : i + 7 ≤ n) (h : LV E ad b n f h1 o1 o y s A own t K N) (hK : K < 900) (hc : s.2.2.1 < 3800000000) (k : LK R E b n f h1 o1 o i s own t K N 1001 60006 Z) : lQ R E 1625 cd_L 2712 (LL ad b h1 o1 i) [] (cp y s A) Z := by
  obtain ⟨hI, r, f1, f3⟩ := h
  obtain ⟨kk, S, x, t', own', K', N', c1, d1, th, ov, r', kK, kc, ks⟩ := lwa_order r 
  refine lQ.loadN (cLg 2712 rfl) rfl ?_
  refine lQ.loadN (cLg 2713 rfl) rfl ?_
  refine lQ.callG (args := [.ref h1, .ref o1]) (r := []) hR (cLg 2714 rfl) rfl rfl (Nat.le_of_ble_eq_true rfl) (Nat.le_of_ble_eq_true rfl) (cs_368 hR hJ hI.1 (w0 := some h1) (w1 := some o1) f1 f3 c1) ?_ (fun _ _ _ z => by cases z.1)
  rintro _ _ ⟨e_, y, A, hW, hX, rfl⟩
  cases e_
  have f1 := hX.1 _ _ f1
  have f3 := hX.1 _ _ f3
  have hI := hI.ext hW hX
  refine lQ.stI (cLg 2715 rfl) (lN2s rfl rfl) ?_
  refine lQ.loadN (cLg 2716 rfl) rfl ?_
  rw [hI.sw]
  refine lQ.callVI (F := fun z B => x = z ∧ B = tp ad t' (cp y S A)) (G := fun _ _ => False) (args := [.ref (adr ad 0)]) (r := []) hR (cLg 2717 rfl) rfl rfl (Nat.le_of_ble_eq_true rfl) (Nat.le_of_ble_eq_true rfl) rfl (tk_0 hn rfl) (ts_641 hR hn d1 (cI_mk ⟨rfl, rfl⟩)) ?_ (fun _ _ _ z => z.elim)
  rintro _ _ ⟨rfl, rfl⟩
  refine lQ.stI (cLg 2718 rfl) (lN2s rfl rfl) ?_
  refine lQ.loadN (cLg 2719 rfl) rfl ?_
  refine lQ.callVI (F := fun z B => t'.1 0 = z ∧ B = tp ad t' (cp y S A)) (G := fun _ _ => False) (args := [.ref (adr ad 0)]) (r := []) hR (cLg 2720 rfl) rfl rfl (Nat.le_of_ble_eq_true rfl) (Nat.le_of_ble_eq_true rfl) rfl (tk_0 hn rfl) (ts_556 hR hn (x := t'.1 0) rfl (cI_mk ⟨rfl, rfl⟩)) ?_ (fun _ _ _ z => z.elim)
  rintro _ _ ⟨rfl, rfl⟩
  rw [hI.mv SDa.rf t']
  have hI := hI.tw SDa.rf t'
  refine lQ.loadI (cLg 2721 rfl) rfl ?_
  refine lQ.cmpT (cLg 2722 rfl) (decide_eq_true th) ?_
  refine lQ.loadI (cLg 2725 rfl) rfl ?_
  by_cases hk : kk = 0
  · refine lQ.ifF (cLg 2726 rfl) (decide_eq_false (fun z => z hk)) ?_
    have hv := ov _ hk rfl
    have g3 := LV_out hI.1 f3 hv
    refine lQ.loadN (cLg 2727 rfl) rfl ?_
    refine lQ.push (cLg 2728 rfl) ?_
    refine lQ.ald hR (cLg 2729 rfl) g3 ?_
    refine lQ.loadI (cLg 2730 rfl) rfl ?_
    refine lQ.i2l (cLg 2731 rfl) ?_
    refine lQ.lcmp (cLg 2732 rfl) ?_
    refine lQ.ifT (cLg 2733 rfl) (decide_eq_true (lg_cmp_rf _)) ?_
    refine lQ.goto (cLg 2736 rfl) ?_
    exact lQ.sub (LLs (by rfl) (by rfl) (by rfl) (by rfl) (by rfl)) (k _ _ _ _ _ _ _ _ hn ⟨hI, r', f1, f3⟩ kK kc ks ((k1_641 K1N.rf).2 _ d1).2)
  · refine lQ.ifT (cLg 2726 rfl) (decide_eq_true hk) ?_
    refine lQ.goto (cLg 2736 rfl) ?_
    exact lQ.sub (LLs (by rfl) (by rfl) (by rfl) (by rfl) (by rfl)) (k _ _ _ _ _ _ _ _ hn ⟨hI, r', f1, f3⟩ kK kc ks ((k1_641 K1N.rf).2 _ d1).2)
theorem lc_out (hR : lRok R) (hJ : JAll R E) (hn : tOk ad) (hn8 : n ≤ 448) (hi : i + 7 ≤ n) (h : LV E ad b n f h1 o1 o y s A own t K N) (hK : K < 900) (hc : s.2.2.1 < 3800000000) (k : LK R E b n f h1 o1 o i s own t K N 1001 60006 Z) : lQ R E 1625 cd_L 2737 (LL ad b h1 o1 i) [] (cp y s A) Z := by
  obtain ⟨hI, r, f1, f3⟩ := h
  obtain ⟨kk, S, x, t', own', K', N', c1, d1, th, ov, r', kK, kc, ks⟩ := lwa_out r (f (i + 1)) (f (i + 2))
  refine lQ.loadN (cLg 2737 rfl) rfl ?_
  refine lQ.loadN (cLg 2738 rfl) rfl ?_
  refine lQ.loadI (cLg 2739 rfl) rfl ?_
  refine lQ.push (cLg 2740 rfl) ?_
  refine lQ.binI (cLg 2741 rfl) ?_
  refine lQ.ald hR (cLg 2742 rfl) (hI.scr hn8 1 (by omega)) ?_
  refine lQ.loadN (cLg 2743 rfl) rfl ?_
  refine lQ.loadI (cLg 2744 rfl) rfl ?_
  refine lQ.push (cLg 2745 rfl) ?_
  refine lQ.binI (cLg 2746 rfl) ?_
  refine lQ.ald hR (cLg 2747 rfl) (hI.scr hn8 2 (by omega)) ?_
  refine lQ.loadN (cLg 2748 rfl) rfl ?_
  refine lQ.callG (args := [.ref h1, .int (f (i + 1)), .int (f (i + 2)), .ref o1]) (r := []) hR (cLg 2749 rfl) rfl rfl (Nat.le_of_ble_eq_true rfl) (Nat.le_of_ble_eq_true rfl) (cs_369 hR hJ hI.1 (w0 := some h1) (w3 := some o1) f1 f3 c1) ?_ (fun _ _ _ z => by cases z.1)
  rintro _ _ ⟨e_, y, A, hW, hX, rfl⟩
  cases e_
  have f1 := hX.1 _ _ f1
  have f3 := hX.1 _ _ f3
  have hI := hI.ext hW hX
  refine lQ.stI (cLg 2750 rfl) (lN2s rfl rfl) ?_
  refine lQ.loadN (cLg 2751 rfl) rfl ?_
  refine lQ.loadN (cLg 2752 rfl) rfl ?_
  refine lQ.loadI (cLg 2753 rfl) rfl ?_
  refine lQ.push (cLg 2754 rfl) ?_
  refine lQ.binI (cLg 2755 rfl) ?_
  refine lQ.ald hR (cLg 2756 rfl) (hI.scr hn8 1 (by omega)) ?_
  refine lQ.loadN (cLg 2757 rfl) rfl ?_
  refine lQ.loadI (cLg 2758 rfl) rfl ?_
  refine lQ.push (cLg 2759 rfl) ?_
  refine lQ.binI (cLg 2760 rfl) ?_
  refine lQ.ald hR (cLg 2761 rfl) (hI.scr hn8 2 (by omega)) ?_
  rw [hI.sw]
  refine lQ.callVI (F := fun z B => x = z ∧ B = tp ad t' (cp y S A)) (G := fun _ _ => False) (args := [.ref (adr ad 0), .int (f (i + 1)), .int (f (i + 2))]) (r := []) hR (cLg 2762 rfl) rfl rfl (Nat.le_of_ble_eq_true rfl) (Nat.le_of_ble_eq_true rfl) rfl (tk_0 hn rfl) (ts_642 hR hn d1 (cI_mk ⟨rfl, rfl⟩)) ?_ (fun _ _ _ z => z.elim)
  rintro _ _ ⟨rfl, rfl⟩
  refine lQ.stI (cLg 2763 rfl) (lN2s rfl rfl) ?_
  refine lQ.loadN (cLg 2764 rfl) rfl ?_
  refine lQ.callVI (F := fun z B => t'.1 0 = z ∧ B = tp ad t' (cp y S A)) (G := fun _ _ => False) (args := [.ref (adr ad 0)]) (r := []) hR (cLg 2765 rfl) rfl rfl (Nat.le_of_ble_eq_true rfl) (Nat.le_of_ble_eq_true rfl) rfl (tk_0 hn rfl) (ts_556 hR hn (x := t'.1 0) rfl (cI_mk ⟨rfl, rfl⟩)) ?_ (fun _ _ _ z => z.elim)
  rintro _ _ ⟨rfl, rfl⟩
  rw [hI.mv SDa.rf t']
  have hI := hI.tw SDa.rf t'
  refine lQ.loadI (cLg 2766 rfl) rfl ?_
  refine lQ.cmpT (cLg 2767 rfl) (decide_eq_true th) ?_
  refine lQ.loadI (cLg 2770 rfl) rfl ?_
  by_cases hk : kk = 0
  · refine lQ.ifF (cLg 2771 rfl) (decide_eq_false (fun z => z hk)) ?_
    have hv := ov _ hk rfl
    have g3 := LV_out hI.1 f3 hv
    refine lQ.loadN (cLg 2772 rfl) rfl ?_
    refine lQ.push (cLg 2773 rfl) ?_
    refine lQ.ald hR (cLg 2774 rfl) g3 ?_
    refine lQ.loadI (cLg 2775 rfl) rfl ?_
    refine lQ.i2l (cLg 2776 rfl) ?_
    refine lQ.lcmp (cLg 2777 rfl) ?_
    refine lQ.ifT (cLg 2778 rfl) (decide_eq_true (lg_cmp_rf _)) ?_
    refine lQ.goto (cLg 2781 rfl) ?_
    exact lQ.sub (LLs (by rfl) (by rfl) (by rfl) (by rfl) (by rfl)) (k _ _ _ _ _ _ _ _ hn ⟨hI, r', f1, f3⟩ kK kc ks ((k1_642 K1N.rf).2 _ d1).2)
  · refine lQ.ifT (cLg 2771 rfl) (decide_eq_true hk) ?_
    refine lQ.goto (cLg 2781 rfl) ?_
    exact lQ.sub (LLs (by rfl) (by rfl) (by rfl) (by rfl) (by rfl)) (k _ _ _ _ _ _ _ _ hn ⟨hI, r', f1, f3⟩ kK kc ks ((k1_642 K1N.rf).2 _ d1).2)
theorem lc_failed (hR : lRok R) (hJ : JAll R E) (hn : tOk ad) (hn8 : n ≤ 448) (hi : i + 7 ≤ n) (h : LV E ad b n f h1 o1 o y s A own t K N) (hK : K < 900) (hc : s.2.2.1 < 3800000000) (k : LK R E b n f h1 o1 o i s own t K N 501 30006 Z) : lQ R E 1625 cd_L 2782 (LL ad b h1 o1 i) [] (cp y s A) Z := by
  obtain ⟨hI, r, f1, f3⟩ := h
  obtain ⟨kk, S, x, t', own', K', N', c1, d1, th, ov, r', kK, kc, ks⟩ := lwa_failed r (f (i + 1))
  refine lQ.loadN (cLg 2782 rfl) rfl ?_
  refine lQ.loadN (cLg 2783 rfl) rfl ?_
  refine lQ.loadI (cLg 2784 rfl) rfl ?_
  refine lQ.push (cLg 2785 rfl) ?_
  refine lQ.binI (cLg 2786 rfl) ?_
  refine lQ.ald hR (cLg 2787 rfl) (hI.scr hn8 1 (by omega)) ?_
  refine lQ.loadN (cLg 2788 rfl) rfl ?_
  refine lQ.callG (args := [.ref h1, .int (f (i + 1)), .ref o1]) (r := []) hR (cLg 2789 rfl) rfl rfl (Nat.le_of_ble_eq_true rfl) (Nat.le_of_ble_eq_true rfl) (cs_370 hR hJ hI.1 (w0 := some h1) (w2 := some o1) f1 f3 c1) ?_ (fun _ _ _ z => by cases z.1)
  rintro _ _ ⟨e_, y, A, hW, hX, rfl⟩
  cases e_
  have f1 := hX.1 _ _ f1
  have f3 := hX.1 _ _ f3
  have hI := hI.ext hW hX
  refine lQ.stI (cLg 2790 rfl) (lN2s rfl rfl) ?_
  refine lQ.loadN (cLg 2791 rfl) rfl ?_
  refine lQ.loadN (cLg 2792 rfl) rfl ?_
  refine lQ.loadI (cLg 2793 rfl) rfl ?_
  refine lQ.push (cLg 2794 rfl) ?_
  refine lQ.binI (cLg 2795 rfl) ?_
  refine lQ.ald hR (cLg 2796 rfl) (hI.scr hn8 1 (by omega)) ?_
  rw [hI.sw]
  refine lQ.callVI (F := fun z B => x = z ∧ B = tp ad t' (cp y S A)) (G := fun _ _ => False) (args := [.ref (adr ad 0), .int (f (i + 1))]) (r := []) hR (cLg 2797 rfl) rfl rfl (Nat.le_of_ble_eq_true rfl) (Nat.le_of_ble_eq_true rfl) rfl (tk_0 hn rfl) (ts_643 hR hn d1 (cI_mk ⟨rfl, rfl⟩)) ?_ (fun _ _ _ z => z.elim)
  rintro _ _ ⟨rfl, rfl⟩
  refine lQ.stI (cLg 2798 rfl) (lN2s rfl rfl) ?_
  refine lQ.loadN (cLg 2799 rfl) rfl ?_
  refine lQ.callVI (F := fun z B => t'.1 0 = z ∧ B = tp ad t' (cp y S A)) (G := fun _ _ => False) (args := [.ref (adr ad 0)]) (r := []) hR (cLg 2800 rfl) rfl rfl (Nat.le_of_ble_eq_true rfl) (Nat.le_of_ble_eq_true rfl) rfl (tk_0 hn rfl) (ts_556 hR hn (x := t'.1 0) rfl (cI_mk ⟨rfl, rfl⟩)) ?_ (fun _ _ _ z => z.elim)
  rintro _ _ ⟨rfl, rfl⟩
  rw [hI.mv SDa.rf t']
  have hI := hI.tw SDa.rf t'
  refine lQ.loadI (cLg 2801 rfl) rfl ?_
  refine lQ.cmpT (cLg 2802 rfl) (decide_eq_true th) ?_
  refine lQ.loadI (cLg 2805 rfl) rfl ?_
  by_cases hk : kk = 0
  · refine lQ.ifF (cLg 2806 rfl) (decide_eq_false (fun z => z hk)) ?_
    have hv := ov _ hk rfl
    have g3 := LV_out hI.1 f3 hv
    refine lQ.loadN (cLg 2807 rfl) rfl ?_
    refine lQ.push (cLg 2808 rfl) ?_
    refine lQ.ald hR (cLg 2809 rfl) g3 ?_
    refine lQ.loadI (cLg 2810 rfl) rfl ?_
    refine lQ.i2l (cLg 2811 rfl) ?_
    refine lQ.lcmp (cLg 2812 rfl) ?_
    refine lQ.ifT (cLg 2813 rfl) (decide_eq_true (lg_cmp_rf _)) ?_
    refine lQ.goto (cLg 2816 rfl) ?_
    exact lQ.sub (LLs (by rfl) (by rfl) (by rfl) (by rfl) (by rfl)) (k _ _ _ _ _ _ _ _ hn ⟨hI, r', f1, f3⟩ kK kc ks ((k1_643 K1N.rf).2 _ d1).2)
  · refine lQ.ifT (cLg 2806 rfl) (decide_eq_true hk) ?_
    refine lQ.goto (cLg 2816 rfl) ?_
    exact lQ.sub (LLs (by rfl) (by rfl) (by rfl) (by rfl) (by rfl)) (k _ _ _ _ _ _ _ _ hn ⟨hI, r', f1, f3⟩ kK kc ks ((k1_643 K1N.rf).2 _ d1).2)
theorem lc_address (hR : lRok R) (hJ : JAll R E) (hn : tOk ad) (hn8 : n ≤ 448) (hi : i + 7 ≤ n) (h : LV E ad b n f h1 o1 o y s A own t K N) (hK : K < 900) (hc : s.2.2.1 < 3800000000) (k : LK R E b n f h1 o1 o i s own t K N 1 6 Z) : lQ R E 1625 cd_L 2817 (LL ad b h1 o1 i) [] (cp y s A) Z := by
  obtain ⟨hI, r, f1, f3⟩ := h
  obtain ⟨kk, S, x, t', own', K', N', c1, d1, th, ov, r', kK, kc, ks⟩ := lwa_address r (f (i + 1)) (f (i + 2))
  refine lQ.loadN (cLg 2817 rfl) rfl ?_
  refine lQ.loadN (cLg 2818 rfl) rfl ?_
  refine lQ.loadI (cLg 2819 rfl) rfl ?_
  refine lQ.push (cLg 2820 rfl) ?_
  refine lQ.binI (cLg 2821 rfl) ?_
  refine lQ.ald hR (cLg 2822 rfl) (hI.scr hn8 1 (by omega)) ?_
  refine lQ.loadN (cLg 2823 rfl) rfl ?_
  refine lQ.loadI (cLg 2824 rfl) rfl ?_
  refine lQ.push (cLg 2825 rfl) ?_
  refine lQ.binI (cLg 2826 rfl) ?_
  refine lQ.ald hR (cLg 2827 rfl) (hI.scr hn8 2 (by omega)) ?_
  refine lQ.loadN (cLg 2828 rfl) rfl ?_
  refine lQ.callG (args := [.ref h1, .int (f (i + 1)), .int (f (i + 2)), .ref o1]) (r := []) hR (cLg 2829 rfl) rfl rfl (Nat.le_of_ble_eq_true rfl) (Nat.le_of_ble_eq_true rfl) (cs_371 hR hJ hI.1 (w0 := some h1) (w3 := some o1) f1 f3 c1) ?_ (fun _ _ _ z => by cases z.1)
  rintro _ _ ⟨e_, y, A, hW, hX, rfl⟩
  cases e_
  have f1 := hX.1 _ _ f1
  have f3 := hX.1 _ _ f3
  have hI := hI.ext hW hX
  refine lQ.stI (cLg 2830 rfl) (lN2s rfl rfl) ?_
  refine lQ.loadN (cLg 2831 rfl) rfl ?_
  refine lQ.loadN (cLg 2832 rfl) rfl ?_
  refine lQ.loadI (cLg 2833 rfl) rfl ?_
  refine lQ.push (cLg 2834 rfl) ?_
  refine lQ.binI (cLg 2835 rfl) ?_
  refine lQ.ald hR (cLg 2836 rfl) (hI.scr hn8 1 (by omega)) ?_
  refine lQ.loadN (cLg 2837 rfl) rfl ?_
  refine lQ.loadI (cLg 2838 rfl) rfl ?_
  refine lQ.push (cLg 2839 rfl) ?_
  refine lQ.binI (cLg 2840 rfl) ?_
  refine lQ.ald hR (cLg 2841 rfl) (hI.scr hn8 2 (by omega)) ?_
  rw [hI.sw]
  refine lQ.callVI (F := fun z B => x = z ∧ B = tp ad t' (cp y S A)) (G := fun _ _ => False) (args := [.ref (adr ad 0), .int (f (i + 1)), .int (f (i + 2))]) (r := []) hR (cLg 2842 rfl) rfl rfl (Nat.le_of_ble_eq_true rfl) (Nat.le_of_ble_eq_true rfl) rfl (tk_0 hn rfl) (ts_644 hR hn d1 (cI_mk ⟨rfl, rfl⟩)) ?_ (fun _ _ _ z => z.elim)
  rintro _ _ ⟨rfl, rfl⟩
  refine lQ.stI (cLg 2843 rfl) (lN2s rfl rfl) ?_
  refine lQ.loadN (cLg 2844 rfl) rfl ?_
  refine lQ.callVI (F := fun z B => t'.1 0 = z ∧ B = tp ad t' (cp y S A)) (G := fun _ _ => False) (args := [.ref (adr ad 0)]) (r := []) hR (cLg 2845 rfl) rfl rfl (Nat.le_of_ble_eq_true rfl) (Nat.le_of_ble_eq_true rfl) rfl (tk_0 hn rfl) (ts_556 hR hn (x := t'.1 0) rfl (cI_mk ⟨rfl, rfl⟩)) ?_ (fun _ _ _ z => z.elim)
  rintro _ _ ⟨rfl, rfl⟩
  rw [hI.mv SDa.rf t']
  have hI := hI.tw SDa.rf t'
  refine lQ.loadI (cLg 2846 rfl) rfl ?_
  refine lQ.cmpT (cLg 2847 rfl) (decide_eq_true th) ?_
  refine lQ.loadI (cLg 2850 rfl) rfl ?_
  by_cases hk : kk = 0
  · refine lQ.ifF (cLg 2851 rfl) (decide_eq_false (fun z => z hk)) ?_
    have hv := ov _ hk rfl
    have g3 := LV_out hI.1 f3 hv
    refine lQ.loadN (cLg 2852 rfl) rfl ?_
    refine lQ.push (cLg 2853 rfl) ?_
    refine lQ.ald hR (cLg 2854 rfl) g3 ?_
    refine lQ.loadI (cLg 2855 rfl) rfl ?_
    refine lQ.i2l (cLg 2856 rfl) ?_
    refine lQ.lcmp (cLg 2857 rfl) ?_
    refine lQ.ifT (cLg 2858 rfl) (decide_eq_true (lg_cmp_rf _)) ?_
    refine lQ.goto (cLg 2861 rfl) ?_
    exact lQ.sub (LLs (by rfl) (by rfl) (by rfl) (by rfl) (by rfl)) (k _ _ _ _ _ _ _ _ hn ⟨hI, r', f1, f3⟩ kK kc ks ((k1_644 K1N.rf).2 _ d1).2)
  · refine lQ.ifT (cLg 2851 rfl) (decide_eq_true hk) ?_
    refine lQ.goto (cLg 2861 rfl) ?_
    exact lQ.sub (LLs (by rfl) (by rfl) (by rfl) (by rfl) (by rfl)) (k _ _ _ _ _ _ _ _ hn ⟨hI, r', f1, f3⟩ kK kc ks ((k1_644 K1N.rf).2 _ d1).2)
theorem lc_listen (hR : lRok R) (hJ : JAll R E) (hn : tOk ad) (hn8 : n ≤ 448) (hi : i + 7 ≤ n) (h : LV E ad b n f h1 o1 o y s A own t K N) (hK : K < 900) (hc : s.2.2.1 < 3800000000) (k : LK R E b n f h1 o1 o i s own t K N 2 16 Z) : lQ R E 1625 cd_L 2862 (LL ad b h1 o1 i) [] (cp y s A) Z := by
  obtain ⟨hI, r, f1, f3⟩ := h
  by_cases hb : f (i + 3) = 0
  · obtain ⟨kk, S, x, t', own', K', N', c1, d1, th, ov, r', kK, kc, ks⟩ := lwa_listen r (f (i + 1)) (f (i + 2)) 0 (Or.inl rfl)
    refine lQ.loadN (cLg 2862 rfl) rfl ?_
    refine lQ.loadN (cLg 2863 rfl) rfl ?_
    refine lQ.loadI (cLg 2864 rfl) rfl ?_
    refine lQ.push (cLg 2865 rfl) ?_
    refine lQ.binI (cLg 2866 rfl) ?_
    refine lQ.ald hR (cLg 2867 rfl) (hI.scr hn8 1 (by omega)) ?_
    refine lQ.loadN (cLg 2868 rfl) rfl ?_
    refine lQ.loadI (cLg 2869 rfl) rfl ?_
    refine lQ.push (cLg 2870 rfl) ?_
    refine lQ.binI (cLg 2871 rfl) ?_
    refine lQ.ald hR (cLg 2872 rfl) (hI.scr hn8 2 (by omega)) ?_
    refine lQ.loadN (cLg 2873 rfl) rfl ?_
    refine lQ.loadI (cLg 2874 rfl) rfl ?_
    refine lQ.push (cLg 2875 rfl) ?_
    refine lQ.binI (cLg 2876 rfl) ?_
    refine lQ.ald hR (cLg 2877 rfl) (hI.scr hn8 3 (by omega)) ?_
    refine lQ.ifT (cLg 2878 rfl) (decide_eq_true hb) ?_
    refine lQ.push (cLg 2881 rfl) ?_
    refine lQ.loadN (cLg 2882 rfl) rfl ?_
    refine lQ.callG (args := [.ref h1, .int (f (i + 1)), .int (f (i + 2)), .int 0, .ref o1]) (r := []) hR (cLg 2883 rfl) rfl rfl (Nat.le_of_ble_eq_true rfl) (Nat.le_of_ble_eq_true rfl) (cs_372 hR hJ hI.1 (w0 := some h1) (w4 := some o1) f1 f3 c1) ?_ (fun _ _ _ z => by cases z.1)
    rintro _ _ ⟨e_, y, A, hW, hX, rfl⟩
    cases e_
    have f1 := hX.1 _ _ f1
    have f3 := hX.1 _ _ f3
    have hI := hI.ext hW hX
    refine lQ.stI (cLg 2884 rfl) (lN2s rfl rfl) ?_
    refine lQ.loadN (cLg 2885 rfl) rfl ?_
    refine lQ.loadN (cLg 2886 rfl) rfl ?_
    refine lQ.loadI (cLg 2887 rfl) rfl ?_
    refine lQ.push (cLg 2888 rfl) ?_
    refine lQ.binI (cLg 2889 rfl) ?_
    refine lQ.ald hR (cLg 2890 rfl) (hI.scr hn8 1 (by omega)) ?_
    refine lQ.loadN (cLg 2891 rfl) rfl ?_
    refine lQ.loadI (cLg 2892 rfl) rfl ?_
    refine lQ.push (cLg 2893 rfl) ?_
    refine lQ.binI (cLg 2894 rfl) ?_
    refine lQ.ald hR (cLg 2895 rfl) (hI.scr hn8 2 (by omega)) ?_
    refine lQ.loadN (cLg 2896 rfl) rfl ?_
    refine lQ.loadI (cLg 2897 rfl) rfl ?_
    refine lQ.push (cLg 2898 rfl) ?_
    refine lQ.binI (cLg 2899 rfl) ?_
    refine lQ.ald hR (cLg 2900 rfl) (hI.scr hn8 3 (by omega)) ?_
    refine lQ.ifT (cLg 2901 rfl) (decide_eq_true hb) ?_
    refine lQ.push (cLg 2904 rfl) ?_
    rw [hI.sw]
    refine lQ.callVI (F := fun z B => x = z ∧ B = tp ad t' (cp y S A)) (G := fun _ _ => False) (args := [.ref (adr ad 0), .int (f (i + 1)), .int (f (i + 2)), .int 0]) (r := []) hR (cLg 2905 rfl) rfl rfl (Nat.le_of_ble_eq_true rfl) (Nat.le_of_ble_eq_true rfl) rfl (tk_0 hn rfl) (ts_645 hR hn d1 (cI_mk ⟨rfl, rfl⟩)) ?_ (fun _ _ _ z => z.elim)
    rintro _ _ ⟨rfl, rfl⟩
    refine lQ.stI (cLg 2906 rfl) (lN2s rfl rfl) ?_
    refine lQ.loadN (cLg 2907 rfl) rfl ?_
    refine lQ.callVI (F := fun z B => t'.1 0 = z ∧ B = tp ad t' (cp y S A)) (G := fun _ _ => False) (args := [.ref (adr ad 0)]) (r := []) hR (cLg 2908 rfl) rfl rfl (Nat.le_of_ble_eq_true rfl) (Nat.le_of_ble_eq_true rfl) rfl (tk_0 hn rfl) (ts_556 hR hn (x := t'.1 0) rfl (cI_mk ⟨rfl, rfl⟩)) ?_ (fun _ _ _ z => z.elim)
    rintro _ _ ⟨rfl, rfl⟩
    rw [hI.mv SDa.rf t']
    have hI := hI.tw SDa.rf t'
    refine lQ.loadI (cLg 2909 rfl) rfl ?_
    refine lQ.cmpT (cLg 2910 rfl) (decide_eq_true th) ?_
    refine lQ.loadI (cLg 2913 rfl) rfl ?_
    by_cases hk : kk = 0
    · refine lQ.ifF (cLg 2914 rfl) (decide_eq_false (fun z => z hk)) ?_
      have hv := ov _ hk rfl
      have g3 := LV_out hI.1 f3 hv
      refine lQ.loadN (cLg 2915 rfl) rfl ?_
      refine lQ.push (cLg 2916 rfl) ?_
      refine lQ.ald hR (cLg 2917 rfl) g3 ?_
      refine lQ.loadI (cLg 2918 rfl) rfl ?_
      by_cases hx : x = 0
      · refine lQ.ifT (cLg 2919 rfl) (decide_eq_true hx) ?_
        refine lQ.push (cLg 2922 rfl) ?_
        rw [if_pos hx]
        refine lQ.lcmp (cLg 2923 rfl) ?_
        refine lQ.ifT (cLg 2924 rfl) (decide_eq_true (lg_cmp_rf _)) ?_
        refine lQ.goto (cLg 2927 rfl) ?_
        exact lQ.sub (LLs (by rfl) (by rfl) (by rfl) (by rfl) (by rfl)) (k _ _ _ _ _ _ _ _ hn ⟨hI, r', f1, f3⟩ kK kc ks ((k1_645 K1N.rf).2 _ d1).2)
      · refine lQ.ifF (cLg 2919 rfl) (decide_eq_false hx) ?_
        refine lQ.push (cLg 2920 rfl) ?_
        refine lQ.goto (cLg 2921 rfl) ?_
        rw [if_neg hx]
        refine lQ.lcmp (cLg 2923 rfl) ?_
        refine lQ.ifT (cLg 2924 rfl) (decide_eq_true (lg_cmp_rf _)) ?_
        refine lQ.goto (cLg 2927 rfl) ?_
        exact lQ.sub (LLs (by rfl) (by rfl) (by rfl) (by rfl) (by rfl)) (k _ _ _ _ _ _ _ _ hn ⟨hI, r', f1, f3⟩ kK kc ks ((k1_645 K1N.rf).2 _ d1).2)
    · refine lQ.ifT (cLg 2914 rfl) (decide_eq_true hk) ?_
      refine lQ.goto (cLg 2927 rfl) ?_
      exact lQ.sub (LLs (by rfl) (by rfl) (by rfl) (by rfl) (by rfl)) (k _ _ _ _ _ _ _ _ hn ⟨hI, r', f1, f3⟩ kK kc ks ((k1_645 K1N.rf).2 _ d1).2)
  · obtain ⟨kk, S, x, t', own', K', N', c1, d1, th, ov, r', kK, kc, ks⟩ := lwa_listen r (f (i + 1)) (f (i + 2)) 1 (Or.inr rfl)
    refine lQ.loadN (cLg 2862 rfl) rfl ?_
    refine lQ.loadN (cLg 2863 rfl) rfl ?_
    refine lQ.loadI (cLg 2864 rfl) rfl ?_
    refine lQ.push (cLg 2865 rfl) ?_
    refine lQ.binI (cLg 2866 rfl) ?_
    refine lQ.ald hR (cLg 2867 rfl) (hI.scr hn8 1 (by omega)) ?_
    refine lQ.loadN (cLg 2868 rfl) rfl ?_
    refine lQ.loadI (cLg 2869 rfl) rfl ?_
    refine lQ.push (cLg 2870 rfl) ?_
    refine lQ.binI (cLg 2871 rfl) ?_
    refine lQ.ald hR (cLg 2872 rfl) (hI.scr hn8 2 (by omega)) ?_
    refine lQ.loadN (cLg 2873 rfl) rfl ?_
    refine lQ.loadI (cLg 2874 rfl) rfl ?_
    refine lQ.push (cLg 2875 rfl) ?_
    refine lQ.binI (cLg 2876 rfl) ?_
    refine lQ.ald hR (cLg 2877 rfl) (hI.scr hn8 3 (by omega)) ?_
    refine lQ.ifF (cLg 2878 rfl) (decide_eq_false hb) ?_
    refine lQ.push (cLg 2879 rfl) ?_
    refine lQ.goto (cLg 2880 rfl) ?_
    refine lQ.loadN (cLg 2882 rfl) rfl ?_
    refine lQ.callG (args := [.ref h1, .int (f (i + 1)), .int (f (i + 2)), .int 1, .ref o1]) (r := []) hR (cLg 2883 rfl) rfl rfl (Nat.le_of_ble_eq_true rfl) (Nat.le_of_ble_eq_true rfl) (cs_372 hR hJ hI.1 (w0 := some h1) (w4 := some o1) f1 f3 c1) ?_ (fun _ _ _ z => by cases z.1)
    rintro _ _ ⟨e_, y, A, hW, hX, rfl⟩
    cases e_
    have f1 := hX.1 _ _ f1
    have f3 := hX.1 _ _ f3
    have hI := hI.ext hW hX
    refine lQ.stI (cLg 2884 rfl) (lN2s rfl rfl) ?_
    refine lQ.loadN (cLg 2885 rfl) rfl ?_
    refine lQ.loadN (cLg 2886 rfl) rfl ?_
    refine lQ.loadI (cLg 2887 rfl) rfl ?_
    refine lQ.push (cLg 2888 rfl) ?_
    refine lQ.binI (cLg 2889 rfl) ?_
    refine lQ.ald hR (cLg 2890 rfl) (hI.scr hn8 1 (by omega)) ?_
    refine lQ.loadN (cLg 2891 rfl) rfl ?_
    refine lQ.loadI (cLg 2892 rfl) rfl ?_
    refine lQ.push (cLg 2893 rfl) ?_
    refine lQ.binI (cLg 2894 rfl) ?_
    refine lQ.ald hR (cLg 2895 rfl) (hI.scr hn8 2 (by omega)) ?_
    refine lQ.loadN (cLg 2896 rfl) rfl ?_
    refine lQ.loadI (cLg 2897 rfl) rfl ?_
    refine lQ.push (cLg 2898 rfl) ?_
    refine lQ.binI (cLg 2899 rfl) ?_
    refine lQ.ald hR (cLg 2900 rfl) (hI.scr hn8 3 (by omega)) ?_
    refine lQ.ifF (cLg 2901 rfl) (decide_eq_false hb) ?_
    refine lQ.push (cLg 2902 rfl) ?_
    refine lQ.goto (cLg 2903 rfl) ?_
    rw [hI.sw]
    refine lQ.callVI (F := fun z B => x = z ∧ B = tp ad t' (cp y S A)) (G := fun _ _ => False) (args := [.ref (adr ad 0), .int (f (i + 1)), .int (f (i + 2)), .int 1]) (r := []) hR (cLg 2905 rfl) rfl rfl (Nat.le_of_ble_eq_true rfl) (Nat.le_of_ble_eq_true rfl) rfl (tk_0 hn rfl) (ts_645 hR hn d1 (cI_mk ⟨rfl, rfl⟩)) ?_ (fun _ _ _ z => z.elim)
    rintro _ _ ⟨rfl, rfl⟩
    refine lQ.stI (cLg 2906 rfl) (lN2s rfl rfl) ?_
    refine lQ.loadN (cLg 2907 rfl) rfl ?_
    refine lQ.callVI (F := fun z B => t'.1 0 = z ∧ B = tp ad t' (cp y S A)) (G := fun _ _ => False) (args := [.ref (adr ad 0)]) (r := []) hR (cLg 2908 rfl) rfl rfl (Nat.le_of_ble_eq_true rfl) (Nat.le_of_ble_eq_true rfl) rfl (tk_0 hn rfl) (ts_556 hR hn (x := t'.1 0) rfl (cI_mk ⟨rfl, rfl⟩)) ?_ (fun _ _ _ z => z.elim)
    rintro _ _ ⟨rfl, rfl⟩
    rw [hI.mv SDa.rf t']
    have hI := hI.tw SDa.rf t'
    refine lQ.loadI (cLg 2909 rfl) rfl ?_
    refine lQ.cmpT (cLg 2910 rfl) (decide_eq_true th) ?_
    refine lQ.loadI (cLg 2913 rfl) rfl ?_
    by_cases hk : kk = 0
    · refine lQ.ifF (cLg 2914 rfl) (decide_eq_false (fun z => z hk)) ?_
      have hv := ov _ hk rfl
      have g3 := LV_out hI.1 f3 hv
      refine lQ.loadN (cLg 2915 rfl) rfl ?_
      refine lQ.push (cLg 2916 rfl) ?_
      refine lQ.ald hR (cLg 2917 rfl) g3 ?_
      refine lQ.loadI (cLg 2918 rfl) rfl ?_
      by_cases hx : x = 0
      · refine lQ.ifT (cLg 2919 rfl) (decide_eq_true hx) ?_
        refine lQ.push (cLg 2922 rfl) ?_
        rw [if_pos hx]
        refine lQ.lcmp (cLg 2923 rfl) ?_
        refine lQ.ifT (cLg 2924 rfl) (decide_eq_true (lg_cmp_rf _)) ?_
        refine lQ.goto (cLg 2927 rfl) ?_
        exact lQ.sub (LLs (by rfl) (by rfl) (by rfl) (by rfl) (by rfl)) (k _ _ _ _ _ _ _ _ hn ⟨hI, r', f1, f3⟩ kK kc ks ((k1_645 K1N.rf).2 _ d1).2)
      · refine lQ.ifF (cLg 2919 rfl) (decide_eq_false hx) ?_
        refine lQ.push (cLg 2920 rfl) ?_
        refine lQ.goto (cLg 2921 rfl) ?_
        rw [if_neg hx]
        refine lQ.lcmp (cLg 2923 rfl) ?_
        refine lQ.ifT (cLg 2924 rfl) (decide_eq_true (lg_cmp_rf _)) ?_
        refine lQ.goto (cLg 2927 rfl) ?_
        exact lQ.sub (LLs (by rfl) (by rfl) (by rfl) (by rfl) (by rfl)) (k _ _ _ _ _ _ _ _ hn ⟨hI, r', f1, f3⟩ kK kc ks ((k1_645 K1N.rf).2 _ d1).2)
    · refine lQ.ifT (cLg 2914 rfl) (decide_eq_true hk) ?_
      refine lQ.goto (cLg 2927 rfl) ?_
      exact lQ.sub (LLs (by rfl) (by rfl) (by rfl) (by rfl) (by rfl)) (k _ _ _ _ _ _ _ _ hn ⟨hI, r', f1, f3⟩ kK kc ks ((k1_645 K1N.rf).2 _ d1).2)
theorem lc_busy (hR : lRok R) (hJ : JAll R E) (hn : tOk ad) (hn8 : n ≤ 448) (hi : i + 7 ≤ n) (h : LV E ad b n f h1 o1 o y s A own t K N) (hK : K < 900) (hc : s.2.2.1 < 3800000000) (k : LK R E b n f h1 o1 o i s own t K N 1 6 Z) : lQ R E 1625 cd_L 2928 (LL ad b h1 o1 i) [] (cp y s A) Z := by
  obtain ⟨hI, r, f1, f3⟩ := h
  by_cases hb : f (i + 2) = 0
  · obtain ⟨kk, S, x, t', own', K', N', c1, d1, th, ov, r', kK, kc, ks⟩ := lwa_busy r (f (i + 1)) 0 (Or.inl rfl)
    refine lQ.loadN (cLg 2928 rfl) rfl ?_
    refine lQ.loadN (cLg 2929 rfl) rfl ?_
    refine lQ.loadI (cLg 2930 rfl) rfl ?_
    refine lQ.push (cLg 2931 rfl) ?_
    refine lQ.binI (cLg 2932 rfl) ?_
    refine lQ.ald hR (cLg 2933 rfl) (hI.scr hn8 1 (by omega)) ?_
    refine lQ.loadN (cLg 2934 rfl) rfl ?_
    refine lQ.loadI (cLg 2935 rfl) rfl ?_
    refine lQ.push (cLg 2936 rfl) ?_
    refine lQ.binI (cLg 2937 rfl) ?_
    refine lQ.ald hR (cLg 2938 rfl) (hI.scr hn8 2 (by omega)) ?_
    refine lQ.ifT (cLg 2939 rfl) (decide_eq_true hb) ?_
    refine lQ.push (cLg 2942 rfl) ?_
    refine lQ.loadN (cLg 2943 rfl) rfl ?_
    refine lQ.callG (args := [.ref h1, .int (f (i + 1)), .int 0, .ref o1]) (r := []) hR (cLg 2944 rfl) rfl rfl (Nat.le_of_ble_eq_true rfl) (Nat.le_of_ble_eq_true rfl) (cs_373 hR hJ hI.1 (w0 := some h1) (w3 := some o1) f1 f3 c1) ?_ (fun _ _ _ z => by cases z.1)
    rintro _ _ ⟨e_, y, A, hW, hX, rfl⟩
    cases e_
    have f1 := hX.1 _ _ f1
    have f3 := hX.1 _ _ f3
    have hI := hI.ext hW hX
    refine lQ.stI (cLg 2945 rfl) (lN2s rfl rfl) ?_
    refine lQ.loadN (cLg 2946 rfl) rfl ?_
    refine lQ.loadN (cLg 2947 rfl) rfl ?_
    refine lQ.loadI (cLg 2948 rfl) rfl ?_
    refine lQ.push (cLg 2949 rfl) ?_
    refine lQ.binI (cLg 2950 rfl) ?_
    refine lQ.ald hR (cLg 2951 rfl) (hI.scr hn8 1 (by omega)) ?_
    refine lQ.loadN (cLg 2952 rfl) rfl ?_
    refine lQ.loadI (cLg 2953 rfl) rfl ?_
    refine lQ.push (cLg 2954 rfl) ?_
    refine lQ.binI (cLg 2955 rfl) ?_
    refine lQ.ald hR (cLg 2956 rfl) (hI.scr hn8 2 (by omega)) ?_
    refine lQ.ifT (cLg 2957 rfl) (decide_eq_true hb) ?_
    refine lQ.push (cLg 2960 rfl) ?_
    rw [hI.sw]
    refine lQ.callVI (F := fun z B => x = z ∧ B = tp ad t' (cp y S A)) (G := fun _ _ => False) (args := [.ref (adr ad 0), .int (f (i + 1)), .int 0]) (r := []) hR (cLg 2961 rfl) rfl rfl (Nat.le_of_ble_eq_true rfl) (Nat.le_of_ble_eq_true rfl) rfl (tk_0 hn rfl) (ts_646 hR hn d1 (cI_mk ⟨rfl, rfl⟩)) ?_ (fun _ _ _ z => z.elim)
    rintro _ _ ⟨rfl, rfl⟩
    refine lQ.stI (cLg 2962 rfl) (lN2s rfl rfl) ?_
    refine lQ.loadN (cLg 2963 rfl) rfl ?_
    refine lQ.callVI (F := fun z B => t'.1 0 = z ∧ B = tp ad t' (cp y S A)) (G := fun _ _ => False) (args := [.ref (adr ad 0)]) (r := []) hR (cLg 2964 rfl) rfl rfl (Nat.le_of_ble_eq_true rfl) (Nat.le_of_ble_eq_true rfl) rfl (tk_0 hn rfl) (ts_556 hR hn (x := t'.1 0) rfl (cI_mk ⟨rfl, rfl⟩)) ?_ (fun _ _ _ z => z.elim)
    rintro _ _ ⟨rfl, rfl⟩
    rw [hI.mv SDa.rf t']
    have hI := hI.tw SDa.rf t'
    refine lQ.loadI (cLg 2965 rfl) rfl ?_
    refine lQ.cmpT (cLg 2966 rfl) (decide_eq_true th) ?_
    refine lQ.loadI (cLg 2969 rfl) rfl ?_
    by_cases hk : kk = 0
    · refine lQ.ifF (cLg 2970 rfl) (decide_eq_false (fun z => z hk)) ?_
      have hv := ov _ hk rfl
      have g3 := LV_out hI.1 f3 hv
      refine lQ.loadN (cLg 2971 rfl) rfl ?_
      refine lQ.push (cLg 2972 rfl) ?_
      refine lQ.ald hR (cLg 2973 rfl) g3 ?_
      refine lQ.loadI (cLg 2974 rfl) rfl ?_
      by_cases hx : x = 0
      · refine lQ.ifT (cLg 2975 rfl) (decide_eq_true hx) ?_
        refine lQ.push (cLg 2978 rfl) ?_
        rw [if_pos hx]
        refine lQ.lcmp (cLg 2979 rfl) ?_
        refine lQ.ifT (cLg 2980 rfl) (decide_eq_true (lg_cmp_rf _)) ?_
        refine lQ.goto (cLg 2983 rfl) ?_
        exact lQ.sub (LLs (by rfl) (by rfl) (by rfl) (by rfl) (by rfl)) (k _ _ _ _ _ _ _ _ hn ⟨hI, r', f1, f3⟩ kK kc ks ((k1_646 K1N.rf).2 _ d1).2)
      · refine lQ.ifF (cLg 2975 rfl) (decide_eq_false hx) ?_
        refine lQ.push (cLg 2976 rfl) ?_
        refine lQ.goto (cLg 2977 rfl) ?_
        rw [if_neg hx]
        refine lQ.lcmp (cLg 2979 rfl) ?_
        refine lQ.ifT (cLg 2980 rfl) (decide_eq_true (lg_cmp_rf _)) ?_
        refine lQ.goto (cLg 2983 rfl) ?_
        exact lQ.sub (LLs (by rfl) (by rfl) (by rfl) (by rfl) (by rfl)) (k _ _ _ _ _ _ _ _ hn ⟨hI, r', f1, f3⟩ kK kc ks ((k1_646 K1N.rf).2 _ d1).2)
    · refine lQ.ifT (cLg 2970 rfl) (decide_eq_true hk) ?_
      refine lQ.goto (cLg 2983 rfl) ?_
      exact lQ.sub (LLs (by rfl) (by rfl) (by rfl) (by rfl) (by rfl)) (k _ _ _ _ _ _ _ _ hn ⟨hI, r', f1, f3⟩ kK kc ks ((k1_646 K1N.rf).2 _ d1).2)
  · obtain ⟨kk, S, x, t', own', K', N', c1, d1, th, ov, r', kK, kc, ks⟩ := lwa_busy r (f (i + 1)) 1 (Or.inr rfl)
    refine lQ.loadN (cLg 2928 rfl) rfl ?_
    refine lQ.loadN (cLg 2929 rfl) rfl ?_
    refine lQ.loadI (cLg 2930 rfl) rfl ?_
    refine lQ.push (cLg 2931 rfl) ?_
    refine lQ.binI (cLg 2932 rfl) ?_
    refine lQ.ald hR (cLg 2933 rfl) (hI.scr hn8 1 (by omega)) ?_
    refine lQ.loadN (cLg 2934 rfl) rfl ?_
    refine lQ.loadI (cLg 2935 rfl) rfl ?_
    refine lQ.push (cLg 2936 rfl) ?_
    refine lQ.binI (cLg 2937 rfl) ?_
    refine lQ.ald hR (cLg 2938 rfl) (hI.scr hn8 2 (by omega)) ?_
    refine lQ.ifF (cLg 2939 rfl) (decide_eq_false hb) ?_
    refine lQ.push (cLg 2940 rfl) ?_
    refine lQ.goto (cLg 2941 rfl) ?_
    refine lQ.loadN (cLg 2943 rfl) rfl ?_
    refine lQ.callG (args := [.ref h1, .int (f (i + 1)), .int 1, .ref o1]) (r := []) hR (cLg 2944 rfl) rfl rfl (Nat.le_of_ble_eq_true rfl) (Nat.le_of_ble_eq_true rfl) (cs_373 hR hJ hI.1 (w0 := some h1) (w3 := some o1) f1 f3 c1) ?_ (fun _ _ _ z => by cases z.1)
    rintro _ _ ⟨e_, y, A, hW, hX, rfl⟩
    cases e_
    have f1 := hX.1 _ _ f1
    have f3 := hX.1 _ _ f3
    have hI := hI.ext hW hX
    refine lQ.stI (cLg 2945 rfl) (lN2s rfl rfl) ?_
    refine lQ.loadN (cLg 2946 rfl) rfl ?_
    refine lQ.loadN (cLg 2947 rfl) rfl ?_
    refine lQ.loadI (cLg 2948 rfl) rfl ?_
    refine lQ.push (cLg 2949 rfl) ?_
    refine lQ.binI (cLg 2950 rfl) ?_
    refine lQ.ald hR (cLg 2951 rfl) (hI.scr hn8 1 (by omega)) ?_
    refine lQ.loadN (cLg 2952 rfl) rfl ?_
    refine lQ.loadI (cLg 2953 rfl) rfl ?_
    refine lQ.push (cLg 2954 rfl) ?_
    refine lQ.binI (cLg 2955 rfl) ?_
    refine lQ.ald hR (cLg 2956 rfl) (hI.scr hn8 2 (by omega)) ?_
    refine lQ.ifF (cLg 2957 rfl) (decide_eq_false hb) ?_
    refine lQ.push (cLg 2958 rfl) ?_
    refine lQ.goto (cLg 2959 rfl) ?_
    rw [hI.sw]
    refine lQ.callVI (F := fun z B => x = z ∧ B = tp ad t' (cp y S A)) (G := fun _ _ => False) (args := [.ref (adr ad 0), .int (f (i + 1)), .int 1]) (r := []) hR (cLg 2961 rfl) rfl rfl (Nat.le_of_ble_eq_true rfl) (Nat.le_of_ble_eq_true rfl) rfl (tk_0 hn rfl) (ts_646 hR hn d1 (cI_mk ⟨rfl, rfl⟩)) ?_ (fun _ _ _ z => z.elim)
    rintro _ _ ⟨rfl, rfl⟩
    refine lQ.stI (cLg 2962 rfl) (lN2s rfl rfl) ?_
    refine lQ.loadN (cLg 2963 rfl) rfl ?_
    refine lQ.callVI (F := fun z B => t'.1 0 = z ∧ B = tp ad t' (cp y S A)) (G := fun _ _ => False) (args := [.ref (adr ad 0)]) (r := []) hR (cLg 2964 rfl) rfl rfl (Nat.le_of_ble_eq_true rfl) (Nat.le_of_ble_eq_true rfl) rfl (tk_0 hn rfl) (ts_556 hR hn (x := t'.1 0) rfl (cI_mk ⟨rfl, rfl⟩)) ?_ (fun _ _ _ z => z.elim)
    rintro _ _ ⟨rfl, rfl⟩
    rw [hI.mv SDa.rf t']
    have hI := hI.tw SDa.rf t'
    refine lQ.loadI (cLg 2965 rfl) rfl ?_
    refine lQ.cmpT (cLg 2966 rfl) (decide_eq_true th) ?_
    refine lQ.loadI (cLg 2969 rfl) rfl ?_
    by_cases hk : kk = 0
    · refine lQ.ifF (cLg 2970 rfl) (decide_eq_false (fun z => z hk)) ?_
      have hv := ov _ hk rfl
      have g3 := LV_out hI.1 f3 hv
      refine lQ.loadN (cLg 2971 rfl) rfl ?_
      refine lQ.push (cLg 2972 rfl) ?_
      refine lQ.ald hR (cLg 2973 rfl) g3 ?_
      refine lQ.loadI (cLg 2974 rfl) rfl ?_
      by_cases hx : x = 0
      · refine lQ.ifT (cLg 2975 rfl) (decide_eq_true hx) ?_
        refine lQ.push (cLg 2978 rfl) ?_
        rw [if_pos hx]
        refine lQ.lcmp (cLg 2979 rfl) ?_
        refine lQ.ifT (cLg 2980 rfl) (decide_eq_true (lg_cmp_rf _)) ?_
        refine lQ.goto (cLg 2983 rfl) ?_
        exact lQ.sub (LLs (by rfl) (by rfl) (by rfl) (by rfl) (by rfl)) (k _ _ _ _ _ _ _ _ hn ⟨hI, r', f1, f3⟩ kK kc ks ((k1_646 K1N.rf).2 _ d1).2)
      · refine lQ.ifF (cLg 2975 rfl) (decide_eq_false hx) ?_
        refine lQ.push (cLg 2976 rfl) ?_
        refine lQ.goto (cLg 2977 rfl) ?_
        rw [if_neg hx]
        refine lQ.lcmp (cLg 2979 rfl) ?_
        refine lQ.ifT (cLg 2980 rfl) (decide_eq_true (lg_cmp_rf _)) ?_
        refine lQ.goto (cLg 2983 rfl) ?_
        exact lQ.sub (LLs (by rfl) (by rfl) (by rfl) (by rfl) (by rfl)) (k _ _ _ _ _ _ _ _ hn ⟨hI, r', f1, f3⟩ kK kc ks ((k1_646 K1N.rf).2 _ d1).2)
    · refine lQ.ifT (cLg 2970 rfl) (decide_eq_true hk) ?_
      refine lQ.goto (cLg 2983 rfl) ?_
      exact lQ.sub (LLs (by rfl) (by rfl) (by rfl) (by rfl) (by rfl)) (k _ _ _ _ _ _ _ _ hn ⟨hI, r', f1, f3⟩ kK kc ks ((k1_646 K1N.rf).2 _ d1).2)
theorem lc_send (hR : lRok R) (hJ : JAll R E) (hn : tOk ad) (hn8 : n ≤ 448) (hi : i + 7 ≤ n) (h : LV E ad b n f h1 o1 o y s A own t K N) (hK : K < 900) (hc : s.2.2.1 < 3800000000) (k : LK R E b n f h1 o1 o i s own t K N 4 82 Z) : lQ R E 1625 cd_L 2984 (LL ad b h1 o1 i) [] (cp y s A) Z := by
  obtain ⟨hI, r, f1, f3⟩ := h
  by_cases hb : f (i + 4) = 0
  · obtain ⟨kk, S, x, t', own', K', N', c1, d1, th, ov, r', kK, kc, ks⟩ := lwa_send r (f (i + 1)) (f (i + 2)) (f (i + 3)) 0 (f (i + 5)) (f (i + 6))
    refine lQ.loadN (cLg 2984 rfl) rfl ?_
    refine lQ.loadN (cLg 2985 rfl) rfl ?_
    refine lQ.loadI (cLg 2986 rfl) rfl ?_
    refine lQ.push (cLg 2987 rfl) ?_
    refine lQ.binI (cLg 2988 rfl) ?_
    refine lQ.ald hR (cLg 2989 rfl) (hI.scr hn8 1 (by omega)) ?_
    refine lQ.loadN (cLg 2990 rfl) rfl ?_
    refine lQ.loadI (cLg 2991 rfl) rfl ?_
    refine lQ.push (cLg 2992 rfl) ?_
    refine lQ.binI (cLg 2993 rfl) ?_
    refine lQ.ald hR (cLg 2994 rfl) (hI.scr hn8 2 (by omega)) ?_
    refine lQ.loadN (cLg 2995 rfl) rfl ?_
    refine lQ.loadI (cLg 2996 rfl) rfl ?_
    refine lQ.push (cLg 2997 rfl) ?_
    refine lQ.binI (cLg 2998 rfl) ?_
    refine lQ.ald hR (cLg 2999 rfl) (hI.scr hn8 3 (by omega)) ?_
    refine lQ.loadN (cLg 3000 rfl) rfl ?_
    refine lQ.loadI (cLg 3001 rfl) rfl ?_
    refine lQ.push (cLg 3002 rfl) ?_
    refine lQ.binI (cLg 3003 rfl) ?_
    refine lQ.ald hR (cLg 3004 rfl) (hI.scr hn8 4 (by omega)) ?_
    refine lQ.ifT (cLg 3005 rfl) (decide_eq_true hb) ?_
    refine lQ.push (cLg 3008 rfl) ?_
    refine lQ.loadN (cLg 3009 rfl) rfl ?_
    refine lQ.loadI (cLg 3010 rfl) rfl ?_
    refine lQ.push (cLg 3011 rfl) ?_
    refine lQ.binI (cLg 3012 rfl) ?_
    refine lQ.ald hR (cLg 3013 rfl) (hI.scr hn8 5 (by omega)) ?_
    refine lQ.loadN (cLg 3014 rfl) rfl ?_
    refine lQ.loadI (cLg 3015 rfl) rfl ?_
    refine lQ.push (cLg 3016 rfl) ?_
    refine lQ.binI (cLg 3017 rfl) ?_
    refine lQ.ald hR (cLg 3018 rfl) (hI.scr hn8 6 (by omega)) ?_
    refine lQ.loadN (cLg 3019 rfl) rfl ?_
    refine lQ.callG (args := [.ref h1, .int (f (i + 1)), .int (f (i + 2)), .int (f (i + 3)), .int 0, .int (f (i + 5)), .int (f (i + 6)), .ref o1]) (r := []) hR (cLg 3020 rfl) rfl rfl (Nat.le_of_ble_eq_true rfl) (Nat.le_of_ble_eq_true rfl) (cs_374 hR hJ hI.1 (w0 := some h1) (w7 := some o1) f1 f3 c1) ?_ (fun _ _ _ z => by cases z.1)
    rintro _ _ ⟨e_, y, A, hW, hX, rfl⟩
    cases e_
    have f1 := hX.1 _ _ f1
    have f3 := hX.1 _ _ f3
    have hI := hI.ext hW hX
    refine lQ.stI (cLg 3021 rfl) (lN2s rfl rfl) ?_
    refine lQ.loadN (cLg 3022 rfl) rfl ?_
    refine lQ.loadN (cLg 3023 rfl) rfl ?_
    refine lQ.loadI (cLg 3024 rfl) rfl ?_
    refine lQ.push (cLg 3025 rfl) ?_
    refine lQ.binI (cLg 3026 rfl) ?_
    refine lQ.ald hR (cLg 3027 rfl) (hI.scr hn8 1 (by omega)) ?_
    refine lQ.loadN (cLg 3028 rfl) rfl ?_
    refine lQ.loadI (cLg 3029 rfl) rfl ?_
    refine lQ.push (cLg 3030 rfl) ?_
    refine lQ.binI (cLg 3031 rfl) ?_
    refine lQ.ald hR (cLg 3032 rfl) (hI.scr hn8 2 (by omega)) ?_
    refine lQ.loadN (cLg 3033 rfl) rfl ?_
    refine lQ.loadI (cLg 3034 rfl) rfl ?_
    refine lQ.push (cLg 3035 rfl) ?_
    refine lQ.binI (cLg 3036 rfl) ?_
    refine lQ.ald hR (cLg 3037 rfl) (hI.scr hn8 3 (by omega)) ?_
    refine lQ.loadN (cLg 3038 rfl) rfl ?_
    refine lQ.loadI (cLg 3039 rfl) rfl ?_
    refine lQ.push (cLg 3040 rfl) ?_
    refine lQ.binI (cLg 3041 rfl) ?_
    refine lQ.ald hR (cLg 3042 rfl) (hI.scr hn8 4 (by omega)) ?_
    refine lQ.ifT (cLg 3043 rfl) (decide_eq_true hb) ?_
    refine lQ.push (cLg 3046 rfl) ?_
    refine lQ.loadN (cLg 3047 rfl) rfl ?_
    refine lQ.loadI (cLg 3048 rfl) rfl ?_
    refine lQ.push (cLg 3049 rfl) ?_
    refine lQ.binI (cLg 3050 rfl) ?_
    refine lQ.ald hR (cLg 3051 rfl) (hI.scr hn8 5 (by omega)) ?_
    refine lQ.loadN (cLg 3052 rfl) rfl ?_
    refine lQ.loadI (cLg 3053 rfl) rfl ?_
    refine lQ.push (cLg 3054 rfl) ?_
    refine lQ.binI (cLg 3055 rfl) ?_
    refine lQ.ald hR (cLg 3056 rfl) (hI.scr hn8 6 (by omega)) ?_
    rw [hI.sw]
    refine lQ.callVI (F := fun z B => x = z ∧ B = tp ad t' (cp y S A)) (G := fun _ _ => False) (args := [.ref (adr ad 0), .int (f (i + 1)), .int (f (i + 2)), .int (f (i + 3)), .int 0, .int (f (i + 5)), .int (f (i + 6))]) (r := []) hR (cLg 3057 rfl) rfl rfl (Nat.le_of_ble_eq_true rfl) (Nat.le_of_ble_eq_true rfl) rfl (tk_0 hn rfl) (ts_647 hR hn d1 (cI_mk ⟨rfl, rfl⟩)) ?_ (fun _ _ _ z => z.elim)
    rintro _ _ ⟨rfl, rfl⟩
    refine lQ.stI (cLg 3058 rfl) (lN2s rfl rfl) ?_
    refine lQ.loadN (cLg 3059 rfl) rfl ?_
    refine lQ.callVI (F := fun z B => t'.1 0 = z ∧ B = tp ad t' (cp y S A)) (G := fun _ _ => False) (args := [.ref (adr ad 0)]) (r := []) hR (cLg 3060 rfl) rfl rfl (Nat.le_of_ble_eq_true rfl) (Nat.le_of_ble_eq_true rfl) rfl (tk_0 hn rfl) (ts_556 hR hn (x := t'.1 0) rfl (cI_mk ⟨rfl, rfl⟩)) ?_ (fun _ _ _ z => z.elim)
    rintro _ _ ⟨rfl, rfl⟩
    rw [hI.mv SDa.rf t']
    have hI := hI.tw SDa.rf t'
    refine lQ.loadI (cLg 3061 rfl) rfl ?_
    refine lQ.cmpT (cLg 3062 rfl) (decide_eq_true th) ?_
    refine lQ.loadI (cLg 3065 rfl) rfl ?_
    by_cases hk : kk = 0
    · refine lQ.ifF (cLg 3066 rfl) (decide_eq_false (fun z => z hk)) ?_
      have hv := ov _ hk rfl
      have g3 := LV_out hI.1 f3 hv
      refine lQ.loadN (cLg 3067 rfl) rfl ?_
      refine lQ.push (cLg 3068 rfl) ?_
      refine lQ.ald hR (cLg 3069 rfl) g3 ?_
      refine lQ.loadI (cLg 3070 rfl) rfl ?_
      refine lQ.i2l (cLg 3071 rfl) ?_
      refine lQ.lcmp (cLg 3072 rfl) ?_
      refine lQ.ifT (cLg 3073 rfl) (decide_eq_true (lg_cmp_rf _)) ?_
      refine lQ.goto (cLg 3076 rfl) ?_
      exact lQ.sub (LLs (by rfl) (by rfl) (by rfl) (by rfl) (by rfl)) (k _ _ _ _ _ _ _ _ hn ⟨hI, r', f1, f3⟩ kK kc ks ((k1_647 K1N.rf).2 _ d1).2)
    · refine lQ.ifT (cLg 3066 rfl) (decide_eq_true hk) ?_
      refine lQ.goto (cLg 3076 rfl) ?_
      exact lQ.sub (LLs (by rfl) (by rfl) (by rfl) (by rfl) (by rfl)) (k _ _ _ _ _ _ _ _ hn ⟨hI, r', f1, f3⟩ kK kc ks ((k1_647 K1N.rf).2 _ d1).2)
  · obtain ⟨kk, S, x, t', own', K', N', c1, d1, th, ov, r', kK, kc, ks⟩ := lwa_send r (f (i + 1)) (f (i + 2)) (f (i + 3)) 1 (f (i + 5)) (f (i + 6))
    refine lQ.loadN (cLg 2984 rfl) rfl ?_
    refine lQ.loadN (cLg 2985 rfl) rfl ?_
    refine lQ.loadI (cLg 2986 rfl) rfl ?_
    refine lQ.push (cLg 2987 rfl) ?_
    refine lQ.binI (cLg 2988 rfl) ?_
    refine lQ.ald hR (cLg 2989 rfl) (hI.scr hn8 1 (by omega)) ?_
    refine lQ.loadN (cLg 2990 rfl) rfl ?_
    refine lQ.loadI (cLg 2991 rfl) rfl ?_
    refine lQ.push (cLg 2992 rfl) ?_
    refine lQ.binI (cLg 2993 rfl) ?_
    refine lQ.ald hR (cLg 2994 rfl) (hI.scr hn8 2 (by omega)) ?_
    refine lQ.loadN (cLg 2995 rfl) rfl ?_
    refine lQ.loadI (cLg 2996 rfl) rfl ?_
    refine lQ.push (cLg 2997 rfl) ?_
    refine lQ.binI (cLg 2998 rfl) ?_
    refine lQ.ald hR (cLg 2999 rfl) (hI.scr hn8 3 (by omega)) ?_
    refine lQ.loadN (cLg 3000 rfl) rfl ?_
    refine lQ.loadI (cLg 3001 rfl) rfl ?_
    refine lQ.push (cLg 3002 rfl) ?_
    refine lQ.binI (cLg 3003 rfl) ?_
    refine lQ.ald hR (cLg 3004 rfl) (hI.scr hn8 4 (by omega)) ?_
    refine lQ.ifF (cLg 3005 rfl) (decide_eq_false hb) ?_
    refine lQ.push (cLg 3006 rfl) ?_
    refine lQ.goto (cLg 3007 rfl) ?_
    refine lQ.loadN (cLg 3009 rfl) rfl ?_
    refine lQ.loadI (cLg 3010 rfl) rfl ?_
    refine lQ.push (cLg 3011 rfl) ?_
    refine lQ.binI (cLg 3012 rfl) ?_
    refine lQ.ald hR (cLg 3013 rfl) (hI.scr hn8 5 (by omega)) ?_
    refine lQ.loadN (cLg 3014 rfl) rfl ?_
    refine lQ.loadI (cLg 3015 rfl) rfl ?_
    refine lQ.push (cLg 3016 rfl) ?_
    refine lQ.binI (cLg 3017 rfl) ?_
    refine lQ.ald hR (cLg 3018 rfl) (hI.scr hn8 6 (by omega)) ?_
    refine lQ.loadN (cLg 3019 rfl) rfl ?_
    refine lQ.callG (args := [.ref h1, .int (f (i + 1)), .int (f (i + 2)), .int (f (i + 3)), .int 1, .int (f (i + 5)), .int (f (i + 6)), .ref o1]) (r := []) hR (cLg 3020 rfl) rfl rfl (Nat.le_of_ble_eq_true rfl) (Nat.le_of_ble_eq_true rfl) (cs_374 hR hJ hI.1 (w0 := some h1) (w7 := some o1) f1 f3 c1) ?_ (fun _ _ _ z => by cases z.1)
    rintro _ _ ⟨e_, y, A, hW, hX, rfl⟩
    cases e_
    have f1 := hX.1 _ _ f1
    have f3 := hX.1 _ _ f3
    have hI := hI.ext hW hX
    refine lQ.stI (cLg 3021 rfl) (lN2s rfl rfl) ?_
    refine lQ.loadN (cLg 3022 rfl) rfl ?_
    refine lQ.loadN (cLg 3023 rfl) rfl ?_
    refine lQ.loadI (cLg 3024 rfl) rfl ?_
    refine lQ.push (cLg 3025 rfl) ?_
    refine lQ.binI (cLg 3026 rfl) ?_
    refine lQ.ald hR (cLg 3027 rfl) (hI.scr hn8 1 (by omega)) ?_
    refine lQ.loadN (cLg 3028 rfl) rfl ?_
    refine lQ.loadI (cLg 3029 rfl) rfl ?_
    refine lQ.push (cLg 3030 rfl) ?_
    refine lQ.binI (cLg 3031 rfl) ?_
    refine lQ.ald hR (cLg 3032 rfl) (hI.scr hn8 2 (by omega)) ?_
    refine lQ.loadN (cLg 3033 rfl) rfl ?_
    refine lQ.loadI (cLg 3034 rfl) rfl ?_
    refine lQ.push (cLg 3035 rfl) ?_
    refine lQ.binI (cLg 3036 rfl) ?_
    refine lQ.ald hR (cLg 3037 rfl) (hI.scr hn8 3 (by omega)) ?_
    refine lQ.loadN (cLg 3038 rfl) rfl ?_
    refine lQ.loadI (cLg 3039 rfl) rfl ?_
    refine lQ.push (cLg 3040 rfl) ?_
    refine lQ.binI (cLg 3041 rfl) ?_
    refine lQ.ald hR (cLg 3042 rfl) (hI.scr hn8 4 (by omega)) ?_
    refine lQ.ifF (cLg 3043 rfl) (decide_eq_false hb) ?_
    refine lQ.push (cLg 3044 rfl) ?_
    refine lQ.goto (cLg 3045 rfl) ?_
    refine lQ.loadN (cLg 3047 rfl) rfl ?_
    refine lQ.loadI (cLg 3048 rfl) rfl ?_
    refine lQ.push (cLg 3049 rfl) ?_
    refine lQ.binI (cLg 3050 rfl) ?_
    refine lQ.ald hR (cLg 3051 rfl) (hI.scr hn8 5 (by omega)) ?_
    refine lQ.loadN (cLg 3052 rfl) rfl ?_
    refine lQ.loadI (cLg 3053 rfl) rfl ?_
    refine lQ.push (cLg 3054 rfl) ?_
    refine lQ.binI (cLg 3055 rfl) ?_
    refine lQ.ald hR (cLg 3056 rfl) (hI.scr hn8 6 (by omega)) ?_
    rw [hI.sw]
    refine lQ.callVI (F := fun z B => x = z ∧ B = tp ad t' (cp y S A)) (G := fun _ _ => False) (args := [.ref (adr ad 0), .int (f (i + 1)), .int (f (i + 2)), .int (f (i + 3)), .int 1, .int (f (i + 5)), .int (f (i + 6))]) (r := []) hR (cLg 3057 rfl) rfl rfl (Nat.le_of_ble_eq_true rfl) (Nat.le_of_ble_eq_true rfl) rfl (tk_0 hn rfl) (ts_647 hR hn d1 (cI_mk ⟨rfl, rfl⟩)) ?_ (fun _ _ _ z => z.elim)
    rintro _ _ ⟨rfl, rfl⟩
    refine lQ.stI (cLg 3058 rfl) (lN2s rfl rfl) ?_
    refine lQ.loadN (cLg 3059 rfl) rfl ?_
    refine lQ.callVI (F := fun z B => t'.1 0 = z ∧ B = tp ad t' (cp y S A)) (G := fun _ _ => False) (args := [.ref (adr ad 0)]) (r := []) hR (cLg 3060 rfl) rfl rfl (Nat.le_of_ble_eq_true rfl) (Nat.le_of_ble_eq_true rfl) rfl (tk_0 hn rfl) (ts_556 hR hn (x := t'.1 0) rfl (cI_mk ⟨rfl, rfl⟩)) ?_ (fun _ _ _ z => z.elim)
    rintro _ _ ⟨rfl, rfl⟩
    rw [hI.mv SDa.rf t']
    have hI := hI.tw SDa.rf t'
    refine lQ.loadI (cLg 3061 rfl) rfl ?_
    refine lQ.cmpT (cLg 3062 rfl) (decide_eq_true th) ?_
    refine lQ.loadI (cLg 3065 rfl) rfl ?_
    by_cases hk : kk = 0
    · refine lQ.ifF (cLg 3066 rfl) (decide_eq_false (fun z => z hk)) ?_
      have hv := ov _ hk rfl
      have g3 := LV_out hI.1 f3 hv
      refine lQ.loadN (cLg 3067 rfl) rfl ?_
      refine lQ.push (cLg 3068 rfl) ?_
      refine lQ.ald hR (cLg 3069 rfl) g3 ?_
      refine lQ.loadI (cLg 3070 rfl) rfl ?_
      refine lQ.i2l (cLg 3071 rfl) ?_
      refine lQ.lcmp (cLg 3072 rfl) ?_
      refine lQ.ifT (cLg 3073 rfl) (decide_eq_true (lg_cmp_rf _)) ?_
      refine lQ.goto (cLg 3076 rfl) ?_
      exact lQ.sub (LLs (by rfl) (by rfl) (by rfl) (by rfl) (by rfl)) (k _ _ _ _ _ _ _ _ hn ⟨hI, r', f1, f3⟩ kK kc ks ((k1_647 K1N.rf).2 _ d1).2)
    · refine lQ.ifT (cLg 3066 rfl) (decide_eq_true hk) ?_
      refine lQ.goto (cLg 3076 rfl) ?_
      exact lQ.sub (LLs (by rfl) (by rfl) (by rfl) (by rfl) (by rfl)) (k _ _ _ _ _ _ _ _ hn ⟨hI, r', f1, f3⟩ kK kc ks ((k1_647 K1N.rf).2 _ d1).2)
end LC
