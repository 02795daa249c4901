/-! the lifts: the component tells -/
theorem wr4_at (k : Nat) (T : TS) (e : Nat × Nat × Nat × Nat) (c j : Nat) : (wr4 k T e).2.2.1 c j = if j = e.1 then (if c = 174 then Int32.ofNat e.2.2.1 else if c = 173 then Int32.ofNat e.2.1 else if c = 175 then Int32.ofNat e.2.2.2 else if c = 172 then Int32.ofNat k else T.2.2.1 c j) else T.2.2.1 c j := by
  unfold wr4
  simp only [wr_at]
  by_cases h : j = e.1
  · simp only [h, and_true, if_true]
  · simp only [h, and_false, if_false]
theorem R8m_put {h H : lHeap} {T : TS} {nk nc k c pk dn i a : Nat} {M : Nat → Nat} {mc' : Int32} {es' : List (Value × Value)} (r : R8m h T nk nc M) (hc : c < nk) (hk : k < nc) (hnc : nc ≤ 4) (hnk : nk ≤ 400) (ha : 179 ≤ a) (g1 : H a = some (true, false, 99, [.int (Int32.ofNat k), .int (Int32.ofNat pk), .int (Int32.ofNat dn), .int (Int32.ofNat i)])) (g2 : H 169 = some (true, false, 1042, .int mc' :: fl es')) (g3 : ∀ q x, q ≠ 169 → h q = some x → H q = some x)
    (m1 : Mp rkI es' (fun z => if z = (c : Int) then some (.ref a) else if 0 ≤ z ∧ z < (nk : Int) ∧ ¬ T.2.2.1 172 z.toNat = -1 then some (.ref (M z.toNat)) else none)) (m2 : ∀ x ∈ es'.map Prod.fst, ∃ i, x = .int i) (hcnt : ((List.range nk).filter (fun z => decide (¬ (wr4 k T (c, pk, dn, i)).2.2.1 172 z = -1))).length ≤ 6) : R8m H (wr4 k T (c, pk, dn, i)) nk nc (nxt1 c a M) := by
  obtain ⟨mm, em, q1, q2, q3, q4, q5, q6⟩ := r
  have w := fun r j => wr4_at k T (c, pk, dn, i) r j
  have hm : Mp rkI es' (fun z => if 0 ≤ z ∧ z < (nk : Int) ∧ ¬ (wr4 k T (c, pk, dn, i)).2.2.1 172 z.toNat = -1 then some (.ref (nxt1 c a M z.toNat)) else none) := by
    have : (fun z : Int => if 0 ≤ z ∧ z < (nk : Int) ∧ ¬ (wr4 k T (c, pk, dn, i)).2.2.1 172 z.toNat = -1 then some (Value.ref (nxt1 c a M z.toNat)) else none) = (fun z : Int => if z = (c : Int) then some (.ref a) else if 0 ≤ z ∧ z < (nk : Int) ∧ ¬ T.2.2.1 172 z.toNat = -1 then some (.ref (M z.toNat)) else none) := by
      funext z
      by_cases y : z = (c : Int)
      · subst y
        rw [if_pos rfl, Int.toNat_natCast, w 172 c, if_pos rfl]
        rw [if_pos ⟨by omega, by omega, i_ne1 (by omega)⟩]
        unfold nxt1; rw [if_pos rfl]
      · rw [if_neg y]
        by_cases y2 : 0 ≤ z ∧ z < (nk : Int) ∧ ¬ T.2.2.1 172 z.toNat = -1
        · have hz : z.toNat ≠ c := by omega
          rw [if_pos y2, if_pos ⟨y2.1, y2.2.1, by rw [w 172, if_neg hz]; exact y2.2.2⟩]
          unfold nxt1; rw [if_neg hz]
        · rw [if_neg y2, if_neg]
          rintro ⟨x1, x2, x3⟩
          have hz : z.toNat ≠ c := by omega
          rw [w 172, if_neg hz] at x3
          exact y2 ⟨x1, x2, x3⟩
    rw [this]; exact m1
  refine ⟨mc', es', g2, hm, m2, ?_, fun z h1 h2 => ?_, fun z h1 h2 => ?_⟩
  · rw [mp_len (P := fun z => ¬ (wr4 k T (c, pk, dn, i)).2.2.1 172 z = -1) (f := fun z => .ref (nxt1 c a M z)) hm]
    exact hcnt
  · by_cases y : z = c
    · subst y
      unfold nxt1
      rw [if_pos rfl]
      refine ⟨ha, ?_, k, hk, by rw [w 172, if_pos rfl]; rfl⟩
      rw [g1]
      unfold toC
      simp [w]
    · rw [w 172, if_neg y] at h2
      obtain ⟨y1, y2, y3⟩ := q5 z h1 h2
      unfold nxt1
      rw [if_neg y]
      refine ⟨y1, ?_, by rw [w 172, if_neg y]; exact y3⟩
      rw [g3 _ _ (by omega) y2]
      unfold toC
      rw [w 172, w 173, w 174, w 175, if_neg y, if_neg y, if_neg y, if_neg y]
  · rw [w 172, if_neg (show ¬ z = c by omega)]; exact q6 z h1 h2
/-- only chosen calls are told -/
def TI (t T : TS) (nc nk : Nat) : Prop := ∀ c, c < nk → ¬ T.2.2.1 172 c = -1 → mayG t nc c = true
theorem TI_cnt {t T : TS} {nc nk : Nat} (h : TI t T nc nk) : ((List.range nk).filter (fun z => decide (¬ T.2.2.1 172 z = -1))).length ≤ (chs t nc nk).length := by
  unfold chs
  rw [← List.countP_eq_length_filter, ← List.countP_eq_length_filter]
  refine List.countP_mono_left (fun z hz hp => ?_)
  rw [decide_eq_true_eq] at hp
  exact h z (List.mem_range.mp hz) hp
def TM (s0 s : CS) (t T : TS) (nc nk : Nat) : Prop := (∀ q, q < s0.2.1 → q ≠ 169 → s.1 q = s0.1 q) ∧ s0.2.1 ≤ s.2.1 ∧ wfS s ∧ (∃ M, R8m s.1 T nk nc M ∧ ∀ c, c < nk → ¬ T.2.2.1 172 c = -1 → s0.2.1 ≤ M c) ∧ TI t T nc nk
theorem c_tell {s0 s : CS} {t T : TS} {nc n nk k B A cst : Nat} {f C D M : Nat → Nat} {b : Nat → Option Nat} {p : List Nat} (h179 : 179 ≤ s0.2.1) (hw0 : wfS s0) (v : Lv t nc n f) (hk : k < nc) (hT : TE s0 t nc n nk f C D M b) (hch : (chs t nc nk).length ≤ 6) (hf : ∀ i, i < n → mayG t nc (f i) = true) (hpn : ∀ x ∈ p, x < n) (hp6 : p.length ≤ 6) (hB : s0.1 B = some (rwK A p.length cst)) (hA : arK s0 A f p) (w : TM s0 s t T nc nk) :
    Tr (c_534 162 (C k) B s) (fun s' => TM s0 s' t ((tls t k f 0 (bgN t k) (bN (t.2.2.1 159 k)) p).foldl (wr4 k) T) nc nk ∧ s'.2.2.1 ≤ s.2.2.1 + 4 * p.length ∧ s'.2.2.2 ≤ s.2.2.2 + 12 * p.length) := by
  have hn := v.2.1
  have hcar := v.2.2.2.2.1 k hk
  obtain ⟨r, ⟨hm, lst, hh, e2⟩, ⟨m5, e3⟩, hO⟩ := hT
  obtain ⟨mo, eo, o1, o2, o3, o4, o5⟩ := li_len r
  have r' := r
  obtain ⟨_, ⟨m1, p2⟩, _, _, _, _, p7, p8, p9, p10, p11, p12, p13, p14, p15, p16, p17, p18, _⟩ := r'
  have e4 := (p14 k hk).1
  have e5 : ∀ i, i < n → s0.1 (D (f i)) = some (calC t C (f i)) := fun i hi => ((p16 _ (hO i hi).1).2.2 (hO i hi).2).1
  obtain ⟨gA, hA1, hA2⟩ := hA
  have old : ∀ (X : CS) q c, (∀ q, q < s0.2.1 → q ≠ 169 → X.1 q = s0.1 q) → s0.1 q = some c → q ≠ 169 → X.1 q = some c := fun X q c hX h h2 => by rw [hX q (wf_lt hw0 h) h2]; exact h
  have nC : C k ≠ 169 := by have := (p14 k hk).2.2; omega
  have nB : B ≠ 169 := by
    intro z; subst z
    obtain ⟨_, _, _, _, _, _, _, _, _, _, _, _, _, _, _, _, _, _, _, ⟨mm2, em2, q2, _⟩⟩ := r
    rw [q2] at hB; cases hB
  have nA : A ≠ 169 := by
    intro z; subst z
    obtain ⟨_, _, _, _, _, _, _, _, _, _, _, _, _, _, _, _, _, _, _, ⟨mm2, em2, q2, _⟩⟩ := r
    rw [q2] at hA1; cases hA1
  have nD : ∀ i, i < n → D (f i) ≠ 169 := fun i hi => by have := ((p16 _ (hO i hi).1).2.2 (hO i hi).2).2; omega
  have hbeg : ∀ X : CS, c_47 0 (t.2.2.1 160 k - t.1 612) X = some (Int32.ofNat (bgN t k)) := by
    intro X
    unfold c_47 bgN
    obtain ⟨_, _, q1, q2⟩ := v.2.2.2.2.1 k hk
    obtain ⟨q3, q4⟩ := v.2.2.2.1
    generalize bN (t.2.2.1 160 k) = A at q1 q2 ⊢
    generalize bN (t.1 612) = Z at q3 q4 ⊢
    rw [q1, q3]
    by_cases y : Z < A
    · rw [i_sub (by omega), if_pos ((i_Llt (by omega) (by omega)).mpr (by omega))]
    · have y2 : Int32.ofNat A - Int32.ofNat Z = -(Int32.ofNat (Z - A)) := by
        rw [← i_sub (by omega), Int32.neg_sub]
      have y3 : ¬ 0 < Int32.ofNat A - Int32.ofNat Z := by
        rw [y2, Int32.lt_iff_toInt_lt, Int32.toInt_neg, i_toInt (by omega)]
        show ¬ (0 : Int) < (-((Z - A : Nat) : Int)).bmod (2 ^ 32)
        rw [Int.bmod_eq_of_le (by omega) (by omega)]
        omega
      rw [if_neg y3, Nat.sub_eq_zero_of_le (by omega)]; rfl
  unfold c_534
  rw [xI_o (x := t.2.2.1 160 k) (old s _ _ w.1 e4 nC) rfl rfl, Option.bind_some, xI_o (x := t.1 612) (old s _ _ w.1 e2 (by omega)) rfl rfl, Option.bind_some, hbeg, Option.bind_some, xI_o (x := t.2.2.1 159 k) (old s _ _ w.1 e4 nC) rfl rfl, Option.bind_some]
  refine Tr.bd (P := fun s' => TM s0 s' t ((tls t k f 0 (bgN t k) (bN (t.2.2.1 159 k)) p).foldl (wr4 k) T) nc nk ∧ s'.2.2.1 ≤ s.2.2.1 + 4 * p.length ∧ s'.2.2.2 ≤ s.2.2.2 + 12 * p.length) (wh_cnt p.length (fun i (st : CS × Int32 × Int32 × Int32) => ∃ X V sec a, st = (X, Int32.ofNat sec, Int32.ofNat a, Int32.ofNat i) ∧ (tls t k f i sec a (p.drop i)).foldl (wr4 k) V = (tls t k f 0 (bgN t k) (bN (t.2.2.1 159 k)) p).foldl (wr4 k) T ∧ TM s0 X t V nc nk ∧ sec ≤ 100000 + 600 * i ∧ a < 60 ∧ X.2.2.1 ≤ s.2.2.1 + 4 * i ∧ X.2.2.2 ≤ s.2.2.2 + 12 * i) ?_ ?_ ⟨s, T, bgN t k, bN (t.2.2.1 159 k), ?_, rfl, w, by have := lv_bg v hk; omega, hcar.2.1.2, by omega, by omega⟩) (fun s' h => ⟨s', rfl, h⟩)
  · rintro i _ hi ⟨X, V, sec, a, rfl, z1, z2, z4, z5, z6, z7⟩
    have hx : p.getD i 0 < n := by
      rw [List.getD_eq_getElem?_getD, List.getElem?_eq_getElem hi]
      exact hpn _ (List.getElem_mem hi)
    have hd : p.drop i = p.getD i 0 :: p.drop (i + 1) := by
      rw [List.getD_eq_getElem?_getD, List.getElem?_eq_getElem hi]
      exact List.drop_eq_getElem_cons hi
    have hr := hA2 i hi
    generalize hc : p.getD i 0 = c at hx hd hr
    obtain ⟨g1, ⟨⟨g2, g3⟩, ⟨g4, g5⟩, g6⟩, _⟩ := v.2.2.2.2.2.1 c hx
    have b1 := lv_pk (sec := sec) v hk hx z5
    have b2 := lv_dn (sec := sec) v hk hx z5
    obtain ⟨zq, zn, zw, ⟨M', zM, zMl⟩, zT⟩ := z2
    have u2 : X.1 162 = _ := old X _ _ zq e2 (by omega)
    have uB : X.1 B = _ := old X _ _ zq hB nB
    have uA : X.1 A = _ := old X _ _ zq hA1 nA
    have uo : X.1 164 = _ := old X _ _ zq o1 (by omega)
    have uC : X.1 (C k) = _ := old X _ _ zq e4 nC
    have uD : X.1 (D (f c)) = _ := old X _ _ zq (e5 c hx) (nD c hx)
    have wy1 : c_1074 (C k) (Int32.ofNat a) (t.2.2.1 163 (f c)) (chg X 1 1) = some (Int32.ofNat (wyN t k a (bN (t.2.2.1 163 (f c))))) := by
      conv => lhs; rw [g2]
      exact c_way (s := chg X 1 1) v hk uC z5 g3
    have wy2 : c_1074 (C k) (t.2.2.1 163 (f c)) (t.2.2.1 164 (f c)) (chg X 1 1) = some (Int32.ofNat (wyN t k (bN (t.2.2.1 163 (f c))) (bN (t.2.2.1 164 (f c))))) := by
      conv => lhs; rw [g2, g4]
      exact c_way (s := chg X 1 1) v hk uC g3 g5
    have q1 : Int32.ofNat sec + Int32.ofNat (wyN t k a (bN (t.2.2.1 163 (f c)))) = Int32.ofNat (pkN t k sec a (f c)) := i_add ..
    have q2 : Int32.ofNat (pkN t k sec a (f c)) + 3 + Int32.ofNat (wyN t k (bN (t.2.2.1 163 (f c))) (bN (t.2.2.1 164 (f c)))) = Int32.ofNat (dnN t k sec a (f c)) := by
      rw [i_addL, i_add]; rfl
    have hget : tmGet (chg X 1 1) 164 (.int (Int32.ofNat (f c))) = some (.ref (D (f c))) := by
      rw [mp_get (s := chg X 1 1) (P := fun c => t.2.2.1 166 c = 1) (f := fun c => .ref (D c)) uo o2 o3]
      have hti : (Int32.ofNat (f c)).toInt = (f c : Int) := i_toInt (by omega)
      have hcl : (Int32.ofNat (f c)).toNatClampNeg = f c := i_clamp (by omega)
      have hO2 := hO c hx
      simp only [hti, hcl]
      rw [if_pos ⟨by omega, by omega, hO2.2⟩]
    have wX : wfS (chg (chg X 1 1) 1 1) := zw
    obtain ⟨N1, E1, n1, n2, n3, n4, n5, n6⟩ := nw_o (s := chg (chg X 1 1) 1 1) 99 [.int 0, .int 0, .int 0, .int 0] wX
    have hX1 : (chg (chg X 1 1) 1 1).2.1 = X.2.1 := rfl
    rw [hX1] at E1 n1 n2 n3
    have lC := wf_lt zw uC
    have lD := wf_lt zw uD
    have l169 : 169 < X.2.1 := by omega
    have nuC : N1.1 (C k) = _ := (n2 (C k) (by omega)).trans uC
    have zM' := zM
    obtain ⟨mm, em, x1, x2, x3, x4, x5, x6⟩ := zM'
    generalize hY : cup N1 X.2.1 (true, false, 99, [.int (Int32.ofNat k), .int (Int32.ofNat (pkN t k sec a (f c))), .int (Int32.ofNat (dnN t k sec a (f c))), .int (Int32.ofNat i)]) = Y
    have y1 : Y.1 X.2.1 = some (true, false, 99, [.int (Int32.ofNat k), .int (Int32.ofNat (pkN t k sec a (f c))), .int (Int32.ofNat (dnN t k sec a (f c))), .int (Int32.ofNat i)]) := by rw [← hY, cup_eq]
    have y2 : ∀ q, q ≠ X.2.1 → Y.1 q = X.1 q := fun q hq => by rw [← hY, cup_ne hq, n2 q hq]; rfl
    have y3 : Y.2.1 = X.2.1 + 1 := by rw [← hY]; exact n3
    have y4 : wfS Y := by rw [← hY]; exact wf_cup n4 (by omega)
    have y169 : Y.1 169 = some (true, false, 1042, .int mm :: fl em) := (y2 169 (by omega)).trans x1
    obtain ⟨es', mc', nn, jj, t1, t2, t3, t4, t5, t6, _⟩ := tm_put (v := .ref X.2.1) y169 (KOk_int (ks := .int (Int32.ofNat (f c)) :: em.map Prod.fst) (fun x hx => by
      rcases List.mem_cons.mp hx with rfl | hx
      · exact ⟨_, rfl⟩
      · exact x3 x hx)) x2 (by omega)
    have rk0 : rkI (.int (Int32.ofNat (f c))) = (f c : Int) := i_toInt (by omega)
    rw [rk0] at t4
    have hinit : c_1084 X.2.1 (Int32.ofNat k) (Int32.ofNat (pkN t k sec a (f c))) (Int32.ofNat (dnN t k sec a (f c))) (Int32.ofNat i) N1 = some Y := by
      unfold c_1084
      rw [if_pos (isK_t n1 rfl), xP_c n1 rfl (by simp) rfl, Option.bind_some, xP_c (cup_eq ..) rfl (by simp) rfl, Option.bind_some, cupU, xP_c (cup_eq ..) rfl (by simp) rfl, Option.bind_some, cupU, xP_c (cup_eq ..) rfl (by simp) rfl, Option.bind_some, cupU, ← hY]; rfl
    have hTI : TI t (wr4 k V (f c, pkN t k sec a (f c), dnN t k sec a (f c), i)) nc nk := by
      intro d hd1 hd2
      rw [wr4_at] at hd2
      by_cases y : d = f c
      · rw [y]; exact hf c hx
      · rw [if_neg y] at hd2; exact zT d hd1 hd2
    have hfc : f c < nk := (hO c hx).1
    have uD2 : (cput Y 1042 169 nn jj (.int mc' :: fl es')).1 (D (f c)) = some (calC t C (f c)) := by
      rw [cput_ne (nD c hx), y2 _ (by omega)]; exact uD
    have hTM : TM s0 (cput Y 1042 169 nn jj (.int mc' :: fl es')) t (wr4 k V (f c, pkN t k sec a (f c), dnN t k sec a (f c), i)) nc nk := by
      refine ⟨fun q h1 h2 => ?_, ?_, wf_cup y4 (by omega), ⟨nxt1 (f c) X.2.1 M', R8m_put (h := X.1) (es' := es') (mc' := mc') zM hfc hk hn p10 (by omega) ?_ (cput_eq ..) (fun q x h1 h2 => ?_) t4 (fun x hx => ?_) (Nat.le_trans (TI_cnt hTI) hch), fun d hd1 hd2 => ?_⟩, hTI⟩
      · rw [cput_ne h2, y2 q (by omega)]; exact zq q h1 h2
      · show s0.2.1 ≤ Y.2.1; omega
      · rw [cput_ne (by omega)]; exact y1
      · have := wf_lt zw h2
        rw [cput_ne h1, y2 q (by omega)]; exact h2
      · rcases t5 x hx with rfl | z
        · exact ⟨_, rfl⟩
        · exact x3 x z
      · unfold nxt1
        rw [wr4_at] at hd2
        by_cases y : d = f c
        · rw [if_pos y]; exact zn
        · rw [if_neg y]
          rw [if_neg y] at hd2
          exact zMl d hd1 hd2
    refine Or.inr ⟨(cput Y 1042 169 nn jj (.int mc' :: fl es'), Int32.ofNat (dnN t k sec a (f c) + 3), Int32.ofNat (bN (t.2.2.1 164 (f c))), Int32.ofNat (i + 1)), ?_, _, _, _, _, rfl, ?_, hTM, by omega, g5, ?_, ?_⟩
    · dsimp only
      rw [xI_o (x := Int32.ofNat p.length) uB rfl rfl, Option.bind_some, if_pos ((i_lt (by omega) (by omega)).mpr hi), xN_o (b := 164) u2 rfl rfl, Option.bind_some, xN_o (b := A) uB rfl rfl, Option.bind_some, aI_r (x := gA i) uA (by omega) rfl (by omega) (by omega) rfl, Option.bind_some, Option.bind_some, if_pos (isK_t (s := chg X 1 1) uo rfl), hr, hget, Option.bind_some]
      have htR : toR (chg X 1 1) [96] (.ref (D (f c))) = some (some (D (f c))) := by
        show (if isK (chg X 1 1) [96] (D (f c)) = true then some (some (D (f c))) else none) = _
        rw [if_pos (isK_t (s := chg X 1 1) uD rfl)]
      rw [htR, Option.bind_some, Option.bind_some, xI_o (s := chg X 1 1) (x := t.2.2.1 163 (f c)) uD rfl rfl, Option.bind_some, if_pos (isK_t (s := chg X 1 1) uC rfl), wy1, Option.bind_some, Option.bind_some, xI_o (s := chg X 1 1) (x := t.2.2.1 164 (f c)) uD rfl rfl, Option.bind_some, if_pos (isK_t (s := chg X 1 1) uC rfl), wy2, Option.bind_some, xN_o (s := chg X 1 1) (b := 169) u2 rfl rfl, Option.bind_some, xI_o (s := chg X 1 1) (x := Int32.ofNat (f c)) uD rfl rfl, Option.bind_some, Option.bind_some, Option.bind_some, E1]
      dsimp only
      rw [xI_o (x := Int32.ofNat k) nuC rfl rfl, Option.bind_some, if_pos (isK_t n1 rfl), q1, q2, hinit, Option.bind_some, if_pos (isK_t y169 rfl), t1, Option.bind_some]
      dsimp only
      rw [xI_o (x := t.2.2.1 164 (f c)) uD2 rfl rfl, Option.bind_some, i_addL, i_suc, ← g4]
    · rw [← z1, hd]; rfl
    · show Y.2.2.1 + nn ≤ _
      rw [← hY]
      show N1.2.2.1 + nn ≤ _
      rw [n5]
      show X.2.2.1 + 1 + 1 + 1 + nn ≤ _
      omega
    · show Y.2.2.2 + jj ≤ _
      rw [← hY]
      show N1.2.2.2 + jj ≤ _
      rw [n6]
      show X.2.2.2 + 1 + 1 + 4 + jj ≤ _
      omega
  · rintro _ ⟨X, V, sec, a, rfl, z1, z2, z4, z5, z6, z7⟩
    rw [List.drop_length] at z1
    refine ⟨X, ?_, by rw [← z1]; exact z2, z6, z7⟩
    dsimp only
    rw [xI_o (x := Int32.ofNat p.length) (old X _ _ z2.1 hB nB) rfl rfl, Option.bind_some, if_neg (by rw [i_lt (by omega) (by omega)]; omega)]
  · conv => lhs; rw [hcar.2.1.1]
    rfl
