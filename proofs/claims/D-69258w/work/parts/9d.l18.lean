/-! the lifts: the reference tells and gives -/
/-- what is told of a car's row: call, when picked up, when set down, place -/
def tls (t : TS) (k : Nat) (f : Nat → Nat) : Nat → Nat → Nat → List Nat → List (Nat × Nat × Nat × Nat)
  | _, _, _, [] => []
  | i, sec, a, x :: p => (f x, pkN t k sec a (f x), dnN t k sec a (f x), i) :: tls t k f (i + 1) (dnN t k sec a (f x) + 3) (bN (t.2.2.1 164 (f x))) p
def wr4 (k : Nat) (T : TS) (e : Nat × Nat × Nat × Nat) : TS := wrI (wrI (wrI (wrI T 172 e.1 (Int32.ofNat k)) 175 e.1 (Int32.ofNat e.2.2.2)) 173 e.1 (Int32.ofNat e.2.1)) 174 e.1 (Int32.ofNat e.2.2.1)
/-- what may change while it is told -/
def Tl (t T : TS) : Prop := (∀ c, c ≠ 616 → T.1 c = t.1 c) ∧ T.2.1 = t.2.1 ∧ (∀ c, c ≠ 169 → c ≠ 171 → ¬ (172 ≤ c ∧ c ≤ 175) → T.2.2.1 c = t.2.2.1 c) ∧ ∀ c, c ≠ 170 → T.2.2.2 c = t.2.2.2 c
theorem Tl.wr {t T : TS} {c j : Nat} {v : Int32} (h : Tl t T) (hc : 172 ≤ c ∧ c ≤ 175) : Tl t (wrI T c j v) := ⟨h.1, h.2.1, fun d h1 h2 h3 => by
  funext q
  rw [wr_ne (by omega), h.2.2.1 d h1 h2 h3], h.2.2.2⟩
theorem Tl.w4 {t T : TS} {k : Nat} {e : Nat × Nat × Nat × Nat} (h : Tl t T) : Tl t (wr4 k T e) := (((h.wr (by omega)).wr (by omega)).wr (by omega)).wr (by omega)
theorem Tl.fold {t : TS} {k : Nat} : ∀ {l : List (Nat × Nat × Nat × Nat)} {T : TS}, Tl t T → Tl t (l.foldl (wr4 k) T)
  | [], _, h => h
  | e :: l, T, h => Tl.fold (l := l) (T := wr4 k T e) h.w4
theorem fold_171 {k : Nat} : ∀ {l : List (Nat × Nat × Nat × Nat)} {T : TS} {c : Nat}, ¬ (172 ≤ c ∧ c ≤ 175) → (l.foldl (wr4 k) T).2.2.1 c = T.2.2.1 c
  | [], _, _, _ => rfl
  | e :: l, T, c, h => by
    rw [List.foldl_cons, fold_171 h]
    funext q
    unfold wr4
    rw [wr_ne (by omega), wr_ne (by omega), wr_ne (by omega), wr_ne (by omega)]
theorem way_cg {t T : TS} (h : T.2.2.1 158 = t.2.2.1 158) (a b c : Int32) : t_857 a b c T = t_857 a b c t := by
  unfold t_857 rdI; rw [h]
theorem t_tell {t T : TS} {nc n k σ : Nat} {f : Nat → Nat} {p : List Nat} (v : Lv t nc n f) (hT : Tl t T) (hk : k < nc) (hσ : σ < 64) (hpn : ∀ x ∈ p, x < n) (hm : (plL 6 σ).length = p.length) (h171 : ∀ i, i < p.length → T.2.2.1 171 (6 * (64 * k + σ) + i) = Int32.ofNat (f (p.getD i 0))) : t_863 (Int32.ofNat k) (Int32.ofNat σ) T = some ((tls t k f 0 (bgN t k) (bN (t.2.2.1 159 k)) p).foldl (wr4 k) T) := by
  have hn := v.2.1
  have hcar := v.2.2.2.2.1 k hk
  have hp6 : p.length ≤ 6 := by rw [← hm]; exact plL_len 6 σ
  suffices q : Tr (t_863 (Int32.ofNat k) (Int32.ofNat σ) T) (fun x => x = (tls t k f 0 (bgN t k) (bN (t.2.2.1 159 k)) p).foldl (wr4 k) T) by
    obtain ⟨x, h1, h2⟩ := q
    rw [h1, h2]
  have hbeg : t_856 (Int32.ofNat k) T = some (Int32.ofNat (bgN t k)) := by
    rw [← t_begins v (Sr.refl t) hk]
    unfold t_856 rdI
    rw [hT.2.2.1 160 (by omega) (by omega) (by omega), hT.1 612 (by omega)]
  unfold t_863
  rw [hbeg, Option.bind_some, rdI_n (by omega) (by omega), hT.2.2.1 159 (by omega) (by omega) (by omega), Option.bind_some]
  refine Tr.bd (P := fun x => x = Int32.ofNat p.length) (wh_cnt 6 (fun i st => st = (Int32.ofNat (plL i σ).length, Int32.ofNat i)) ?_ ?_ rfl) ?_
  · rintro i _ hi rfl
    refine Or.inr ⟨_, ?_, rfl⟩
    dsimp only
    rw [if_pos ((i_ltL (by omega) (by omega)).mpr hi), i_bt (by omega) (by omega), i_add, i_suc, plL_suc, List.length_append]
    have := bt_2 σ i
    by_cases h : bt σ i = 1
    · rw [if_pos h, h]; rfl
    · rw [if_neg h, show bt σ i = 0 by omega]; rfl
  · rintro _ rfl
    refine ⟨_, ?_, rfl⟩
    dsimp only
    rw [if_neg (by rw [i_ltL (by omega) (by omega)]; omega), hm]
  · rintro _ rfl
    refine Tr.bd (P := fun x => x = (tls t k f 0 (bgN t k) (bN (t.2.2.1 159 k)) p).foldl (wr4 k) T) (wh_cnt p.length (fun i st => ∃ V sec a, st = (V, Int32.ofNat sec, Int32.ofNat a, Int32.ofNat i) ∧ (tls t k f i sec a (p.drop i)).foldl (wr4 k) V = (tls t k f 0 (bgN t k) (bN (t.2.2.1 159 k)) p).foldl (wr4 k) T ∧ Tl t V ∧ V.2.2.1 171 = T.2.2.1 171 ∧ sec ≤ 100000 + 600 * i ∧ a < 60) ?_ ?_ ⟨T, bgN t k, bN (t.2.2.1 159 k), ?_, rfl, hT, rfl, by have := lv_bg v hk; omega, hcar.2.1.2⟩) ?_
    · rintro i _ hi ⟨V, sec, a, rfl, e1, e2, e3, e4, e5⟩
      have hx : p.getD i 0 < n := by
        rw [List.getD_eq_getElem?_getD, List.getElem?_eq_getElem hi]
        exact hpn _ (List.getElem_mem hi)
      have hd : p.drop i = p.getD i 0 :: p.drop (i + 1) := by
        rw [List.getD_eq_getElem?_getD, List.getElem?_eq_getElem hi]
        exact List.drop_eq_getElem_cons hi
      have hr := h171 i hi
      generalize hc : p.getD i 0 = c at hx hd hr
      obtain ⟨g1, ⟨⟨g2, g3⟩, ⟨g4, g5⟩, g6⟩, _⟩ := v.2.2.2.2.2.1 c hx
      have b1 := lv_pk (sec := sec) v hk hx e5
      have b2 := lv_dn (sec := sec) v hk hx e5
      have w1 : ∀ W : TS, W.2.2.1 158 = t.2.2.1 158 → t_857 (Int32.ofNat k) (Int32.ofNat a) (t.2.2.1 163 (f c)) W = some (Int32.ofNat (wyN t k a (bN (t.2.2.1 163 (f c))))) := by
        intro W hW
        rw [way_cg hW]
        conv => lhs; rw [g2]
        exact t_way v (Sr.refl t) hk e5 g3
      have w2 : ∀ W : TS, W.2.2.1 158 = t.2.2.1 158 → t_857 (Int32.ofNat k) (t.2.2.1 163 (f c)) (t.2.2.1 164 (f c)) W = some (Int32.ofNat (wyN t k (bN (t.2.2.1 163 (f c))) (bN (t.2.2.1 164 (f c))))) := by
        intro W hW
        rw [way_cg hW]
        conv => lhs; rw [g2, g4]
        exact t_way v (Sr.refl t) hk g3 g5
      have q1 : Int32.ofNat sec + Int32.ofNat (wyN t k a (bN (t.2.2.1 163 (f c)))) = Int32.ofNat (pkN t k sec a (f c)) := i_add ..
      have q2 : Int32.ofNat (pkN t k sec a (f c)) + 3 + Int32.ofNat (wyN t k (bN (t.2.2.1 163 (f c))) (bN (t.2.2.1 164 (f c)))) = Int32.ofNat (dnN t k sec a (f c)) := by
        rw [i_addL, i_add]; rfl
      refine Or.inr ⟨(wr4 k V (f c, pkN t k sec a (f c), dnN t k sec a (f c), i), Int32.ofNat (dnN t k sec a (f c) + 3), Int32.ofNat (bN (t.2.2.1 164 (f c))), Int32.ofNat (i + 1)), ?_, _, _, _, rfl, ?_, e2.w4, ?_, by omega, g5⟩
      · dsimp only
        generalize hV1 : wrI (wrI V 172 (f c) (Int32.ofNat k)) 175 (f c) (Int32.ofNat i) = V1
        have l1 : Tl t V1 := by rw [← hV1]; exact (e2.wr (by omega)).wr (by omega)
        generalize hV2 : wrI V1 173 (f c) (Int32.ofNat (pkN t k sec a (f c))) = V2
        have l2 : Tl t V2 := by rw [← hV2]; exact l1.wr (by omega)
        have m2 : V2.2.2.1 173 (f c) = Int32.ofNat (pkN t k sec a (f c)) := by rw [← hV2, wr_at, if_pos ⟨rfl, rfl⟩]
        generalize hV3 : wrI V2 174 (f c) (Int32.ofNat (dnN t k sec a (f c))) = V3
        have l3 : Tl t V3 := by rw [← hV3]; exact l2.wr (by omega)
        have m3 : V3.2.2.1 174 (f c) = Int32.ofNat (dnN t k sec a (f c)) := by rw [← hV3, wr_at, if_pos ⟨rfl, rfl⟩]
        rw [if_pos ((i_lt (by omega) (by omega)).mpr hi), at_of, i_mulL, i_add, rdI_n (by omega) (by omega), e3, hr, Option.bind_some, stI_n (by omega) (by omega), Option.bind_some, stI_n (by omega) (by omega), Option.bind_some, hV1, rdI_n (by omega) (by omega), l1.2.2.1 163 (by omega) (by omega) (by omega), Option.bind_some, w1 V1 (l1.2.2.1 158 (by omega) (by omega) (by omega)), Option.bind_some, q1, stI_n (by omega) (by omega), Option.bind_some, hV2, rdI_n (by omega) (by omega), m2, Option.bind_some, rdI_n (by omega) (by omega), l2.2.2.1 163 (by omega) (by omega) (by omega), Option.bind_some, rdI_n (by omega) (by omega), l2.2.2.1 164 (by omega) (by omega) (by omega), Option.bind_some, w2 V2 (l2.2.2.1 158 (by omega) (by omega) (by omega)), Option.bind_some, q2, stI_n (by omega) (by omega), Option.bind_some, hV3, rdI_n (by omega) (by omega), m3, Option.bind_some, rdI_n (by omega) (by omega), l3.2.2.1 164 (by omega) (by omega) (by omega), Option.bind_some, i_addL, i_suc, ← g4, ← hV3, ← hV2, ← hV1]
        rfl
      · rw [← e1, hd]; rfl
      · rw [← e3]
        exact fold_171 (l := [(f c, pkN t k sec a (f c), dnN t k sec a (f c), i)]) (by omega)
    · rintro _ ⟨V, sec, a, rfl, e1, e2, e3, e4, e5⟩
      refine ⟨V, ?_, ?_⟩
      · dsimp only
        rw [if_neg (by rw [i_lt (by omega) (by omega)]; omega)]
      · rw [List.drop_length] at e1
        exact e1
    · conv => lhs; rw [hcar.2.1.1]
      rfl
    · rintro _ rfl
      exact ⟨_, rfl, rfl⟩
theorem plL_6 {n σ : Nat} (hn : n ≤ 6) (hσ : σ < 2 ^ n) : plL 6 σ = plL n σ := by
  obtain ⟨d, hd⟩ : ∃ d, 6 = n + d := ⟨6 - n, by omega⟩
  rw [hd]
  clear hd
  induction d with
  | zero => rfl
  | succ d ih =>
    rw [← Nat.add_assoc, plL_suc, ih, bt_hi hσ (by omega)]; simp
theorem bstR_ok {t : TS} {nc n k σ : Nat} {f : Nat → Nat} (v : Lv t nc n f) (hk : k < nc) (hfe : feas (fun k i => fit t k (f i)) n k σ) (hu : ∀ x y, x < n → y < n → begB t f k x = true → begB t f k y = true → x = y) : (bstR t n f k σ).1 ≤ 126600000 ∧ (bstR t n f k σ).2.length = (plL n σ).length ∧ ∀ x ∈ (bstR t n f k σ).2, x ∈ plL n σ := by
  unfold bstR
  rw [if_pos hfe]
  have hl := plL_len n σ
  have hn6 := v.2.2.1
  refine bsr_some _ _ _ _ (plL_pw n σ) (fun x hx y hy => hu x y (plL_mem.mp hx).1 (plL_mem.mp hy).1) (fun p h1 h2 => ?_) (by omega)
  have h3 := lv_rw v hk p (bgN t k) (bN (t.2.2.1 159 k)) (fun x hx => (plL_mem.mp (h2 x hx)).1) (v.2.2.2.2.1 k hk).2.1.2 (by have := lv_bg v hk; omega)
  have : p.length * 21100000 ≤ 6 * 21100000 := Nat.mul_le_mul_right _ (by omega)
  omega
theorem bstR_no {t : TS} {n k σ : Nat} {f : Nat → Nat} (h : ¬ feas (fun k i => fit t k (f i)) n k σ) : bstR t n f k σ = (1152921504606846976, []) := by
  unfold bstR; rw [if_neg h]
/-- the best way to deal out -/
noncomputable def bstW (t : TS) (nc n : Nat) (f : Nat → Nat) : Nat × Nat := dealF nc (smW t nc n f) n 0 (1152921504606846976, 0)
theorem bstW_ok {t : TS} {nc n : Nat} {f : Nat → Nat} (v : Lv t nc n f) (hu : ∀ k, k < nc → ∀ x y, x < n → y < n → begB t f k x = true → begB t f k y = true → x = y) (hc : ∀ i, i < n → ∃ k, k < nc ∧ fit t k (f i) = true) : (bstW t nc n f).1 ≤ 4 * 126600000 ∧ (bstW t nc n f).2 < nc ^ n ∧ ∀ k, k < nc → feas (fun k i => fit t k (f i)) n k (bitW nc n (bstW t nc n f).2 k) := by
  obtain ⟨w, h1, h2⟩ := way_ex (fz := fun k i => fit t k (f i)) n hc
  have hn := v.2.1
  have hS : smW t nc n f w ≤ 4 * 126600000 := by
    refine Nat.le_trans (sumN_le (B := 126600000) (fun c hcn => (bstR_ok v hcn (h2 c) (hu c hcn)).1)) ?_
    exact Nat.mul_le_mul_right _ hn
  have hle : (bstW t nc n f).1 ≤ smW t nc n f w := by
    unfold bstW dealF
    refine foldW_mem ?_
    rw [List.mem_range'_1]
    omega
  have hin : bstW t nc n f = (1152921504606846976, 0) ∨ ((bstW t nc n f).2 ∈ List.range' (0 * nc ^ n) (nc ^ n) ∧ (bstW t nc n f).1 = smW t nc n f (bstW t nc n f).2) := foldW_in
  rcases hin with e | ⟨e1, e2⟩
  · rw [e] at hle
    have hle : 1152921504606846976 ≤ smW t nc n f w := hle
    omega
  · refine ⟨by omega, by rw [List.mem_range'_1] at e1; omega, fun k hk => ?_⟩
    by_cases hf : feas (fun k i => fit t k (f i)) n k (bitW nc n (bstW t nc n f).2 k)
    · exact hf
    · have h3 := sumN_ge (f := fun c => (bstR t n f c (bitW nc n (bstW t nc n f).2 c)).1) hk
      rw [bstR_no hf] at h3
      have h3 : 1152921504606846976 ≤ smW t nc n f (bstW t nc n f).2 := h3
      omega
def rsL (nk : Nat) (T : TS) : TS := (List.range nk).foldl (fun T c => wrI T 172 c (-1)) T
theorem rsL_suc (nk : Nat) (T : TS) : rsL (nk + 1) T = wrI (rsL nk T) 172 nk (-1) := by
  unfold rsL
  rw [List.range_succ, List.foldl_append]; rfl
theorem rsL_tl {t T : TS} (h : Tl t T) (nk : Nat) : Tl t (rsL nk T) := by
  induction nk with
  | zero => exact h
  | succ k ih => rw [rsL_suc]; exact ih.wr (by omega)
theorem rsL_171 {T : TS} (nk : Nat) {c : Nat} (hc : c ≠ 172) : (rsL nk T).2.2.1 c = T.2.2.1 c := by
  induction nk with
  | zero => rfl
  | succ k ih =>
    rw [rsL_suc, ← ih]
    funext q
    rw [wr_ne hc]
/-- what the reference tells of all cars -/
noncomputable def tellAll (t : TS) (nc n : Nat) (f : Nat → Nat) (w m : Nat) (T : TS) : TS := (List.range m).foldl (fun T k => (tls t k f 0 (bgN t k) (bN (t.2.2.1 159 k)) (bstR t n f k (bitW nc n w k)).2).foldl (wr4 k) T) T
theorem tellAll_suc (t : TS) (nc n : Nat) (f : Nat → Nat) (w m : Nat) (T : TS) : tellAll t nc n f w (m + 1) T = (tls t m f 0 (bgN t m) (bN (t.2.2.1 159 m)) (bstR t n f m (bitW nc n w m)).2).foldl (wr4 m) (tellAll t nc n f w m T) := by
  unfold tellAll
  rw [List.range_succ, List.foldl_append]; rfl
theorem tellAll_tl {t : TS} {nc n : Nat} {f : Nat → Nat} {w m : Nat} {T : TS} (h : Tl t T) : Tl t (tellAll t nc n f w m T) := by
  induction m with
  | zero => exact h
  | succ m ih => rw [tellAll_suc]; exact Tl.fold ih
theorem tellAll_171 {t : TS} {nc n : Nat} {f : Nat → Nat} {w m : Nat} {T : TS} {c : Nat} (h : ¬ (172 ≤ c ∧ c ≤ 175)) : (tellAll t nc n f w m T).2.2.1 c = T.2.2.1 c := by
  induction m with
  | zero => rfl
  | succ m ih => rw [tellAll_suc, fold_171 h, ih]
/-- give, behind the choice -/
theorem t_give {t0 t : TS} {nc n nk : Nat} {f : Nat → Nat} (v : Lv t nc n f) (h0 : 0 < n → t.1 613 = 0) (hch : t_852 t0 = some t) (h606 : t.1 606 = Int32.ofNat nk) (hnk : nk ≤ 400) (hu : ∀ k, k < nc → ∀ x y, x < n → y < n → begB t f k x = true → begB t f k y = true → x = y) (hc : ∀ i, i < n → ∃ k, k < nc ∧ fit t k (f i) = true) : Tr (t_851 t0) (fun x => x.1 = Int64.ofNat (bstW t nc n f).1 ∧ ∃ V, Sr t V ∧ x.2 = tellAll t nc n f (bstW t nc n f).2 nc (rsL nk V)) := by
  have hn := v.2.1
  have hn6 := v.2.2.1
  have h46 := pow_46 hn hn6
  have hW := bstW_ok v hu hc
  unfold t_851
  rw [hch, Option.bind_some]
  refine Tr.bd (P := fun x => x = Int32.ofNat (nc ^ n)) (wh_cnt n (fun i st => st = (Int32.ofNat (nc ^ i), Int32.ofNat i)) ?_ ?_ rfl) ?_
  · rintro i _ hi rfl
    refine Or.inr ⟨_, ?_, rfl⟩
    dsimp only
    rw [v.2.2.2.2.2.2.2.1, if_pos ((i_lt (by omega) (by omega)).mpr hi), v.1, i_mul, i_suc, Nat.pow_succ]
  · rintro _ rfl
    refine ⟨_, ?_, rfl⟩
    dsimp only
    rw [v.2.2.2.2.2.2.2.1, if_neg (by rw [i_lt (by omega) (by omega)]; omega)]
  rintro _ rfl
  refine Tr.bd (t_sets v h0) ?_
  rintro V ⟨hV, hC⟩
  refine Tr.bd (P := fun x => x = (Int64.ofNat (bstW t nc n f).1, Int32.ofNat (bstW t nc n f).2)) (wh_cnt (nc ^ n) (fun i st => st = (Int64.ofNat ((List.range i).foldl (updW (smW t nc n f)) (1152921504606846976, 0)).1, Int32.ofNat ((List.range i).foldl (updW (smW t nc n f)) (1152921504606846976, 0)).2, Int32.ofNat i)) ?_ ?_ rfl) ?_
  · rintro i _ hi rfl
    refine Or.inr ⟨_, ?_, rfl⟩
    dsimp only
    have hb : ((List.range i).foldl (updW (smW t nc n f)) (1152921504606846976, 0)).1 ≤ 1152921504606846976 := foldW_le
    have hs : smW t nc n f i ≤ 4 * 1152921504606846976 := Nat.le_trans (sumN_le (fun c _ => bstR_le ..)) (Nat.mul_le_mul_right _ hn)
    rw [if_pos ((i_lt (by omega) (by omega)).mpr hi), t_sum v hV (by omega) hC, Option.bind_some, List.range_succ, List.foldl_append, i_suc]
    generalize (List.range i).foldl (updW (smW t nc n f)) (1152921504606846976, 0) = b at hb
    show _ = some (Sum.inl (Int64.ofNat (updW (smW t nc n f) b i).1, Int32.ofNat (updW (smW t nc n f) b i).2, Int32.ofNat (i + 1)))
    unfold updW
    by_cases h : smW t nc n f i < b.1
    · rw [if_pos h, if_pos ((l_cmp (by omega) (by omega)).mpr h), if_pos ((l_cmp (by omega) (by omega)).mpr h)]; rfl
    · rw [if_neg h, if_neg (fun z => h ((l_cmp (by omega) (by omega)).mp z)), if_neg (fun z => h ((l_cmp (by omega) (by omega)).mp z))]; rfl
  · rintro _ rfl
    refine ⟨_, ?_, rfl⟩
    dsimp only
    rw [if_neg (by rw [i_lt (by omega) (by omega)]; omega)]
    unfold bstW dealF
    rw [Nat.zero_mul, ← List.range_eq_range']
  rintro _ rfl
  have hVT : Tl t V := ⟨hV.1, hV.2.1, fun c h1 h2 _ => hV.2.2.1 c h1 h2, hV.2.2.2⟩
  refine Tr.bd (P := fun x => x = rsL nk V) (wh_cnt nk (fun i st => st = (rsL i V, Int32.ofNat i)) ?_ ?_ rfl) ?_
  · rintro i _ hi rfl
    refine Or.inr ⟨_, ?_, rfl⟩
    dsimp only
    rw [(rsL_tl hVT i).1 606 (by omega), h606, if_pos ((i_lt (by omega) (by omega)).mpr hi), stI_n (by omega) (by omega), Option.bind_some, i_suc, rsL_suc]
  · rintro _ rfl
    refine ⟨_, ?_, rfl⟩
    dsimp only
    rw [(rsL_tl hVT nk).1 606 (by omega), h606, if_neg (by rw [i_lt (by omega) (by omega)]; omega)]
  rintro _ rfl
  refine Tr.bd (P := fun x => x = tellAll t nc n f (bstW t nc n f).2 nc (rsL nk V)) (wh_cnt nc (fun i st => st = (tellAll t nc n f (bstW t nc n f).2 i (rsL nk V), Int32.ofNat i)) ?_ ?_ rfl) ?_
  · rintro i _ hi rfl
    refine Or.inr ⟨_, ?_, rfl⟩
    dsimp only
    have hT := tellAll_tl (t := t) (nc := nc) (n := n) (f := f) (w := (bstW t nc n f).2) (m := i) (rsL_tl hVT nk)
    have hbw := bitW_lt nc n (bstW t nc n f).2 i
    have hp6 := pow_n6 hn6
    have hB := bstR_ok v hi (hW.2.2 i hi) (hu i hi)
    rw [hT.1 600 (by omega), v.1, if_pos ((i_lt (by omega) (by omega)).mpr hi), t_bits ((hT.1 600 (by omega)).trans v.1) (by omega) hn ((hT.1 614 (by omega)).trans v.2.2.2.2.2.2.2.1) hn6 (by omega) (by omega), Option.bind_some, t_tell v hT hi (by omega) (fun x hx => (plL_mem.mp (hB.2.2 x hx)).1) (by rw [plL_6 hn6 hbw, hB.2.1]) (fun j hj => by
      rw [tellAll_171 (by omega), rsL_171 nk (by omega)]
      exact (hC i _ hi hbw).2 j hj), Option.bind_some, i_suc, tellAll_suc]
  · rintro _ rfl
    refine ⟨_, ?_, rfl⟩
    dsimp only
    rw [(tellAll_tl (rsL_tl hVT nk)).1 600 (by omega), v.1, if_neg (by rw [i_lt (by omega) (by omega)]; omega)]
  rintro _ rfl
  exact ⟨_, rfl, rfl, V, hV, rfl⟩
