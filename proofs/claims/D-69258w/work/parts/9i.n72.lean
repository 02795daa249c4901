/-! the plan: a line is put into the plan -/
section
variable {own : Nat → Nat} {s : CS} {t T : TS}
theorem cmp2 (v1 v2 v3 v4 : Int32) : Option.bind (if v1 = v3 then some (1 : Int32) else some 0) (fun v18 => Option.bind (if v2 = v4 then some (1 : Int32) else some 0) (fun v24 => (if v18 = v24 then some (0 : Int32) else some 1))) = if v1 = v3 then (if v2 = v4 then some 0 else some 1) else (if v2 = v4 then some 1 else some 0) := by
  by_cases a : v1 = v3 <;> by_cases b : v2 = v4 <;> simp [a, b]
theorem smL_c {L L' : PLn} {l : Nat} (h : L' l = L l) : smL L' l ↔ smL L l := by
  unfold smL pHX pHY pX pY pN pFl
  rw [h]
theorem smL_v {L : PLn} {n a b c d : Nat} (ha : a < 25) (hb : b < 25) (hc : c < 25) (hd : d < 25) (h : ¬ (a = c ↔ b = d)) : smL (updL L n (lnV a b c d)) n := by
  unfold smL pHX pHY pX pY pN pFl
  rw [updL_eq]
  show 0 < (max a c - min a c) + (max b d - min b d) ∧ min a c + (if decide (b = d) = true then (max a c - min a c) + (max b d - min b d) else 0) ≤ 24 ∧ min b d + (if decide (b = d) = true then 0 else (max a c - min a c) + (max b d - min b d)) ≤ 24
  by_cases z : b = d
  · rw [if_pos (decide_eq_true z), if_pos (decide_eq_true z)]
    have : a ≠ c := fun w => h ⟨fun _ => z, fun _ => w⟩
    omega
  · rw [if_neg (fun w => z (of_decide_eq_true w)), if_neg (fun w => z (of_decide_eq_true w))]
    have : a = c := Classical.byContradiction (fun w => h ⟨fun y => absurd y w, fun y => absurd y z⟩)
    omega
theorem ln1_c {L L' : PLn} {l : Nat} (h : L' l = L l) (e : ∀ c, T.2.2.1 c l = t.2.2.1 c l) (r : ln1 t L l) : ln1 T L' l := by
  unfold ln1 pX pY pFl pN at *
  rw [h, e, e, e, e]
  exact r
theorem gdL_add {L : PLn} {nl a b c d : Nat} (hg : gdL L nl) (hn : nl < 20) (sm : smL (updL L nl (lnV a b c d)) nl) (al : alnL (updL L nl (lnV a b c d)) nl nl) : gdL (updL L nl (lnV a b c d)) (nl + 1) := by
  refine ⟨by omega, fun l hl => ?_, fun l m hl hm hne => ?_⟩
  · by_cases z : l = nl
    · rw [z]; exact sm
    · show smL (updL L nl (lnV a b c d)) l
      exact (smL_c (updL_ne z)).mpr (hg.2.1 l (by omega))
  · by_cases z : l = nl
    · rw [z] at hne ⊢
      exact nov_sy (al m (by omega) (fun w => hne w.symm))
    · by_cases w : m = nl
      · rw [w] at hne ⊢
        exact al l (by omega) hne
      · exact (nov_c (updL_ne z) (updL_ne w)).mpr (hg.2.2 l m (by omega) (by omega) hne)
theorem pl_line (hw : wfS s) (r : R2 (rs s.1 own 2) t) (h179 : 179 ≤ s.2.1) (v1 v2 v3 v4 : Int32) : Rg thr0 (fun X => X = 2) 2 (R2k t) own s t 4 29 (c_890 102 v1 v2 v3 v4 s) (t_557 v1 v2 v3 v4 t) := by
  have hR : R2k t (rs s.1 own) t := ⟨r, Or.inr rfl⟩
  obtain ⟨L, nl, LC, LD, DC, nd, fo, be, co, fi, r⟩ := r
  obtain ⟨g1, ⟨ml, g2⟩, g3, g4, g5, g6⟩ := pl_lnk r
  obtain ⟨r1, r2, r3, r4, ⟨l1, l2, ⟨ml', l3⟩, l6⟩, ⟨d1, d2⟩, r7⟩ := r
  unfold c_890 t_557
  rw [c_in25, Option.bind_some, c_in25 v2, c_in25 v3, c_in25 v4, cmp2, ln_arg, Option.bind_some, t_in25, Option.bind_some, t_in25 v2, t_in25 v3, t_in25 v4, ln_arg, Option.bind_some, need_eq, g5]
  have st : (if t.1 1 = 0 then (if Int32.ofNat nl < 20 then some (1 : Int32) else some 0) else some 0) = some (if t.1 1 = 0 ∧ nl < 20 then 1 else 0) := by
    by_cases y : t.1 1 = 0
    · rw [if_pos y]
      by_cases w : nl < 20
      · rw [if_pos ((i_ltL (by omega) (by decide)).mpr w), if_pos ⟨y, w⟩]
      · rw [if_neg (fun p => w ((i_ltL (by omega) (by decide)).mp p)), if_neg (fun p => w p.2)]
    · rw [if_neg y, if_neg (fun p => y p.1)]
  rw [st, Option.bind_some]
  by_cases ar : lnA v1 v2 v3 v4
  · rw [if_pos ar, if_neg (show ¬ (1 : Int32) = 0 by decide), Option.bind_some, Sum.elim_inl, xI_o (x := t.1 1) g1 rfl rfl, Option.bind_some, xN_o (b := 103) g1 rfl rfl, Option.bind_some, if_pos (isK_t g2 rfl), alSize_r g2, Option.bind_some, st, Option.bind_some, may_eq]
    by_cases y : t.1 1 = 0 ∧ nl < 20
    · rw [if_pos y, if_neg (show ¬ (1 : Int32) = 0 by decide), goes_1 t (show ¬ (1 : Int32) = 0 by decide), Option.bind_some, Option.bind_some, Sum.elim_inl]
      dsimp only
      rw [if_neg (show ¬ (1 : Int32) = 0 by decide)]
      obtain ⟨a, b, c, d, rfl, rfl, rfl, rfl, ha, hb, hc, hd, hne⟩ := lnA_n ar
      have t100 : (ptI t 0 0).1 100 = Int32.ofNat nl := g5
      rw [t_lnI y.2 t100 ha hb hc hd]
      obtain ⟨S1, e1, w1⟩ := nw_o (s := s) 59 [.int 0, .int 0, .int 0, .int 0, .int 0, .null] hw
      have k1 : ∀ q c, s.1 q = some c → S1.1 q = some c := fun q c e => by rw [w1.2.1 q (by have := wf_lt hw e; omega)]; exact e
      rw [e1, Option.bind_some]
      dsimp only
      rw [xN_o (b := 103) (k1 _ _ g1) rfl rfl, Option.bind_some, if_pos (isK_t (k1 _ _ g2) rfl), alSize_r (k1 _ _ g2), Option.bind_some, if_pos (isK_t w1.1 rfl)]
      obtain ⟨S2, e2, p1, p2, p3, w2, n2, x2, y2⟩ := c_lnI (L := L) (LD := LD) (n := nl) w1.2.2.2.1 w1.1 ha hb hc hd
      rw [e2, Option.bind_some]
      rw [w1.2.2.1] at p1 p2 p3 n2
      have k2 : ∀ q c, s.1 q = some c → S2.1 q = some c := fun q c e => by
        have := wf_lt hw e
        rw [p3 q (by omega) (by omega)]; exact k1 q c e
      have smn := smL_v (L := L) (n := nl) ha hb hc hd hne
      have lnn := lnT_n (t := ptI t 0 0) y.2 (L := L) (a := a) (b := b) (c := c) (d := d)
      have old : ∀ l, l < nl → updL L nl (lnV a b c d) l = L l := fun l hl => updL_ne (by omega)
      have oldD : ∀ l, l < nl → upd1 LD nl (s.2.1 + 1) l = LD l := fun l hl => upd1_ne (by omega)
      have oldT : ∀ l cc, l < nl → (lnT (ptI t 0 0) nl (lnV a b c d)).2.2.1 cc l = t.2.2.1 cc l := fun l cc hl => lnT_o (by omega)
      have smA : ∀ l, l < nl ∨ l = nl → smL (updL L nl (lnV a b c d)) l := by
        rintro l (hl | rfl)
        · exact (smL_c (old l hl)).mpr (g6 l hl).1
        · exact smn
      have lnA' : ∀ l, l < nl ∨ l = nl → ln1 (lnT (ptI t 0 0) nl (lnV a b c d)) (updL L nl (lnV a b c d)) l ∧ smL (updL L nl (lnV a b c d)) l := by
        rintro l (hl | rfl)
        · exact ⟨ln1_c (t := t) (old l hl) (fun cc => oldT l cc hl) (g6 l hl).2, smA l (Or.inl hl)⟩
        · exact ⟨lnn.1, smn⟩
      have lcl : ∀ l, l < nl → S2.1 (LC l) = some (lcC (updL L nl (lnV a b c d)) (upd1 LD nl (s.2.1 + 1)) l) := fun l hl => by
        rw [lcC_c (old l hl) (oldD l hl)]; exact k2 _ _ (g3 l hl)
      have lLC : ∀ l, l < nl → LC l < s.2.1 := fun l hl => wf_lt hw (g3 l hl)
      rw [if_pos (isK_t (k2 _ _ g1) rfl), c_free (s := S2) (v1 := s.2.1) (k := nl) g4 (k2 _ _ g1) (k2 _ _ g2) lcl p1 (fun l hl => ⟨fun e => by have := lLC l hl; omega, fun e => by omega⟩) smA, t_alone (T := lnT (ptI t 0 0) nl (lnV a b c d)) (nl := nl) t100 y.2 lnA' g4, Option.bind_some, Option.bind_some]
      dsimp only
      obtain ⟨S3, hS3⟩ : ∃ S3, S3 = chg S2 1 4 := ⟨_, rfl⟩
      rw [← hS3]
      have f3 : S3.1 = S2.1 := by rw [hS3]; rfl
      have c3 : S3.2.1 = s.2.1 + 2 ∧ S3.2.2.1 = s.2.2.1 + 3 ∧ S3.2.2.2 = s.2.2.2 + 13 := by
        rw [hS3]
        refine ⟨?_, ?_, ?_⟩
        · show S2.2.1 = _; omega
        · show S2.2.2.1 + 1 = _; rw [x2, w1.2.2.2.2.1]
        · show S2.2.2.2 + 4 = _; rw [y2, w1.2.2.2.2.2]; rfl
      have w3 : wfS S3 := by rw [hS3]; exact wf_chg w2
      have ow0 : ∀ q, q < s.2.1 → ow2 own s.2.1 q = own q := fun q hq => if_neg (by omega)
      have kr : ∀ (U : CS), (∀ q c, s.1 q = some c → q ≠ 103 → q ≠ 102 → U.1 q = some c) → ∀ q c, rs s.1 own 2 q = some c → q ≠ 103 → q ≠ 102 → rs U.1 (ow2 own s.2.1) 2 q = some c := by
        intro U h q c e h1 h2
        obtain ⟨x1, x2⟩ := rs_some.mp e
        exact rs_some.mpr ⟨by rw [ow0 q (wf_lt hw x2)]; exact x1, h q c x2 h1 h2⟩
      have LD103 : ∀ l, l < nl → LD l ≠ 103 ∧ LD l ≠ 102 ∧ LC l ≠ 103 ∧ LC l ≠ 102 := fun l hl => by
        have := l6 l hl
        have := (d1 l hl).2.2.1
        omega
      by_cases al : alnL (updL L nl (lnV a b c d)) nl nl
      · rw [if_pos al, if_neg (show ¬ (1 : Int32) = 0 by decide), if_neg (show ¬ (1 : Int32) = 0 by decide)]
        have kU : ∀ q c, s.1 q = some c → S3.1 q = some c := fun q c e => by rw [f3]; exact k2 q c e
        rw [xN_o (b := 103) (kU _ _ g1) rfl rfl, Option.bind_some, if_pos (isK_t (kU _ _ g2) rfl), alAdd_r (kU _ _ g2) (by omega) (elO_o (show S3.1 s.2.1 = some (true, false, _, _) from by rw [f3]; exact p1)), Option.bind_some]
        obtain ⟨S4, hS4⟩ : ∃ S4, S4 = cput S3 1013 103 1 16 (.int (ml + 1) :: rowC (fun j => if j = nl then Value.ref s.2.1 else (fun l => Value.ref (LC l)) j) (nl + 1)) := ⟨_, rfl⟩
        rw [← hS4]
        have a4 : S4.1 103 = some (true, false, 1013, .int (ml + 1) :: rowC (fun j => if j = nl then Value.ref s.2.1 else (fun l => Value.ref (LC l)) j) (nl + 1)) := by rw [hS4]; exact cput_eq ..
        have n4 : ∀ q, q ≠ 103 → S4.1 q = S3.1 q := fun q hq => by rw [hS4]; exact cput_ne hq
        have v4 : S4.1 102 = some (true, false, 67, [.ref 103, fo, be, co, .int (t.1 110), .int (t.1 111), .int (t.1 1)]) := by rw [n4 102 (by omega)]; exact kU _ _ g1
        rw [xP_o (k := 4) v4 rfl (by show 4 < 7; decide), Option.bind_some]
        obtain ⟨S5, hS5⟩ : ∃ S5, S5 = cup S4 102 (true, false, 67, [Value.ref 103, fo, be, co, .int (t.1 110), .int (t.1 111), .int (t.1 1)].set 4 (.int 0)) := ⟨_, rfl⟩
        rw [← hS5]
        have a5 : S5.1 102 = some (true, false, 67, [.ref 103, fo, be, co, .int 0, .int (t.1 111), .int (t.1 1)]) := by rw [hS5]; exact cup_eq ..
        have n5 : ∀ q, q ≠ 102 → S5.1 q = S4.1 q := fun q hq => by rw [hS5]; exact cup_ne hq
        have p5 : S5.1 s.2.1 = some (lcC (updL L nl (lnV a b c d)) (upd1 LD nl (s.2.1 + 1)) nl) := by rw [n5 _ (by omega), n4 _ (by omega), f3]; exact p1
        have q5 : S5.1 (s.2.1 + 1) = some (true, false, 1013, [.int 0]) := by rw [n5 _ (by omega), n4 _ (by omega), f3]; exact p2
        have kV : ∀ q c, s.1 q = some c → q ≠ 103 → q ≠ 102 → S5.1 q = some c := fun q c e h1 h2 => by rw [n5 q h2, n4 q h1]; exact kU q c e
        have kr' := kr S5 kV
        rw [xI_o (x := Int32.ofNat nl) p5 rfl rfl, Option.bind_some, Option.bind_some, Option.bind_some]
        have w5 : wfS S5 := by
          intro q hq
          have : S3.2.1 ≤ q := by rw [hS5, hS4] at hq; exact hq
          rw [n5 q (by omega), n4 q (by omega)]
          exact w3 q this
        have c5 : S5.2.1 = s.2.1 + 2 ∧ S5.2.2.1 = s.2.2.1 + 4 ∧ S5.2.2.2 = s.2.2.2 + 29 := by
          rw [hS5, hS4]
          refine ⟨c3.1, ?_, ?_⟩
          · show S3.2.2.1 + 1 = _; omega
          · show S3.2.2.2 + 16 = _; omega
        have ac : agr [0, 100, 110] [50, 51, 52, 53, 54] t (ptI (ptI (lnT (ptI t 0 0) nl (lnV a b c d)) 100 (Int32.ofNat nl + 1)) 110 0) := agr_p (agr_p (agr_trans (agr_p agr_refl (by simp)) (agr_mono lnT_a (by simp) (by simp))) (by simp)) (by simp)
        have o103 := (rs_some.mp l3.1).1
        have o102 := (rs_some.mp r1).1
        refine Or.inl ⟨Int32.ofNat nl, S5, _, ow2 own s.2.1, rfl, ?_, rfl, fun Z h1 h2 => agr_rt ac (fun c hc => ?_) (fun c hc => ?_), ⟨by omega, ow0, fun q hq hx => ?_, fun q h1 h2 => if_pos h1, w5⟩, ⟨?_, Or.inl y.1⟩, by omega, by omega⟩
        · show some (Int32.ofNat nl + 1 - 1, _) = _
          rw [Int32.add_sub_cancel]
        · simp only [List.mem_cons, List.not_mem_nil, or_false] at hc
          rcases hc with rfl | rfl | rfl <;> first | exact fun w => h1 w.symm | exact fun w => h2 w.symm
        · simp only [List.mem_cons, List.not_mem_nil, or_false] at hc
          rcases hc with rfl | rfl | rfl | rfl | rfl <;> exact fun w => h1 w.symm
        · rw [n5 q (fun w => hx (by rw [w]; exact o102)), n4 q (fun w => hx (by rw [w]; exact o103)), f3, p3 q (by omega) (by omega), w1.2.1 q (by omega)]
        · refine ⟨updL L nl (lnV a b c d), nl + 1, upd1 LC nl s.2.1, upd1 LD nl (s.2.1 + 1), DC, upd1 nd nl 0, fo, be, co, fi, ?_, ?_, ?_, r4, ⟨gdL_add l1 y.2 smn al, ⟨by rw [← i_suc]; rfl, fun l hl => ?_⟩, ⟨ml + 1, ?_, fun l hl => ?_, fun l m hl hm e => ?_⟩, fun l hl => ?_⟩, ⟨fun l hl => ?_, fun l m hl hm e => ?_⟩, ?_⟩
          · refine rs_some.mpr ⟨by rw [ow0 _ (wf_lt hw g1)]; exact o102, ?_⟩
            rw [a5]
            rfl
          · rw [ac.1 1 (by simp)]; exact r2
          · rw [ac.1 111 (by simp)]; exact r3
          · show (lnT (ptI t 0 0) nl (lnV a b c d)).2.2.1 50 l = _ ∧ (lnT (ptI t 0 0) nl (lnV a b c d)).2.2.1 51 l = _ ∧ (lnT (ptI t 0 0) nl (lnV a b c d)).2.2.1 52 l = _ ∧ (lnT (ptI t 0 0) nl (lnV a b c d)).2.2.1 53 l = _
            exact (lnA' l (by omega)).1.2
          · refine rs_some.mpr ⟨by rw [ow0 _ (wf_lt hw g2)]; exact o103, ?_⟩
            rw [n5 103 (by omega), a4]
            congr 4
            congr 1
            refine rowC_congr (fun j hj => ?_)
            by_cases z : j = nl
            · rw [if_pos z, upd1_eq z]
            · rw [if_neg z, upd1_ne z]
          · by_cases z : l = nl
            · rw [z, upd1_eq rfl]
              exact rs_some.mpr ⟨if_pos (Nat.le_refl _), p5⟩
            · rw [upd1_ne z, lcC_c (old l (by omega)) (oldD l (by omega))]
              exact kr' _ _ (l3.2.1 l (by omega)) (LD103 l (by omega)).2.2.1 (LD103 l (by omega)).2.2.2
          · by_cases z : l = nl <;> by_cases w : m = nl
            · omega
            · rw [upd1_eq z, upd1_ne w] at e
              have := lLC m (by omega); omega
            · rw [upd1_ne z, upd1_eq w] at e
              have := lLC l (by omega); omega
            · rw [upd1_ne z, upd1_ne w] at e
              exact l3.2.2 l m (by omega) (by omega) e
          · by_cases z : l = nl
            · rw [upd1_eq z]; exact h179
            · rw [upd1_ne z]; exact l6 l (by omega)
          · by_cases z : l = nl
            · rw [z, upd1_eq rfl, upd1_eq rfl]
              exact ⟨lnn.2, by omega, by omega, ⟨0, rs_some.mpr ⟨if_pos (by omega), q5⟩⟩, fun i hi => absurd hi (Nat.not_lt_zero _)⟩
            · rw [upd1_ne z, upd1_ne z]
              obtain ⟨x1, x2, x3, ⟨m', x4⟩, x5⟩ := d1 l (by omega)
              refine ⟨(oldT l 54 (by omega)).trans x1, x2, x3, ⟨m', kr' _ _ x4 (LD103 l (by omega)).1 (LD103 l (by omega)).2.1⟩, fun i hi => ?_⟩
              obtain ⟨y1, y2, y3⟩ := x5 i hi
              refine ⟨?_, y2, ?_⟩
              · unfold dcC
                rw [ac.2.2.1 55 (by simp), ac.2.2.1 56 (by simp), ac.2.2.1 57 (by simp)]
                exact kr' _ _ y1 (by omega) (by omega)
              · unfold okDoor at *
                rw [ac.2.2.1 55 (by simp), ac.2.2.1 56 (by simp), ac.2.2.1 57 (by simp)]
                obtain ⟨u1, u2, u3, u4, u5, u6, u7, u8, u9⟩ := y3
                refine ⟨u1, u2, u3, u4, u5, u6, u7, ?_, u9⟩
                rw [show pN (updL L nl (lnV a b c d)) l = pN L l by unfold pN; rw [old l (by omega)]]
                exact u8
          · have lLD : ∀ j, j < nl → LD j < s.2.1 := fun j hj => by
              obtain ⟨_, _, _, ⟨m', x4⟩, _⟩ := d1 j hj
              exact wf_lt hw (rs_some.mp x4).2
            by_cases z : l = nl <;> by_cases w : m = nl
            · omega
            · rw [upd1_eq z, upd1_ne w] at e
              have := lLD m (by omega); omega
            · rw [upd1_ne z, upd1_eq w] at e
              have := lLD l (by omega); omega
            · rw [upd1_ne z, upd1_ne w] at e
              exact d2 l m (by omega) (by omega) e
          · rw [ac.1 109 (by simp)]
            rcases r7 with ⟨w1', w2', w3'⟩ | ⟨fd, w1', w2', w3', w4⟩
            · exact Or.inl ⟨w1', w2', rfl⟩
            · refine Or.inr ⟨fd, w1', w2', Or.inl rfl, F2_up w4 (fun b c hb hc => ?_) ac (by simp) (by simp) (by simp) (fun l hl => oldT l 52 hl) (by omega) (fun l hl => by unfold pFl; rw [old l hl]) (fun l hl => upd1_ne (by omega)) (fun h => by cases h) (fun l hl => ?_)⟩
              · refine kr' b c hb (fun e => ?_) (fun e => ?_)
                · rw [e, l3.1] at hb
                  cases hb
                  rcases hc with hc | hc | hc | hc
                  · cases hc
                  · exact absurd hc.2 (by show ¬ (1013 : Nat) ≤ 66; decide)
                  · cases hc
                  · omega
                · rw [e, r1] at hb
                  cases hb
                  rcases hc with hc | hc | hc | hc
                  · cases hc
                  · exact absurd hc.2 (by show ¬ (67 : Nat) ≤ 66; decide)
                  · cases hc
                  · cases hc.1
              · by_cases z : l = nl
                · right
                  rw [upd1_eq z]
                  unfold rs
                  split
                  · exact hw _ (by omega)
                  · rfl
                · exact Or.inl ⟨by omega, upd1_ne z⟩
      · rw [if_neg al, if_pos rfl, if_pos rfl]
        have ac : agr [0] [50, 51, 52, 53, 54] t (lnT (ptI t 0 0) nl (lnV a b c d)) := agr_trans (agr_p agr_refl (by simp)) (agr_mono lnT_a (by simp) (by simp))
        have kU : ∀ q c, s.1 q = some c → S3.1 q = some c := fun q c e => by rw [f3]; exact k2 q c e
        have kr' : ∀ q c, rs s.1 own 2 q = some c → rs S3.1 (ow2 own s.2.1) 2 q = some c := fun q c e => by
          obtain ⟨x1, x2⟩ := rs_some.mp e
          exact rs_some.mpr ⟨by rw [ow0 q (wf_lt hw x2)]; exact x1, kU q c x2⟩
        refine Or.inl ⟨-1, S3, lnT (ptI t 0 0) nl (lnV a b c d), ow2 own s.2.1, rfl, rfl, rfl, fun Z h1 h2 => agr_rt ac (fun c hc => ?_) (fun c hc => ?_), ⟨by omega, ow0, fun q hq hx => by rw [f3, p3 q (by omega) (by omega), w1.2.1 q (by omega)], fun q h1 h2 => if_pos h1, w3⟩, ⟨?_, Or.inl y.1⟩, by omega, by omega⟩
        · simp only [List.mem_cons, List.not_mem_nil, or_false] at hc
          rw [hc]; exact fun w => h2 w.symm
        · simp only [List.mem_cons, List.not_mem_nil, or_false] at hc
          rcases hc with rfl | rfl | rfl | rfl | rfl <;> exact fun w => h1 w.symm
        · refine ⟨L, nl, LC, LD, DC, nd, fo, be, co, fi, ?_, ?_, ?_, r4, ⟨l1, ⟨by rw [ac.1 100 (by simp)]; exact g5, fun l hl => ?_⟩, ⟨ml', kr' _ _ l3.1, fun l hl => kr' _ _ (l3.2.1 l hl), l3.2.2⟩, l6⟩, ⟨fun l hl => ?_, d2⟩, ?_⟩
          · rw [ac.1 110 (by simp), ac.1 111 (by simp), ac.1 1 (by simp)]
            exact kr' _ _ r1
          · rw [ac.1 1 (by simp)]; exact r2
          · rw [ac.1 111 (by simp)]; exact r3
          · rw [oldT l 50 hl, oldT l 51 hl, oldT l 52 hl, oldT l 53 hl]; exact l2.2 l hl
          · obtain ⟨x1, x2, x3, ⟨m', x4⟩, x5⟩ := d1 l hl
            refine ⟨by rw [oldT l 54 hl]; exact x1, x2, x3, ⟨m', kr' _ _ x4⟩, fun i hi => ?_⟩
            obtain ⟨y1, y2, y3⟩ := x5 i hi
            have ed : dcC (lnT (ptI t 0 0) nl (lnV a b c d)) l i = dcC t l i := by unfold dcC; rw [ac.2.2.1 55 (by simp), ac.2.2.1 56 (by simp), ac.2.2.1 57 (by simp)]
            refine ⟨by rw [ed]; exact kr' _ _ y1, y2, ?_⟩
            unfold okDoor
            rw [ac.2.2.1 55 (by simp), ac.2.2.1 56 (by simp), ac.2.2.1 57 (by simp)]
            exact y3
          · rw [ac.1 109 (by simp), ac.1 110 (by simp)]
            rcases r7 with w | ⟨fd, w1, w2, w3, w4⟩
            · exact Or.inl w
            · exact Or.inr ⟨fd, w1, w2, w3, F2_up w4 (fun b c hb hc => kr' b c hb) ac (by simp) (by simp) (by simp) (fun l hl => oldT l 52 hl) (Nat.le_refl _) (fun _ _ => rfl) (fun _ _ => rfl) (fun h => ⟨by rw [← ac.1 110 (by simp)]; exact h, rfl, fun _ _ => rfl⟩) (fun l hl => Or.inl ⟨hl, rfl⟩)⟩
    · rw [if_neg y, if_pos rfl, goes_2 t, Option.bind_some, Option.bind_some]
      exact Rg.sta (x := 0) (a := 0) (b := 0) hw hR rfl rfl (Nat.zero_le _) (Nat.zero_le _)
  · rw [if_neg ar, if_pos rfl, goes_0, Option.bind_some, Option.bind_some]
    exact Rg.arg (x := 0) (a := 0) (b := 0) hw hR rfl rfl (Nat.zero_le _) (Nat.zero_le _)
end
