/-! the plan: spaces in the component -/
section
variable {L : PLn} {nl nr : Nat} {st ln : Nat → Nat} {lab : Int → Int → Int} {LC : Nat → Nat} {b0 : Nat} {h0 : lHeap} {s S : CS} {mp RL M : Nat} {pid nid aid : Nat → Nat → Nat} {si : Nat → Nat} {Kp : Nat → lCell → Prop} {od : List Nat} {rc rl q : Nat → Nat} {mr : Int32} {rsv : Nat → Value}
theorem SOt_new (o : SOt b0 h0 Kp s L nl nr st ln LC mp RL mr pid nid aid si od rc rl q rsv) (hS : ∀ a, a < s.2.1 → S.1 a = s.1 a) (hw : wfS S) (hn : s.2.1 ≤ S.2.1) : SOt b0 h0 Kp S L nl nr st ln LC mp RL mr pid nid aid si od rc rl q rsv := by
  obtain ⟨r1, r2, r3, r4, ⟨rv, r5, r6⟩, r7, r8, r9, r10, r11⟩ := o
  have keep : ∀ a c, s.1 a = some c → S.1 a = some c := fun a c h1 => by rw [hS a (wf_lt r1 h1)]; exact h1
  refine ⟨hw, by omega, fun a ha => ?_, fun a c hc => keep _ _ (r4 a c hc), ⟨rv, GSt_ext r5 (fun a c h1 _ _ => keep a c h1) (fun k hk => keep _ _ (r5.2.1 k hk).2), r6⟩, RGs_ext r7 (fun k hk => ?_), keep _ _ r8, r9, r10, r11⟩
  · rw [hS a (by omega)]; exact r3 a ha
  · obtain ⟨_, _, _, _, a5, mc, a6⟩ := r7.2.1 k hk
    exact ⟨hS _ (wf_lt r1 a5), hS _ (wf_lt r1 a6)⟩
theorem SOt_ring (o : SOt b0 h0 Kp s L nl nr st ln LC mp RL mr pid nid aid si od rc rl q rsv) (hK : ∀ a c, Kp a c → c.2.2.1 ≠ 66) {k : Nat} (hk : k ∈ od) {v : Value} : SOt b0 h0 Kp (cup s (rc k) (rgC L nl st ln nid rl v k)) L nl nr st ln LC mp RL mr pid nid aid si od rc rl q (fun k' => if k' = k then v else rsv k') := by
  obtain ⟨r1, r2, r3, r4, ⟨rv, r5, r6⟩, r7, r8, r9, r10, r11⟩ := o
  have hrc := (r7.2.1 k hk).2.2.2.2.1
  have hb := (r7.2.1 k hk).2.2.1
  have keep : ∀ a c, s.1 a = some c → c.2.2.1 ≠ 66 → (cup s (rc k) (rgC L nl st ln nid rl v k)).1 a = some c := fun a c h1 h2 => by
    rw [cup_ne (apart h1 hrc h2)]; exact h1
  refine ⟨wf_cup r1 (wf_lt r1 hrc), r2, fun a ha => ?_, fun a c hc => keep _ _ (r4 a c hc) (hK a c hc), ⟨rv, GSt_ext r5 (fun a c h1 h2 h3 => keep a c h1 (by omega)) (fun j hj => keep _ _ (r5.2.1 j hj).2 (by show ¬ (65 : Nat) = 66; decide)), r6⟩, ⟨r7.1, fun k' hk' => ?_, r7.2.2.1, r7.2.2.2⟩, keep _ _ r8 (by show ¬ (1013 : Nat) = 66; decide), r9, r10, r11⟩
  · rw [cup_ne (by omega)]; exact r3 a ha
  · obtain ⟨b1, b2, b3, b4, b5, mc2, b6⟩ := r7.2.1 k' hk'
    refine ⟨b1, b2, b3, b4, ?_, mc2, keep _ _ b6 (by show ¬ (1013 : Nat) = 66; decide)⟩
    dsimp only
    by_cases e : k' = k
    · rw [if_pos e, e, cup_eq]
    · rw [if_neg e, cup_ne (fun z => e (r7.2.2.1 k' hk' k hk z))]; exact b5
/-- the first spaces -/
def SPs (h : lHeap) (L : PLn) (nl nr : Nat) (st ln rc sp sl : Nat → Nat) (b0 i : Nat) : Prop := (∀ j, j < i → h (sp j) = some (true, false, 62, [.int (Int32.ofNat j), .ref (rc (lkF L nl nr st ln j)), .ref (sl j), .int 0]) ∧ h (sl j) = some (true, false, 1013, [.int 0]) ∧ b0 ≤ sp j ∧ b0 ≤ sl j) ∧ (∀ j k, j < i → k < i → sp j = sp k → j = k) ∧ ∀ j k, j < i → k < i → sl j = sl k → j = k
theorem c_newS {R : Nat} (hw : wfS s) (n : Int32) {A : Type} (g : Nat → CS → Option A) : ∃ S, Option.bind (some (nw s 62 [.int 0, .null, .null, .int 0])) (fun n16 => (if isK n16.2 [62] n16.1 = true then Option.bind (c_874 n16.1 n (some R) n16.2) (fun x21 => g n16.1 x21) else none)) = g s.2.1 S ∧ S.1 s.2.1 = some (true, false, 62, [.int n, .ref R, .ref (s.2.1 + 1), .int 0]) ∧ S.1 (s.2.1 + 1) = some (true, false, 1013, [.int 0]) ∧ (∀ a, a < s.2.1 → S.1 a = s.1 a) ∧ S.2.1 = s.2.1 + 2 ∧ wfS S ∧ S.2.2.1 = s.2.2.1 + 2 ∧ S.2.2.2 = s.2.2.2 + 7 := by
  obtain ⟨S1, e1, w1⟩ := nw_o (s := s) 62 [.int 0, .null, .null, .int 0] hw
  rw [e1, Option.bind_some]
  dsimp only
  rw [if_pos (isK_t w1.1 rfl)]
  unfold c_874
  obtain ⟨S2, e2, w2⟩ := nw_o (s := S1) 13 [.int 0, .null, .int 0] w1.2.2.2.1
  rw [e2]
  have e11 : S1.2.1 = s.2.1 + 1 := w1.2.2.1
  rw [Option.bind_some]
  rw [if_pos (isK_t w2.1 rfl), alInit_o w2.1, Option.bind_some]
  have h1 : (cup S2 S1.2.1 (true, false, 1013, [.int 0])).1 s.2.1 = some (true, false, 62, [.int 0, .null, .null, .int 0]) := by rw [cup_ne (by omega), w2.2.1 _ (by omega)]; exact w1.1
  rw [xP_c (fs' := [.int 0, .null, .ref S1.2.1, .int 0]) h1 rfl (by simp) rfl, Option.bind_some, xP_c (fs' := [.int n, .null, .ref S1.2.1, .int 0]) (cup_eq ..) rfl (by simp) rfl, cupU, Option.bind_some, xP_c (fs' := [.int n, .ref R, .ref S1.2.1, .int 0]) (cup_eq ..) rfl (by simp) rfl, cupU, Option.bind_some, Option.bind_some]
  refine ⟨_, rfl, ?_, ?_, fun a ha => ?_, ?_, wf_cup (wf_cup w2.2.2.2.1 (by rw [w2.2.2.1]; omega)) (by show s.2.1 < S2.2.1; rw [w2.2.2.1]; omega), ?_, ?_⟩
  · rw [cup_eq, e11]
  · rw [cup_ne (by omega), ← e11, cup_eq]
  · rw [cup_ne (by omega), cup_ne (by omega), w2.2.1 a (by omega), w1.2.1 a (by omega)]
  · show S2.2.1 = _; rw [w2.2.2.1, e11]
  · show S2.2.2.1 = _; rw [w2.2.2.2.2.1, w1.2.2.2.2.1]
  · show S2.2.2.2 = _; rw [w2.2.2.2.2.2, w1.2.2.2.2.2]; rfl
theorem c_sort2 (hg : gdL L nl) (hR : RF L nl nr st ln) (hl : gLab (gS L nl) (2 * nP L nl) lab) (o : SOt b0 h0 Kp s L nl nr st ln LC mp RL mr pid nid aid si od rc rl q (fun _ => .null)) (hK : ∀ a c, Kp a c → c.2.2.1 ≠ 66) {fd fL : Nat} {f1 f2 f3 : Value} (hfd : Kp fd (true, false, 61, [.ref fL, f1, f2, f3])) (hfL : Map1 b0 Kp mp RL od rl fL) (hfl : s.1 fL = some (true, false, 1013, [.int 0])) {mc : Int32} {es : List (Value × Value)} (hM : Map1 b0 Kp mp RL od rl M) (m1 : s.1 M = some (true, false, 1042, .int mc :: fl es)) (m2 : es.length = spn L nl st ln nr) (m3 : ∀ i (hi : i < es.length), es[i].2 = .ref (rc (lkF L nl nr st ln i))) (hc : s.2.2.1 + 1000 < 4000000000) :
    Tr (wh (S := CS × Nat) (X := CS) (fun p31 => Option.bind (tmIHas p31.1 M mc p31.2) (fun x14 => (if x14 = 0 then some (.inr p31.1) else Option.bind (tmNx p31.1 M mc p31.2) (fun u15 => Option.bind (some (nw p31.1 62 [.int 0, .null, .null, .int 0])) (fun n16 => Option.bind (xN n16.2 [(61, 0)] fd) (fun a17 => (if isK n16.2 [13] a17 = true then Option.bind (alSize n16.2 a17) (fun x18 => Option.bind (tmVal n16.2 M mc p31.2) (fun e19 => Option.bind (toN n16.2 [66] e19) (fun a20 => (if isK n16.2 [62] n16.1 = true then Option.bind (c_874 n16.1 x18 (some a20) n16.2) (fun x21 => Option.bind (tmVal x21 M mc p31.2) (fun e22 => Option.bind (toN x21 [66] e22) (fun a23 => Option.bind (xP x21 [(66, 3)] a23 (.ref n16.1)) (fun s24 => Option.bind (xN s24 [(61, 0)] fd) (fun a25 => (if isK s24 [13] a25 = true then Option.bind (alAdd s24 a25 (.ref n16.1)) (fun s26 => some (.inl (s26, p31.2 + 1))) else none)))))) else none)))) else none))))))) (s, 0)) (fun s' => ∃ sp sl mf, SOt b0 h0 Kp s' L nl nr st ln LC mp RL mr pid nid aid si od rc rl q (fun k => if lfB L nl st ln k = true then .ref (sp (spn L nl st ln k)) else .null) ∧ SPs s'.1 L nl nr st ln rc sp sl b0 (spn L nl st ln nr) ∧ s'.1 fL = some (true, false, 1013, .int mf :: rowC (fun j => .ref (sp j)) (spn L nl st ln nr)) ∧ (∀ j, j < spn L nl st ln nr → s.2.1 ≤ sp j ∧ s.2.1 ≤ sl j) ∧ s'.2.2.1 = s.2.2.1 + 3 * spn L nl st ln nr ∧ s'.2.2.2 = s.2.2.2 + 23 * spn L nl st ln nr ∧ s.2.1 ≤ s'.2.1) := by
  have ns1 := spn_100 hg hR hl
  have oda := o.2.2.2.2.2.2.2.2.2
  have odn : ∀ k ∈ od, k < nr := fun k hk => (o.2.2.2.2.2.1.2.1 k hk).1
  have ltf := wf_lt o.1 hfl
  have ltM := wf_lt o.1 m1
  have nfM : fL ≠ M := apart hfl m1 (by show ¬ (1013 : Nat) = 1042; decide)
  refine wh_cnt (spn L nl st ln nr) (fun i a => a.2 = i ∧ ∃ sp sl mf, SOt b0 h0 Kp a.1 L nl nr st ln LC mp RL mr pid nid aid si od rc rl q (fun k => if lfB L nl st ln k = true ∧ spn L nl st ln k < i then .ref (sp (spn L nl st ln k)) else .null) ∧ SPs a.1.1 L nl nr st ln rc sp sl b0 i ∧ a.1.1 fL = some (true, false, 1013, .int mf :: rowC (fun j => .ref (sp j)) i) ∧ a.1.1 M = some (true, false, 1042, .int mc :: fl es) ∧ (∀ j, j < i → s.2.1 ≤ sp j ∧ s.2.1 ≤ sl j) ∧ a.1.2.2.1 = s.2.2.1 + 3 * i ∧ a.1.2.2.2 = s.2.2.2 + 23 * i ∧ s.2.1 ≤ a.1.2.1) ?_ ?_ ⟨rfl, id, id, 0, ?_, ⟨fun j hj => absurd hj (Nat.not_lt_zero _), fun j k hj => absurd hj (Nat.not_lt_zero _), fun j k hj => absurd hj (Nat.not_lt_zero _)⟩, hfl, m1, fun j hj => absurd hj (Nat.not_lt_zero _), rfl, rfl, Nat.le_refl _⟩
  · rintro _ ⟨U, i⟩ hi ⟨rfl, sp, sl, mf, uo, ⟨us1, us2, us3⟩, uf, uM, ub, uc, uz, un⟩
    right
    dsimp only at hi uo us1 us2 us3 uf uM ub uc uz un ⊢
    obtain ⟨k1, k2, k3⟩ := lkF_o hi
    have hk := oda _ k1
    have e2 := m3 i (by omega)
    obtain ⟨k, hke⟩ : ∃ k, lkF L nl nr st ln i = k := ⟨_, rfl⟩
    rw [hke] at k1 k2 k3 hk e2
    rw [tmIHas_l uM (by omega), if_pos (by omega)]; repeat (first | rw [Option.bind_some] | rw [Sum.elim_inl] | rw [Sum.elim_inr])
    rw [if_neg (by decide), tmNx_l uM (by omega) (by omega)]; repeat (first | rw [Option.bind_some] | rw [Sum.elim_inl] | rw [Sum.elim_inr])
    have hw := uo.1
    obtain ⟨S1, z1, w1⟩ := nw_o (s := U) 62 [.int 0, .null, .null, .int 0] hw
    have o1 := Nw_ext hw w1
    have hfdU := uo.2.2.2.1 _ _ hfd
    obtain ⟨S2, g1, g2, g3, g4, g5, g6, g7, g8⟩ := c_newS (s := U) (R := rc k) hw (Int32.ofNat i) (fun a x => some (a, x))
    rw [z1, Option.bind_some] at g1
    dsimp only at g1
    rw [if_pos (isK_t w1.1 rfl)] at g1
    rw [z1]
    dsimp only
    rw [xN_o (b := fL) (o1 _ _ hfdU) rfl rfl]; repeat (first | rw [Option.bind_some] | rw [Sum.elim_inl] | rw [Sum.elim_inr])
    rw [if_pos (isK_t (o1 _ _ uf) rfl), alSize_r (o1 _ _ uf)]; repeat (first | rw [Option.bind_some] | rw [Sum.elim_inl] | rw [Sum.elim_inr])
    rw [tmVal_l (o1 _ _ uM) (by have := w1.2.2.2.2.1; omega) (show i < es.length by omega), e2]; repeat (first | rw [Option.bind_some] | rw [Sum.elim_inl] | rw [Sum.elim_inr])
    have hrc := (uo.2.2.2.2.2.1.2.1 k hk).2.2.2.2.1
    rw [toN_o (o1 _ _ hrc) rfl]; repeat (first | rw [Option.bind_some] | rw [Sum.elim_inl] | rw [Sum.elim_inr])
    rw [if_pos (isK_t w1.1 rfl)]
    obtain ⟨x21, y1, y2⟩ := bindC g1
    have y2 : x21 = S2 := by have := Option.some.inj y2; exact (Prod.mk.inj this).2
    rw [y1, y2]; repeat (first | rw [Option.bind_some] | rw [Sum.elim_inl] | rw [Sum.elim_inr])
    have old : ∀ a c, U.1 a = some c → S2.1 a = some c := fun a c h => by rw [g4 a (wf_lt hw h)]; exact h
    rw [tmVal_l (old _ _ uM) (by omega) (show i < es.length by omega), e2]; repeat (first | rw [Option.bind_some] | rw [Sum.elim_inl] | rw [Sum.elim_inr])
    rw [toN_o (old _ _ hrc) rfl]; repeat (first | rw [Option.bind_some] | rw [Sum.elim_inl] | rw [Sum.elim_inr])
    have so2 := SOt_new uo g4 g6 (by omega)
    have so3 := SOt_ring so2 hK hk (v := .ref U.2.1)
    rw [xP_c (fs' := [.ref (rl k), .ref (nid (sX L nl (st k)) (sY L nl (st k))), .int (Int32.ofInt (gtrn (gS L nl) (rgs L nl st ln k))), .ref U.2.1]) (old _ _ hrc) rfl (by simp) rfl]; repeat (first | rw [Option.bind_some] | rw [Sum.elim_inl] | rw [Sum.elim_inr])
    rw [show cup S2 (rc k) (true, false, 66, [.ref (rl k), .ref (nid (sX L nl (st k)) (sY L nl (st k))), .int (Int32.ofInt (gtrn (gS L nl) (rgs L nl st ln k))), .ref U.2.1]) = cup S2 (rc k) (rgC L nl st ln nid rl (.ref U.2.1) k) from rfl]
    obtain ⟨S3, hS3⟩ : ∃ S3, S3 = cup S2 (rc k) (rgC L nl st ln nid rl (.ref U.2.1) k) := ⟨_, rfl⟩
    rw [← hS3] at so3 ⊢
    have t3 : ∀ a c, S2.1 a = some c → c.2.2.1 ≠ 66 → S3.1 a = some c := fun a c h1 h2 => by rw [hS3, cup_ne (apart h1 (old _ _ hrc) h2)]; exact h1
    have hfd3 := so3.2.2.2.1 _ _ hfd
    rw [xN_o (b := fL) hfd3 rfl rfl]; repeat (first | rw [Option.bind_some] | rw [Sum.elim_inl] | rw [Sum.elim_inr])
    have uf3 := t3 _ _ (old _ _ uf) (by show ¬ (1013 : Nat) = 66; decide)
    rw [if_pos (isK_t uf3 rfl), alAdd_r uf3 (by omega) (elO_o (t3 _ _ g2 (by show ¬ (62 : Nat) = 66; decide)))]; repeat (first | rw [Option.bind_some] | rw [Sum.elim_inl] | rw [Sum.elim_inr])
    have lt3 : S3.2 = S2.2 := by rw [hS3]; rfl
    have so4 := SOt_w so3 uf3 ⟨by show ¬ (1013 : Nat) = 63; decide, by show ¬ (1013 : Nat) = 64; decide, by show ¬ (1013 : Nat) = 7; decide, by show ¬ (1013 : Nat) = 65; decide, by show ¬ (1013 : Nat) = 66; decide⟩ hfL.1 hfL.2.1 hfL.2.2.1 hfL.2.2.2.1 hfL.2.2.2.2 (S := cput S3 1013 fL 1 16 (.int (mf + 1) :: rowC (fun j => if j = i then Value.ref U.2.1 else .ref (sp j)) (i + 1))) (fun a ha => cput_ne ha) (wf_chg (wf_cup so3.1 (by rw [lt3]; omega))) (Nat.le_refl _)
    have spl : ∀ j, j < i → sp j < U.2.1 ∧ sl j < U.2.1 := fun j hj => ⟨wf_lt hw (us1 j hj).1, wf_lt hw (us1 j hj).2.1⟩
    have row : rowC (fun j => if j = i then Value.ref U.2.1 else .ref (sp j)) (i + 1) = rowC (fun j => .ref (upd1 sp i U.2.1 j)) (i + 1) := rowC_congr (fun j _ => by
      by_cases e : j = i
      · rw [if_pos e, upd1_eq e]
      · rw [if_neg e, upd1_ne e])
    have t4 : ∀ a c, S2.1 a = some c → c.2.2.1 ≠ 66 → a ≠ fL → (cput S3 1013 fL 1 16 (.int (mf + 1) :: rowC (fun j => if j = i then Value.ref U.2.1 else .ref (sp j)) (i + 1))).1 a = some c := fun a c h1 h2 h3 => by rw [cput_ne h3]; exact t3 a c h1 h2
    refine ⟨_, rfl, rfl, upd1 sp i U.2.1, upd1 sl i (U.2.1 + 1), mf + 1, ?_, ⟨fun j hj => ?_, fun j j' hj hj' e => ?_, fun j j' hj hj' e => ?_⟩, ?_, ?_, fun j hj => ?_, ?_, ?_, ?_⟩
    · have : (fun k_1 => if lfB L nl st ln k_1 = true ∧ spn L nl st ln k_1 < i + 1 then Value.ref (upd1 sp i U.2.1 (spn L nl st ln k_1)) else .null) = fun k' => if k' = k then .ref U.2.1 else if lfB L nl st ln k' = true ∧ spn L nl st ln k' < i then .ref (sp (spn L nl st ln k')) else .null := by
        funext w
        by_cases e : w = k
        · rw [if_pos e, e, if_pos ⟨k2, by omega⟩, upd1_eq k3]
        · rw [if_neg e]
          by_cases e2 : lfB L nl st ln w = true ∧ spn L nl st ln w < i
          · rw [if_pos e2, if_pos ⟨e2.1, by have := e2.2; omega⟩, upd1_ne (Nat.ne_of_lt e2.2)]
          · rw [if_neg e2, if_neg]
            rintro ⟨a1, a2⟩
            have : ¬ spn L nl st ln w < i := fun z => e2 ⟨a1, z⟩
            exact e (spn_inj a1 k2 (by rw [k3]; omega))
      rw [this]
      exact so4
    · by_cases e : j = i
      · rw [upd1_eq e, upd1_eq e, e, hke]
        refine ⟨t4 _ _ g2 (by show ¬ (62 : Nat) = 66; decide) (by omega), t4 _ _ g3 (by show ¬ (1013 : Nat) = 66; decide) (by omega), uo.2.1, by have := uo.2.1; omega⟩
      · obtain ⟨a1, a2, a3, a4⟩ := us1 j (by omega)
        rw [upd1_ne e, upd1_ne e]
        refine ⟨t4 _ _ (old _ _ a1) (by show ¬ (62 : Nat) = 66; decide) (by have := ub j (by omega); omega), t4 _ _ (old _ _ a2) (by show ¬ (1013 : Nat) = 66; decide) (by have := ub j (by omega); omega), a3, a4⟩
    · by_cases e1 : j = i <;> by_cases e2 : j' = i
      · omega
      · rw [upd1_eq e1, upd1_ne e2] at e; have := (spl j' (by omega)).1; omega
      · rw [upd1_ne e1, upd1_eq e2] at e; have := (spl j (by omega)).1; omega
      · rw [upd1_ne e1, upd1_ne e2] at e; exact us2 j j' (by omega) (by omega) e
    · by_cases e1 : j = i <;> by_cases e2 : j' = i
      · omega
      · rw [upd1_eq e1, upd1_ne e2] at e; have := (spl j' (by omega)).2; omega
      · rw [upd1_ne e1, upd1_eq e2] at e; have := (spl j (by omega)).2; omega
      · rw [upd1_ne e1, upd1_ne e2] at e; exact us3 j j' (by omega) (by omega) e
    · dsimp only; rw [cput_eq, row]
    · exact t4 _ _ (old _ _ uM) (by show ¬ (1042 : Nat) = 66; decide) (Ne.symm nfM)
    · by_cases e : j = i
      · rw [upd1_eq e, upd1_eq e]; omega
      · rw [upd1_ne e, upd1_ne e]; exact ub j (by omega)
    · show S3.2.2.1 + 1 = _; rw [lt3]; omega
    · show S3.2.2.2 + 16 = _; rw [lt3]; omega
    · show s.2.1 ≤ S3.2.1; rw [lt3]; omega
  · rintro ⟨U, _⟩ ⟨rfl, sp, sl, mf, uo, us, uf, uM, ub, uc, uz, un⟩
    dsimp only at uo us uf uM uc uz un ⊢
    refine ⟨U, by rw [tmIHas_l uM (by omega), if_neg (by omega), Option.bind_some, if_pos rfl], sp, sl, mf, ?_, us, uf, ub, uc, uz, un⟩
    obtain ⟨r1, r2, r3, r4, r5, r7, r8, r9⟩ := uo
    refine ⟨r1, r2, r3, r4, r5, ⟨r7.1, fun k hk => ?_, r7.2.2⟩, r8, r9⟩
    have := r7.2.1 k hk
    have e : (if lfB L nl st ln k = true ∧ spn L nl st ln k < spn L nl st ln nr then Value.ref (sp (spn L nl st ln k)) else .null) = if lfB L nl st ln k = true then .ref (sp (spn L nl st ln k)) else .null := by
      by_cases z : lfB L nl st ln k = true
      · rw [if_pos z, if_pos ⟨z, spn_lt (odn k hk) z⟩]
      · rw [if_neg z, if_neg (fun w => z w.1)]
    dsimp only at this ⊢
    rw [e] at this
    exact this
  · have : (fun k => if lfB L nl st ln k = true ∧ spn L nl st ln k < 0 then Value.ref (id (spn L nl st ln k)) else .null) = fun _ => Value.null := funext (fun k => if_neg (fun z => absurd z.2 (Nat.not_lt_zero _)))
    dsimp only
    rw [this]; exact o
end
