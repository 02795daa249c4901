/-! the warden: a sentence, both sides alike -/
theorem ite01 {p : Prop} [Decidable p] : ((if p then (1 : Int32) else 0) = 0) ↔ ¬ p := by
  by_cases h : p <;> simp [h]
theorem pt_pt (t : TS) (c : Nat) (a b : Int32) : ptI (ptI t c a) c b = ptI t c b := by
  unfold ptI
  refine Prod.ext ?_ rfl
  funext q
  show (if q = c then b else if q = c then a else t.1 q) = if q = c then b else t.1 q
  by_cases h : q = c
  · rw [if_pos h, if_pos h]
  · rw [if_neg h, if_neg h, if_neg h]
theorem K7_frm {X : Nat → Prop} {own own' : Nat → Nat} {s s' : CS} (hw : wfS s) (h : Frm X own own' s s') (hX : ¬ X 11) (k : K7 (rs s.1 own 11)) : K7 (rs s'.1 own' 11) := by
  rw [frm_rs hw h hX]; exact k
theorem wa_sentence {own : Nat → Nat} {s : CS} {t : TS} (hw : wfS s) (hs : 179 ≤ s.2.1) (k7 : K7 (rs s.1 own 11)) (r : R7 (rs s.1 own 7) t) (v1 v2 v3 v4 v5 : Int32) : Ro thr0 (fun X => X = 7) (fun Z => Z = 7) (fun H t => R7 (H 7) t) own s t 102 4000 (c_487 151 v1 v2 v3 v4 v5 s) (t_620 v1 v2 v3 v4 v5 t) := by
  have r00 := r
  obtain ⟨np, sz, mx, zm, am, rl, nr, na, ec, P, Z, ZP, A, RW, od, r⟩ := r
  have h1 := rs_in r.1.1
  have h2 := rs_in r.2.2.1.1
  have e306 := r.2.2.1.2.1
  have hsz := r.2.2.1.2.2.1
  have hbz := r.2.2.1.2.2.2.2
  unfold c_487 t_620
  rw [c_may1, Option.bind_some, Option.bind_some, isInB, Option.bind_some]
  have e13 : (if (if inB v1 5 = true then (1 : Int32) else 0) = 0 then some 0 else Option.bind (t_765 v2 (ptI t 0 0)) (fun x3 => (if x3 = 0 then some (0 : Int32) else some 1))) = some (if (inB v1 5 && said v2) = true then 1 else 0) := by
    rw [t_said, Option.bind_some]
    cases inB v1 5 <;> cases said v2 <;> simp
  rw [e13, Option.bind_some]
  have e34 : (if (if (inB v1 5 && said v2) = true then (1 : Int32) else 0) = 0 then some 0 else Option.bind (α := Sum Unit Int32) ((if v1 = 4 then some (.inl ()) else Option.bind (t_765 v3 (ptI t 0 0)) (fun x4 => (if x4 = 0 then some (.inr 0) else some (.inl ()))))) (Sum.elim (fun v22 => (if v1 = 2 then some (1 : Int32) else (if v1 = 4 then some 1 else Option.bind (t_765 v4 (ptI t 0 0)) (fun x5 => (if x5 = 0 then some 0 else some 1))))) (fun z => some z))) = some (if may1 v1 v2 v3 v4 = true then 1 else 0) := by
    simp only [t_said, Option.bind_some]
    unfold may1
    cases inB v1 5 <;> cases said v2 <;> cases said v3 <;> cases said v4 <;> by_cases h3 : v1 = 4 <;> by_cases h4 : v1 = 2 <;> simp [h3, h4] <;> simp_all
  rw [e34, Option.bind_some]
  have e56 : (if (if may1 v1 v2 v3 v4 = true then (1 : Int32) else 0) = 0 then some 0 else (if 1 < v1 then some (1 : Int32) else (if v1 = 1 then Option.bind (t_765 v5 (ptI t 0 0)) (fun x6 => (if x6 = 0 then some 0 else some 1)) else (if v5 < 1 then some 0 else (if 12 < v5 then some 0 else some 1))))) = some (if (may1 v1 v2 v3 v4 && may2 v1 v5) = true then 1 else 0) := by
    simp only [t_said, Option.bind_some]
    cases may1 v1 v2 v3 v4 with
    | false => simp
    | true =>
      unfold may2
      by_cases y1 : 1 < v1
      · simp [y1]
      · by_cases y2 : v1 = 1
        · cases said v5 <;> simp [y2]
        · by_cases y3 : v5 < 1
          · simp [y1, y2, y3]
          · by_cases y4 : 12 < v5
            · simp [y1, y2, y3, y4]
            · simp [y1, y2, y3, y4]
  rw [e56, Option.bind_some]
  have bad : ∀ o : Option (Sum (Int32 × CS) (Nat × CS)), o = some (.inr (s.2.1, exs s 11)) → (may1 v1 v2 v3 v4 && may2 v1 v5) = false → Ro thr0 (fun X => X = 7) (fun Z => Z = 7) (fun H t => R7 (H 7) t) own s t 102 4000 o (Option.bind (if (if (may1 v1 v2 v3 v4 && may2 v1 v5) = true then (1 : Int32) else 0) = 0 then some (ptI t 0 0) else Option.bind (t_766 v1 v2 v3 v4 v5 (ptI t 0 0)) (fun x7 => some x7)) (fun v67 => Option.bind (if v67.1 1 = 0 then some (0 : Int32) else (if 2000 < ((v67.1 306) + (v67.1 335)) then some 0 else some 1)) (fun v84 => Option.bind (t_558 (if (may1 v1 v2 v3 v4 && may2 v1 v5) = true then 1 else 0) v84 v67) (fun x8 => (if x8.1 = 0 then some (0, x8.2) else Option.bind (t_772 x8.2) (fun x9 => some (x9.1, x9.2))))))) := by
    intro o ho hm
    rw [hm]
    refine Ro.arg (x := 0) hw (R7_pt r00) ho ?_
    simp only [Bool.false_eq_true, if_false, if_true, Option.bind_some]
    have : ∃ v, (if (ptI t 0 0).1 1 = 0 then some (0 : Int32) else if 2000 < (ptI t 0 0).1 306 + (ptI t 0 0).1 335 then some 0 else some 1) = some v := by
      split
      · exact ⟨_, rfl⟩
      · split <;> exact ⟨_, rfl⟩
    obtain ⟨v, hv⟩ := this
    rw [hv, Option.bind_some, goes_eq]
    simp [pt_pt]
  cases hm1 : may1 v1 v2 v3 v4 with
  | false =>
    rw [← hm1]
    refine bad _ ?_ (by rw [hm1]; rfl)
    rw [hm1]
    simp [need_eq]
  | true =>
    simp only [if_true, need_eq, show ¬ (1 : Int32) = 0 by decide, if_false, Option.bind_some, Sum.elim_inl]
    rw [c_may2, Option.bind_some]
    cases hm2 : may2 v1 v5 with
    | false =>
      have := bad (some (.inr (s.2.1, exs s 11))) rfl (by rw [hm1, hm2]; rfl)
      rw [hm1, hm2] at this
      simpa [need_eq] using this
    | true =>
      simp only [if_true, show ¬ (1 : Int32) = 0 by decide, if_false, Option.bind_some, Sum.elim_inl, Bool.and_self]
      have hm1' := hm1
      unfold may1 at hm1'
      rw [Bool.and_eq_true, Bool.and_eq_true, Bool.and_eq_true] at hm1'
      obtain ⟨⟨⟨q1, q2⟩, q3⟩, q4⟩ := hm1'
      obtain ⟨w, hw5, rfl⟩ := inB_nat 5 (by omega) q1
      obtain ⟨a, ha, rfl⟩ := inB_nat 10000 (by omega) q2
      have e4 : ∀ k : Nat, k < 5 → (Int32.ofNat w = Int32.ofNat k ↔ w = k) := fun k hk => i_inj (by omega) (by omega)
      have eb : ∃ b, (b < 10000 ∨ w = 4) ∧ (w ≠ 4 → v3 = Int32.ofNat b) := by
        rw [Bool.or_eq_true, decide_eq_true_eq] at q3
        rcases q3 with y | y
        · exact ⟨0, Or.inr ((e4 4 (by omega)).mp y), fun z => absurd ((e4 4 (by omega)).mp y) z⟩
        · obtain ⟨b, hb, rfl⟩ := inB_nat 10000 (by omega) y
          exact ⟨b, Or.inl hb, fun _ => rfl⟩
      have ecc : ∃ c, (c < 10000 ∨ w = 2 ∨ w = 4) ∧ (w ≠ 2 → w ≠ 4 → v4 = Int32.ofNat c) := by
        rw [Bool.or_eq_true, Bool.or_eq_true, decide_eq_true_eq, decide_eq_true_eq] at q4
        rcases q4 with (y | y) | y
        · exact ⟨0, Or.inr (Or.inl ((e4 2 (by omega)).mp y)), fun z => absurd ((e4 2 (by omega)).mp y) z⟩
        · exact ⟨0, Or.inr (Or.inr ((e4 4 (by omega)).mp y)), fun _ z => absurd ((e4 4 (by omega)).mp y) z⟩
        · obtain ⟨b, hb, rfl⟩ := inB_nat 10000 (by omega) y
          exact ⟨b, Or.inl hb, fun _ _ => rfl⟩
      have ed : ∃ d, (w = 0 → d ≤ 12) ∧ (w = 1 → d < 10000) ∧ (w ≤ 1 → v5 = Int32.ofNat d) := by
        unfold may2 at hm2
        rw [Bool.or_eq_true, decide_eq_true_eq] at hm2
        rcases hm2 with y | y
        · have : 1 < w := (i_lt (j := 1) (by omega) (by omega)).mp y
          exact ⟨0, fun _ => by omega, fun _ => by omega, fun _ => by omega⟩
        · by_cases z : w = 1
          · rw [if_pos (show Int32.ofNat w = 1 from (e4 1 (by omega)).mpr z)] at y
            obtain ⟨b, hb, rfl⟩ := inB_nat 10000 (by omega) y
            exact ⟨b, fun _ => by omega, fun _ => hb, fun _ => rfl⟩
          · rw [if_neg (show ¬ Int32.ofNat w = 1 from fun x => z ((e4 1 (by omega)).mp x)), decide_eq_true_eq] at y
            have y1 : ¬ v5 < 0 := fun x => y.1 (Int32.lt_trans x (by decide))
            have y2 : v5 < Int32.ofNat 13 := by
              refine Classical.byContradiction (fun x => y.2 ?_)
              exact (i_gt (a := 12) (by omega) v5).mpr x
            obtain ⟨k, hk, rfl⟩ := i_nat (n := 13) (by omega) y1 y2
            exact ⟨k, fun _ => by omega, fun x => absurd x z, fun _ => rfl⟩
      obtain ⟨bb, hb, eb⟩ := eb
      obtain ⟨cc, hc, ecc⟩ := ecc
      obtain ⟨d, hd0, hd1, ed⟩ := ed
      obtain ⟨⟨id, S⟩, eS, y1, y2, y3, y4, y5, y6, y7⟩ := c_written hw (k7_of k7) (by omega) hw5 ha hb hc hd0 hd1 v3 v4 v5 eb ecc ed
      dsimp only at y1 y2 y3 y4 y5 y6 y7
      obtain ⟨U, eU, hU, hUm⟩ := t_make (T := ptI t 0 0) hw5 ha hb hc hd0 hd1 v3 v4 v5 eb ecc ed
      have hlen := sayL_len (w := w) (a := a) (b := bb) (c := cc) (d := d) hw5 hd0
      have hlt := sayL_lt (w := w) (a := a) (b := bb) (c := cc) (d := d) ha hb hc hd0 hd1
      generalize sayL w a bb cc d = L at y1 hU hlen hlt
      have u306 : U.1 306 = Int32.ofNat sz := (hUm.1 306 (by omega)).trans e306
      have u1 : U.1 1 = t.1 1 := hUm.1 1 (by omega)
      have l151 := wf_lt hw h1.1
      have l153 := wf_lt hw h2.1
      have g1 : S.1 151 = _ := (y4 151 l151).trans h1.1
      have g2 : S.1 153 = _ := (y4 153 l153).trans h2.1
      have hown : ∀ q, q < s.2.1 → givs own s.2.1 (S.2.1 - s.2.1) 7 q = own q := fun q hq => if_neg (by omega)
      have hnew : ∀ q, s.2.1 ≤ q → q < S.2.1 → givs own s.2.1 (S.2.1 - s.2.1) 7 q = 7 := fun q a b => if_pos (by omega)
      have hF : Frm (fun X => X = 7) own (givs own s.2.1 (S.2.1 - s.2.1) 7) s S := frm_pt (fun _ => False) (fun _ _ z => z.elim) (fun q hq _ => y4 q hq) (by omega) hown hnew y5
      have hrsS : ∀ q c, rs s.1 own 7 q = some c → rs S.1 (givs own s.2.1 (S.2.1 - s.2.1) 7) 7 q = some c := by
        intro q c e
        obtain ⟨z1, z2⟩ := rs_some.mp e
        have hl := wf_lt hw z2
        exact rs_some.mpr ⟨by rw [hown q hl]; exact z1, by rw [y4 q hl]; exact z2⟩
      have hKS : ∀ K, hK K (rs s.1 own 7) (rs S.1 (givs own s.2.1 (S.2.1 - s.2.1) 7) 7) := fun K q c _ e => hrsS q c e
      have hRU : R7x (rs S.1 (givs own s.2.1 (S.2.1 - s.2.1) 7) 7) U np sz mx zm am rl nr na ec P Z ZP A RW od := by
        obtain ⟨r0, r1, r2, r3, r4, r5⟩ := r
        refine ⟨W0_cg r0 (hKS _) (hUm.1 301 (by omega)) u1 (fun c hc => ?_), W1_cg r1 (hKS _) (hUm.1 300 (by omega)) u1 (fun c hc => ?_), W2_cg r2 (hKS _) (hUm.1 306 (by omega)) u1 (hUm.2.2.1 102 (by omega)), W3_cg r3 (hKS _) (hUm.1 321 (by omega)) (fun c hc => ?_), W4_cg r4 (hKS _) (fun c hc => ?_), W5_cg r5 (hKS _) (hUm.1 330 (by omega)) (hUm.1 301 (by omega)) (fun c hc => ?_)⟩
        all_goals
          refine hUm.2.2.1 c ?_
          simp only [List.mem_cons, List.not_mem_nil, or_false] at hc
          omega
      have hrtU : ∀ Z, Z ≠ 7 → Z ≠ 99 → rt U Z = rt t Z := by
        intro Z h7 h9
        have : rt U Z = rt (ptI t 0 0) Z := by
          unfold rt
          refine Prod.ext ?_ (Prod.ext ?_ (Prod.ext ?_ ?_))
          · funext c
            by_cases y : mI c = Z
            · simp only [if_pos y]
              exact hUm.1 c (fun z => h7 (by rw [← y, z]; rfl))
            · simp only [if_neg y]
          · funext c; simp only [hUm.2.1]
          · funext c j
            by_cases y : mR c = Z
            · simp only [if_pos y]
              rw [hUm.2.2.1 c (fun z => h7 (by rw [← y, z]; rfl))]
            · simp only [if_neg y]
          · funext c j; simp only [hUm.2.2.2]
        rw [this, ptI_rt h9]
      rw [eS, Option.bind_some, eU, Option.bind_some, Option.bind_some]
      dsimp only
      rw [xI_o g1 rfl rfl, Option.bind_some, xN_o g1 rfl rfl, Option.bind_some, if_pos (isK_t g2 rfl), sbLen_r g2, Option.bind_some, if_pos (isK_t y1 rfl)]
      unfold stLen
      rw [stC_r y1, Option.bind_some, Option.bind_some, txV_len, i_32, i_add, u1, u306, hU.1, i_add]
      have e4 : (if t.1 1 = 0 then some (0 : Int32) else if 2000 < Int32.ofNat (sz + L.length) then some 0 else some 1) = some (if ¬ t.1 1 = 0 ∧ sz + L.length ≤ 2000 then 1 else 0) := by
        by_cases z1 : t.1 1 = 0
        · simp [z1]
        · by_cases z2 : sz + L.length ≤ 2000
          · rw [if_neg z1, if_neg (by rw [i_Llt (by omega) (by omega)]; omega), if_pos ⟨z1, z2⟩]
          · rw [if_neg z1, if_pos ((i_Llt (by omega) (by omega)).mpr (by omega)), if_neg (fun z => z2 z.2)]
      rw [e4, Option.bind_some, Option.bind_some, may_eq, goes_eq]
      by_cases y : ¬ t.1 1 = 0 ∧ sz + L.length ≤ 2000
      · rw [if_pos y, if_neg (by decide), Option.bind_some, Sum.elim_inl, xN_o g1 rfl rfl, Option.bind_some, if_pos (isK_t g2 rfl)]
        unfold sbS
        rw [stC_r y1, Option.bind_some, sbApp_r g2 (by rw [rowC_len, txV_len]; omega), Option.bind_some]
        have hrow : rowC (fun i => Value.int (t.2.2.1 102 i)) sz ++ txV L = rowC (fun i => .int (if sz ≤ i ∧ i < sz + L.length then Int32.ofNat (L.getD (i - sz) 0) else t.2.2.1 102 i)) (sz + L.length) := by
          refine rowC_ext (by rw [List.length_append, rowC_len, txV_len]) (fun k hk => ?_)
          rw [List.getElem?_append]
          by_cases z : k < sz
          · rw [rowC_len, if_pos z, rowC_get, if_pos z, if_neg (by omega)]
          · rw [rowC_len, if_neg z, if_pos (by omega)]
            unfold txV
            rw [List.getElem?_map, List.getD_eq_getElem?_getD, List.getElem?_eq_getElem (by omega)]; rfl
        rw [hrow, xN_o ((cput_ne (by omega)).trans g1) rfl rfl, Option.bind_some, if_pos (isK_t (cput_eq ..) rfl), sbLen_r (cput_eq ..), Option.bind_some, if_neg (by simp), if_neg (by decide), if_neg (by decide), Option.bind_some, if_neg (show ¬ (1 : Int32) = 0 by decide)]
        have hU0 : SdW (ptI U 0 0) L := hU
        obtain ⟨⟨xr, V⟩, eV, v1, v2, v3, v4, v5, v6, v7⟩ := t_say (T := ptI U 0 0) (sz := sz) hU0 u306 y.2 (by omega)
        dsimp only at v1 v2 v3 v4 v5 v6 v7
        rw [eV, Option.bind_some]
        refine Or.inl ⟨_, _, V, givs own s.2.1 (S.2.1 - s.2.1) 7, by rw [v1]; rfl, rfl, by rw [v3 0 (by omega)]; rfl, fun Z h7 h9 => ?_, Frm.trans hF (Frm.trans (frm_cup (c := (true, false, 1035, rowC (fun i => .int (if sz ≤ i ∧ i < sz + L.length then Int32.ofNat (L.getD (i - sz) 0) else t.2.2.1 102 i)) (sz + L.length))) y5 (wf_lt y5 g2) (by rw [hown 153 l153]; exact h2.2)) (frm_chg (wf_cup y5 (wf_lt y5 g2)))), ?_, ?_, ?_⟩
        · have : rt V Z = rt (ptI U 0 0) Z := by
            unfold rt
            refine Prod.ext ?_ (Prod.ext ?_ (Prod.ext ?_ ?_))
            · funext c
              by_cases y : mI c = Z
              · simp only [if_pos y]
                exact v3 c (fun z => h7 (by rw [← y, z]; rfl))
              · simp only [if_neg y]
            · funext c; simp only [v4]
            · funext c j
              by_cases y : mR c = Z
              · simp only [if_pos y]
                rw [v5 c (fun z => h7 (by rw [← y, z]; rfl))]
              · simp only [if_neg y]
            · funext c j; simp only [v7]
          rw [this, ptI_rt h9]
          exact hrtU Z h7 h9
        · show R7 (rs (lUpd S.1 153 _) _ 7) V
          rw [rs_upd (by rw [hown 153 l153]; exact h2.2)]
          have hT := R7_txt (T := V) (sz' := sz + L.length) hRU (by rw [u1]; exact y.1) (fun q a b _ => by rw [v3 q b, pt_1, if_neg a]) (fun q a _ => by rw [v5 q a]; rfl) v2 y.2 (fun i hi => by
            rw [v6]
            by_cases z : sz ≤ i ∧ i < sz + L.length
            · rw [if_pos z]
              refine ⟨L.getD (i - sz) 0, hlt _ ?_, rfl⟩
              rw [List.getD_eq_getElem?_getD, List.getElem?_eq_getElem (by omega)]
              exact List.getElem_mem _
            · rw [if_neg z]
              show bel (U.2.2.1 102 i) 128
              rw [hUm.2.2.1 102 (by omega)]
              exact r.2.2.1.2.2.2.1 i (by omega))
          have hrow2 : rowC (fun i => Value.int (V.2.2.1 102 i)) (sz + L.length) = rowC (fun i => .int (if sz ≤ i ∧ i < sz + L.length then Int32.ofNat (L.getD (i - sz) 0) else t.2.2.1 102 i)) (sz + L.length) := rowC_congr (fun j _ => by
            rw [v6]
            by_cases z : sz ≤ j ∧ j < sz + L.length
            · rw [if_pos z, if_pos z]
            · rw [if_neg z, if_neg z]
              show Value.int (U.2.2.1 102 j) = _
              rw [hUm.2.2.1 102 (by omega)]; rfl)
          rw [hrow2] at hT
          exact ⟨_, _, _, _, _, _, _, _, _, _, _, _, _, _, _, hT⟩
        · show S.2.2.1 + 2 ≤ _; omega
        · show S.2.2.2 + (8 * (txV L).length + 16) ≤ _
          rw [txV_len]; omega
      · rw [if_neg y, if_pos rfl]
        refine Or.inr ⟨0, 12, 2, S, ptI U 0 2, givs own s.2.1 (S.2.1 - s.2.1) 7, Or.inr ⟨rfl, rfl⟩, by simp, by simp, rfl, fun Z h7 h9 => by rw [ptI_rt h9]; exact hrtU Z h7 h9, hF, ⟨_, _, _, _, _, _, _, _, _, _, _, _, _, _, _, hRU⟩, by omega, by omega⟩
