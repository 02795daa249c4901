/-! the plan: how many rings there are at most -/
section
variable {L : PLn} {nl nr : Nat} {st ln : Nat → Nat} {lab : Int → Int → Int}
theorem fl_len (f : Nat → Nat → Nat) (a b : List Nat) : (a.flatMap (fun l => b.map (f l))).length = a.length * b.length := by
  induction a with
  | nil => simp
  | cons x r ih => rw [List.flatMap_cons, List.length_append, ih, List.length_map, List.length_cons, Nat.succ_mul]; omega
theorem fil_two (p : Nat → Bool) (l : List Nat) : (l.filter p).length + (l.filter (fun x => !p x)).length = l.length := by
  induction l with
  | nil => rfl
  | cons x r ih =>
    rw [List.filter_cons, List.filter_cons]
    cases p x <;> simp <;> omega
/-- a ring round its space begins where a flat line and an upright one go on -/
theorem lf_corner (hg : gdL L nl) (h : RF L nl nr st ln) (hl : gLab (gS L nl) (2 * nP L nl) lab) {k : Nat} (hk : k < nr) (h1 : lfB L nl st ln k = true) : gwV (gS L nl) (2 * nP L nl) (gx0 (gS L nl) (st k)) (gy0 (gS L nl) (st k)) ∧ gwH (gS L nl) (2 * nP L nl) (gx0 (gS L nl) (st k)) (gy0 (gS L nl) (st k)) := by
  have G := gS_geo hg hl
  have hR := ((RF_fam hg h hl).1 k hk).1
  have hlst := st_lst hg h hk
  have hL := (lfB_i hg h hl hk).mp h1
  have lab1 := G.lstL hR (rgs_rnd h hk) hL hlst
  have w1 := hL _ _ lab1
  have w0 := G.w0 hR hlst (gy0 (gS L nl) (st k))
  have w0' := G.w0 hR hlst (gy0 (gS L nl) (st k) - 1)
  constructor
  · by_cases z : gwV (gS L nl) (2 * nP L nl) (gx0 (gS L nl) (st k)) (gy0 (gS L nl) (st k))
    · exact z
    · have := G.wV0 hR z
      omega
  · by_cases z : gwH (gS L nl) (2 * nP L nl) (gx0 (gS L nl) (st k)) (gy0 (gS L nl) (st k))
    · exact z
    · exfalso
      have e1 := G.wH0 hR z
      have e2 := wn_V (g := gS L nl) (R := rgs L nl st ln k) (gx0 (gS L nl) (st k)) (gy0 (gS L nl) (st k) - 1)
      have z3 : gsm (ew3 (gS L nl) (gx0 (gS L nl) (st k)) (gy0 (gS L nl) (st k) - 1)) (rgs L nl st ln k) = 0 := by
        refine sm_zero (fun s hs => ?_)
        rcases ew3_or (gS L nl) (gx0 (gS L nl) (st k)) (gy0 (gS L nl) (st k) - 1) s with q | q
        · exact q
        · exfalso
          obtain ⟨q1, q2, q3⟩ := ew3_1.mp q
          have hsN := (hR.2.1 s hs).1
          obtain ⟨r1, r2, r3, _⟩ := gNx_next hsN
          have lst := hlst.2 _ ((rgs_rnd h hk).1 s hs)
          have sh := gS_shape hsN
          unfold gShape at sh
          rw [r2, r3] at lst
          omega
      have z1 : gsm (ew1 (gS L nl) (gx0 (gS L nl) (st k)) (gy0 (gS L nl) (st k) - 1)) (rgs L nl st ln k) = 0 := by
        refine sm_zero (fun s hs => ?_)
        rcases ew1_or (gS L nl) (gx0 (gS L nl) (st k)) (gy0 (gS L nl) (st k) - 1) s with q | q
        · exact q
        · exfalso
          obtain ⟨q1, q2, q3⟩ := ew1_1.mp q
          have lst := hlst.2 s hs
          omega
      omega
theorem spn_100 (hg : gdL L nl) (h : RF L nl nr st ln) (hl : gLab (gS L nl) (2 * nP L nl) lab) : spn L nl st ln nr ≤ 100 := by
  have G := gS_geo hg hl
  have hd : (((List.range nr).filter (lfB L nl st ln)).map (fun k => 25 * sX L nl (st k) + sY L nl (st k))).Nodup := by
    refine List.Pairwise.map _ (R := fun a b => a ≠ b ∧ (a < nr ∧ lfB L nl st ln a = true) ∧ (b < nr ∧ lfB L nl st ln b = true)) ?_ ?_
    · rintro a b ⟨hab, ⟨ha, la⟩, hb, lb⟩ e
      have xa := sX_i hg (h.1 a ha).1
      have xb := sX_i hg (h.1 b hb).1
      have l1 := G.lstL ((RF_fam hg h hl).1 a ha).1 (rgs_rnd h ha) ((lfB_i hg h hl ha).mp la) (st_lst hg h ha)
      have l2 := G.lstL ((RF_fam hg h hl).1 b hb).1 (rgs_rnd h hb) ((lfB_i hg h hl hb).mp lb) (st_lst hg h hb)
      have ex : gx0 (gS L nl) (st a) = gx0 (gS L nl) (st b) := by omega
      have ey : gy0 (gS L nl) (st a) = gy0 (gS L nl) (st b) := by omega
      rw [ex, ey, l2] at l1
      exact hab (lf_uni hg h hl ha hb la lb l1.symm)
    · refine List.Pairwise.imp_of_mem (R := fun a b : Nat => a ≠ b) ?_ ((List.nodup_range (n := nr)).sublist List.filter_sublist)
      intro a b ha hb hab
      have ha := List.mem_filter.mp ha
      have hb := List.mem_filter.mp hb
      exact ⟨hab, ⟨List.mem_range.mp ha.1, ha.2⟩, List.mem_range.mp hb.1, hb.2⟩
  have hs : (((List.range nr).filter (lfB L nl st ln)).map (fun k => 25 * sX L nl (st k) + sY L nl (st k))) ⊆ ((List.range nl).filter (fun l => pFl L l)).flatMap (fun l => ((List.range nl).filter (fun l => !pFl L l)).map (fun m => 25 * pX L m + pY L l)) := by
    intro q hq
    obtain ⟨k, hk, rfl⟩ := List.mem_map.mp hq
    obtain ⟨hk, lk⟩ := List.mem_filter.mp hk
    have hk := List.mem_range.mp hk
    have xa := sX_i hg (h.1 k hk).1
    obtain ⟨v1, v2⟩ := lf_corner hg h hl hk lk
    obtain ⟨m, _, m1, _, m2, m3, _⟩ := gwV_i.mp v1
    obtain ⟨l, _, l1, _, l2, l3, _⟩ := gwH_i.mp v2
    refine List.mem_flatMap.mpr ⟨l, List.mem_filter.mpr ⟨List.mem_range.mpr l1, l2⟩, List.mem_map.mpr ⟨m, List.mem_filter.mpr ⟨List.mem_range.mpr m1, by rw [m2]; rfl⟩, by omega⟩⟩
  have h1 := List.Nodup.length_le_of_subset hd hs
  rw [List.length_map, fl_len (fun l m => 25 * pX L m + pY L l)] at h1
  have h2 := fil_two (fun l => pFl L l) (List.range nl)
  rw [List.length_range] at h2
  have n20 := hg.1
  have h3 : ∀ f u : Nat, f + u ≤ 20 → f * u ≤ 100 := by
    intro f u hfu
    have k1 : f * u ≤ f * (20 - f) := Nat.mul_le_mul_left f (by omega)
    have k2 : ∀ f : Fin 21, f.val * (20 - f.val) ≤ 100 := by decide
    have := k2 ⟨f, by omega⟩
    simp only at this
    omega
  exact Nat.le_trans h1 (h3 _ _ (by omega))
/-- a ring that isn't round its space begins where a line begins -/
theorem rt_low (hg : gdL L nl) (h : RF L nl nr st ln) (hl : gLab (gS L nl) (2 * nP L nl) lab) {k : Nat} (hk : k < nr) (h1 : ¬ lfB L nl st ln k = true) : ∃ l, l < nl ∧ gx0 (gS L nl) (st k) = pX L l ∧ gy0 (gS L nl) (st k) = pY L l := by
  have G := gS_geo hg hl
  have fam := RF_fam hg h hl
  have hR := (fam.1 k hk).1
  have hrnd := rgs_rnd h hk
  have hlst := st_lst hg h hk
  have hz : ∀ i j, lab i j = fcS L nl st lab k → gwn (gS L nl) (rgs L nl st ln k) i j = 0 := by
    rcases Fam.or G fam hk with q | q
    · exact absurd ((lfB_i hg h hl hk).mpr q.1) h1
    · exact q.2.1
  have hN := (h.1 k hk).1
  have hst := st_mem h hk
  obtain ⟨_, alt⟩ := G.lstR hR hrnd hz hlst
  have hdir := G.dir hR hrnd hlst hst rfl rfl
  -- no side comes to the beginning from what is less
  have no : ∀ t, t < 2 * nP L nl → gNx L nl t ∈ rgs L nl st ln k → (gx0 (gS L nl) t < gx0 (gS L nl) (st k) ∨ (gx0 (gS L nl) t = gx0 (gS L nl) (st k) ∧ gy0 (gS L nl) t < gy0 (gS L nl) (st k))) → False := by
    intro t ht hm hlt
    obtain ⟨q, hq, e⟩ := hrnd.2 _ hm
    have : q = t := gNx_inj hg q t (hR.2.1 q hq).1 ht e
    rw [this] at hq
    have := hlst.2 t hq
    omega
  have nxU : ∀ t q, t < 2 * nP L nl → q < 2 * nP L nl → gx0 (gS L nl) q = gx1 (gS L nl) t → gy0 (gS L nl) q = gy1 (gS L nl) t → gdr (gS L nl) (gNx L nl t) = gdr (gS L nl) q → gNx L nl t = q := by
    intro t q ht hq e1 e2 e3
    obtain ⟨n1, n2, n3, _⟩ := gNx_next ht
    exact glv_uni hg n1 hq (by rw [n2, e1]) (by rw [n3, e2]) e3
  obtain ⟨p, l, a, b, e1, e2, e3, e4, e5, e6, e7, e8, c⟩ := gS_c hN
  refine ⟨l, e6, ?_⟩
  by_cases a0 : a = 0
  · rcases c with ⟨c0, c1, c3, c4, c5, c6, c7⟩ | ⟨c0, c1, c3, c4, c5, c6, c7⟩ | c | c
    · omega
    · omega
    · omega
    · omega
  exfalso
  obtain ⟨p', f1, f2, f3, f4⟩ := k_cov e6 (show a - 1 < pN L l by omega)
  have kb : kB L nl p' = a := by
    have hin := (k_in f1).2.2.2.2.2 a (by omega)
    have hpt := (k_in e2).2.2.2.1
    rw [e3, e4] at hpt
    rw [f2] at hin
    rcases Nat.lt_or_ge a (kB L nl p') with z | z
    · exact absurd hpt (hin z)
    · omega
  have ht : 2 * p' < 2 * nP L nl := by omega
  obtain ⟨g1, g2, g3, g4, g5, _⟩ := gS_even f1
  have sx := sX_i hg ht
  rw [g1, g2, g3, g4, f2, kb] at sx
  obtain ⟨sx1, sx2, sx3, sx4, _⟩ := sx
  rw [f2] at g5
  obtain ⟨n1, n2, n3, nt⟩ := gNx_next ht
  unfold gTurn at nt
  have ka : kAn L nl p' < a := by omega
  rcases c with ⟨c0, c1, c3, c4, c5, c6, c7⟩ | ⟨c0, c1, c3, c4, c5, c6, c7⟩ | c | c
  · -- flat
    have t1 := aX_t (d := a) c1
    have t2 := aX_t (d := kAn L nl p') c1
    rw [if_pos c1] at g5
    have ep : gx1 (gS L nl) (2 * p') = gx0 (gS L nl) (st k) ∧ gy1 (gS L nl) (2 * p') = gy0 (gS L nl) (st k) := by omega
    rw [ep.1, ep.2, g5] at nt
    refine no _ ht ?_ (Or.inl (by omega))
    rcases alt with ⟨s', s1, s2, s3, s4⟩ | alt
    · have hs' := (hR.2.1 s' s1).1
      have : gdr (gS L nl) (gNx L nl (2 * p')) = gdr (gS L nl) s' := by
        rcases nt with nt | ⟨nt, _⟩
        · omega
        · exact absurd ⟨s', hs', s2, s3, s4⟩ nt
      rw [nxU _ s' ht hs' (by omega) (by omega) this]; exact s1
    · have : gdr (gS L nl) (gNx L nl (2 * p')) = gdr (gS L nl) (st k) := by
        rcases nt with nt | ⟨_, nt | ⟨nt, _⟩⟩
        · exact absurd ⟨_, n1, by rw [n2]; exact ep.1, by rw [n3]; exact ep.2, by omega⟩ alt
        · omega
        · exact absurd ⟨st k, hN, rfl, rfl, c3⟩ nt
      rw [nxU _ (st k) ht hN (by omega) (by omega) this]; exact hst
  · -- upright
    have t1 := aX_f (d := a) c1
    have t2 := aX_f (d := kAn L nl p') c1
    rw [if_neg (by rw [c1]; decide)] at g5
    have ep : gx1 (gS L nl) (2 * p') = gx0 (gS L nl) (st k) ∧ gy1 (gS L nl) (2 * p') = gy0 (gS L nl) (st k) := by omega
    rw [ep.1, ep.2, g5] at nt
    refine no _ ht ?_ (Or.inr (by omega))
    have nl2 : ¬ glv (gS L nl) (2 * nP L nl) (gx0 (gS L nl) (st k)) (gy0 (gS L nl) (st k)) 2 := by
      rintro ⟨t, y1, y2, y3, y4⟩
      obtain ⟨r, r1, r2, r3, r4, r5, r6⟩ := gS_rv y1
      have sh := gS_shape y1
      unfold gShape at sh
      obtain ⟨m1, m2, m3, mt⟩ := gNx_next r1
      unfold gTurn at mt
      rw [r4, r5, y2, y3, r6, y4] at mt
      refine no r r1 ?_ (Or.inl (by omega))
      have : gdr (gS L nl) (gNx L nl r) = gdr (gS L nl) (st k) := by
        rcases mt with mt | ⟨mt, _⟩
        · omega
        · exact absurd ⟨st k, hN, rfl, rfl, by omega⟩ mt
      rw [nxU _ (st k) r1 hN (by omega) (by omega) this]; exact hst
    have : gdr (gS L nl) (gNx L nl (2 * p')) = gdr (gS L nl) (st k) := by
      rcases nt with nt | ⟨_, nt | ⟨nt, _⟩⟩
      · exact absurd ⟨_, n1, by rw [n2]; exact ep.1, by rw [n3]; exact ep.2, by omega⟩ nl2
      · omega
      · exact absurd ⟨st k, hN, rfl, rfl, c3⟩ nt
    rw [nxU _ (st k) ht hN (by omega) (by omega) this]; exact hst
  · omega
  · omega
theorem nr_120 (hg : gdL L nl) (h : RF L nl nr st ln) (hl : gLab (gS L nl) (2 * nP L nl) lab) : nr ≤ 120 := by
  have G := gS_geo hg hl
  have fam := RF_fam hg h hl
  have hd : (((List.range nr).filter (fun k => !lfB L nl st ln k)).map (fun k => 25 * sX L nl (st k) + sY L nl (st k))).Nodup := by
    refine List.Pairwise.map _ (R := fun a b => a ≠ b ∧ (a < nr ∧ ¬ lfB L nl st ln a = true) ∧ (b < nr ∧ ¬ lfB L nl st ln b = true)) ?_ ?_
    · rintro a b ⟨hab, ⟨ha, la⟩, hb, lb⟩ e
      have xa := sX_i hg (h.1 a ha).1
      have xb := sX_i hg (h.1 b hb).1
      have l1 := st_lst hg h ha
      have l2 := st_lst hg h hb
      rw [show gx0 (gS L nl) (st a) = gx0 (gS L nl) (st b) by omega, show gy0 (gS L nl) (st a) = gy0 (gS L nl) (st b) by omega] at l1
      exact hab (Fam.lstU G fam (fun k hk => rgs_rnd h hk) ha hb (fun z => la ((lfB_i hg h hl ha).mpr z)) (fun z => lb ((lfB_i hg h hl hb).mpr z)) l1 l2)
    · refine List.Pairwise.imp_of_mem (R := fun a b : Nat => a ≠ b) ?_ ((List.nodup_range (n := nr)).sublist List.filter_sublist)
      intro a b ha hb hab
      have ha := List.mem_filter.mp ha
      have hb := List.mem_filter.mp hb
      exact ⟨hab, ⟨List.mem_range.mp ha.1, by have := ha.2; simpa using this⟩, List.mem_range.mp hb.1, by have := hb.2; simpa using this⟩
  have hs : (((List.range nr).filter (fun k => !lfB L nl st ln k)).map (fun k => 25 * sX L nl (st k) + sY L nl (st k))) ⊆ (List.range nl).map (fun l => 25 * pX L l + pY L l) := by
    intro q hq
    obtain ⟨k, hk, rfl⟩ := List.mem_map.mp hq
    obtain ⟨hk, lk⟩ := List.mem_filter.mp hk
    have hk := List.mem_range.mp hk
    have xa := sX_i hg (h.1 k hk).1
    obtain ⟨l, l1, l2, l3⟩ := rt_low hg h hl hk (by simpa using lk)
    exact List.mem_map.mpr ⟨l, List.mem_range.mpr l1, by omega⟩
  have h1 := List.Nodup.length_le_of_subset hd hs
  rw [List.length_map, List.length_map, List.length_range] at h1
  have h2 := fil_two (lfB L nl st ln) (List.range nr)
  rw [List.length_range] at h2
  have h3 := spn_100 hg h hl
  unfold spn at h3
  have n20 := hg.1
  omega
end
