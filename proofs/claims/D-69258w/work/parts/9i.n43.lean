/-! the plan: rings by their least points -/
theorem pw_eq : ∀ {xs ys : List Nat}, xs.Pairwise (· < ·) → ys.Pairwise (· < ·) → (∀ q, q ∈ xs ↔ q ∈ ys) → xs = ys
  | [], [], _, _, _ => rfl
  | [], y :: t, _, _, h => by have := (h y).mpr (by simp); cases this
  | x :: r, [], _, _, h => by have := (h x).mp (by simp); cases this
  | x :: r, y :: t, hx, hy, h => by
    have hx' := List.pairwise_cons.mp hx
    have hy' := List.pairwise_cons.mp hy
    have e : x = y := by
      rcases List.mem_cons.mp ((h x).mp (by simp)) with e | e
      · exact e
      · rcases List.mem_cons.mp ((h y).mpr (by simp)) with e2 | e2
        · exact e2.symm
        · have := hx'.1 y e2; have := hy'.1 x e; omega
    subst e
    rw [pw_eq hx'.2 hy'.2 (fun q => ⟨fun hq => ?_, fun hq => ?_⟩)]
    · rcases List.mem_cons.mp ((h q).mp (List.mem_cons_of_mem _ hq)) with e | e
      · rw [e] at hq; have := hx'.1 x hq; omega
      · exact e
    · rcases List.mem_cons.mp ((h q).mpr (List.mem_cons_of_mem _ hq)) with e | e
      · rw [e] at hq; have := hy'.1 x hq; omega
      · exact e
section
variable {L : PLn} {nl nr : Nat} {st ln : Nat → Nat} {lab : Int → Int → Int} {b0 : Nat} {h h' : lHeap} {s : CS} {pid nid : Nat → Nat → Nat} {rc rl : Nat → Nat} {M : Nat}
/-- where a ring begins, by its number -/
noncomputable def cdR (L : PLn) (nl : Nat) (st : Nat → Nat) (k : Nat) : Nat := 25 * sX L nl (st k) + sY L nl (st k)
theorem cdR_lt (hg : gdL L nl) (hR : RF L nl nr st ln) {k : Nat} (hk : k < nr) : cdR L nl st k < 625 ∧ cdR L nl st k / 25 = sX L nl (st k) ∧ cdR L nl st k % 25 = sY L nl (st k) := by
  have := sX_i hg (hR.1 k hk).1
  unfold cdR
  omega
theorem cdR_lf (hg : gdL L nl) (hR : RF L nl nr st ln) (hl : gLab (gS L nl) (2 * nP L nl) lab) {a b : Nat} (ha : a < nr) (hb : b < nr) (la : lfB L nl st ln a = true) (lb : lfB L nl st ln b = true) (e : cdR L nl st a = cdR L nl st b) : a = b := by
  have G := gS_geo hg hl
  have xa := sX_i hg (hR.1 a ha).1
  have xb := sX_i hg (hR.1 b hb).1
  unfold cdR at e
  have l1 := G.lstL ((RF_fam hg hR hl).1 a ha).1 (rgs_rnd hR ha) ((lfB_i hg hR hl ha).mp la) (st_lst hg hR ha)
  have l2 := G.lstL ((RF_fam hg hR hl).1 b hb).1 (rgs_rnd hR hb) ((lfB_i hg hR hl hb).mp lb) (st_lst hg hR hb)
  rw [show gx0 (gS L nl) (st a) = gx0 (gS L nl) (st b) by omega, show gy0 (gS L nl) (st a) = gy0 (gS L nl) (st b) by omega, l2] at l1
  exact lf_uni hg hR hl ha hb la lb l1.symm
theorem cdR_rt (hg : gdL L nl) (hR : RF L nl nr st ln) (hl : gLab (gS L nl) (2 * nP L nl) lab) {a b : Nat} (ha : a < nr) (hb : b < nr) (la : ¬ lfB L nl st ln a = true) (lb : ¬ lfB L nl st ln b = true) (e : cdR L nl st a = cdR L nl st b) : a = b := by
  have xa := sX_i hg (hR.1 a ha).1
  have xb := sX_i hg (hR.1 b hb).1
  unfold cdR at e
  have l1 := st_lst hg hR ha
  have l2 := st_lst hg hR hb
  rw [show gx0 (gS L nl) (st a) = gx0 (gS L nl) (st b) by omega, show gy0 (gS L nl) (st a) = gy0 (gS L nl) (st b) by omega] at l1
  exact Fam.lstU (gS_geo hg hl) (RF_fam hg hR hl) (fun k hk => rgs_rnd hR hk) ha hb (fun z => la ((lfB_i hg hR hl ha).mpr z)) (fun z => lb ((lfB_i hg hR hl hb).mpr z)) l1 l2
theorem cdR_mono (hg : gdL L nl) (hR : RF L nl nr st ln) {a b : Nat} (hab : a < b) (hb : b < nr) : cdR L nl st a ≤ cdR L nl st b := by
  have e := hR.2.2.1 a b hab hb
  have xa := sX_i hg (hR.1 a (by omega)).1
  have xb := sX_i hg (hR.1 b hb).1
  have da := gS_d4 (hR.1 a (by omega)).1
  have db := gS_d4 (hR.1 b hb).1
  unfold kyS at e
  unfold cdR
  omega
/-- a map of rings by their least points -/
def MRs (h : lHeap) (L : PLn) (nl nr : Nat) (st : Nat → Nat) (pid : Nat → Nat → Nat) (rc : Nat → Nat) (M : Nat) (S : Nat → Prop) : Prop := ∃ (mc : Int32) (es : List (Value × Value)), h M = some (true, false, 1042, .int mc :: fl es) ∧ es.length ≤ nr ∧ (∃ m, Mp (rkP h) es m ∧ (∀ k, S k → m (cdR L nl st k) = some (.ref (rc k))) ∧ ∀ z : Nat, (∀ k, S k → cdR L nl st k ≠ z) → m z = none) ∧ ∀ v ∈ es.map Prod.fst, ∃ k, S k ∧ k < nr ∧ v = .ref (pid (sX L nl (st k)) (sY L nl (st k)))
/-- points of rings -/
def PRs (h : lHeap) (L : PLn) (nl nr : Nat) (st : Nat → Nat) (pid : Nat → Nat → Nat) : Prop := ∀ k, k < nr → h (pid (sX L nl (st k)) (sY L nl (st k))) = some (poC (sX L nl (st k)) (sY L nl (st k)))
theorem PRs_of {LC : Nat → Nat} {mp : Nat} {nid aid : Nat → Nat → Nat} {si : Nat → Nat} {rv : Nat → Value} (hg : gdL L nl) (hR : RF L nl nr st ln) (r : GSt b0 h L nl LC mp pid nid aid si rv) : PRs h L nl nr st pid := fun k hk => (GSt_sd hg r (hR.1 k hk).1).2.2.1
theorem MRs_ext (hg : gdL L nl) (hR : RF L nl nr st ln) {S : Nat → Prop} (r : MRs h L nl nr st pid rc M S) (e : h' M = h M) (p : PRs h L nl nr st pid) (p' : PRs h' L nl nr st pid) : MRs h' L nl nr st pid rc M S := by
  obtain ⟨mc, es, r1, r2, ⟨m, r3, r4, r5⟩, r6⟩ := r
  refine ⟨mc, es, by rw [e]; exact r1, r2, ⟨m, Mp_rk r3 (fun v hv => ?_), r4, r5⟩, r6⟩
  obtain ⟨k, _, hk, rfl⟩ := r6 v hv
  have b := sX_i hg (hR.1 k hk).1
  rw [rkP_pt (p' k hk) b.2.2.2.2.1 b.2.2.2.2.2.1, rkP_pt (p k hk) b.2.2.2.2.1 b.2.2.2.2.2.1]
theorem MRs_put (hg : gdL L nl) (hR : RF L nl nr st ln) {S : Nat → Prop} (r : MRs s.1 L nl nr st pid rc M S) (p : PRs s.1 L nl nr st pid) {k : Nat} (hk : k < nr) (hn : ¬ S k) (hS : ∀ k', S k' → k' < nr ∧ cdR L nl st k' ≠ cdR L nl st k) (hlen : ∀ es : List (Value × Value), ∀ mc, s.1 M = some (true, false, 1042, .int mc :: fl es) → es.length < nr) (hN : nr ≤ 400) :
    ∃ v n j xs, tmPut s M (.ref (pid (sX L nl (st k)) (sY L nl (st k)))) (.ref (rc k)) = some (v, cput s 1042 M n j xs) ∧ n ≤ 1 ∧ j ≤ 6 ∧ MRs (cput s 1042 M n j xs).1 L nl nr st pid rc M (fun q => S q ∨ q = k) ∧ ∃ es mc, xs = .int mc :: fl es ∧ ∀ es0 mc0, s.1 M = some (true, false, 1042, .int mc0 :: fl es0) → es.length = es0.length + 1 := by
  obtain ⟨mc, es, r1, r2, ⟨m, r3, r4, r5⟩, r6⟩ := r
  have b := sX_i hg (hR.1 k hk).1
  have pk := p k hk
  have hko : KOk s (rkP s.1) (.ref (pid (sX L nl (st k)) (sY L nl (st k))) :: es.map Prod.fst) := by
    refine KOk_pt (fun v hv => ?_)
    rcases List.mem_cons.mp hv with rfl | hv
    · exact ⟨_, _, _, rfl, b.2.2.2.2.1, b.2.2.2.2.2.1, pk⟩
    · obtain ⟨k', _, hk', rfl⟩ := r6 v hv
      have b' := sX_i hg (hR.1 k' hk').1
      exact ⟨_, _, _, rfl, b'.2.2.2.2.1, b'.2.2.2.2.2.1, p k' hk'⟩
  obtain ⟨es2, mc2, n, j, t1, t2, t3, t4, t5, t6, t7⟩ := tm_put (v := .ref (rc k)) r1 hko r3 (by omega)
  have rk0 : rkP s.1 (.ref (pid (sX L nl (st k)) (sY L nl (st k)))) = (cdR L nl st k : Nat) := by
    rw [rkP_pt pk b.2.2.2.2.1 b.2.2.2.2.2.1]
    unfold cdR
    omega
  have nM : ∀ k', k' < nr → pid (sX L nl (st k')) (sY L nl (st k')) ≠ M := fun k' hk' => apart (p k' hk') r1 (by show ¬ (63 : Nat) = 1042; decide)
  have none0 : m (cdR L nl st k) = none := r5 _ (fun q hq => (hS q hq).2)
  rw [rk0] at t4 t6
  refine ⟨_, n, j, _, t1, t2, t3, ⟨mc2, es2, cput_eq .., ?_, ⟨_, Mp_rk t4 (fun v hv => ?_), fun q hq => ?_, fun z hz => ?_⟩, fun v hv => ?_⟩, es2, mc2, rfl, fun es0 mc0 e0 => ?_⟩
  · have := hlen es mc r1
    rw [t6, none0]
    simp
    omega
  · have : ∃ k', k' < nr ∧ v = .ref (pid (sX L nl (st k')) (sY L nl (st k'))) := by
      rcases t5 v hv with rfl | hv
      · exact ⟨k, hk, rfl⟩
      · obtain ⟨k', _, hk', e⟩ := r6 v hv
        exact ⟨k', hk', e⟩
    obtain ⟨k', hk', rfl⟩ := this
    have b' := sX_i hg (hR.1 k' hk').1
    rw [rkP_pt (p k' hk') b'.2.2.2.2.1 b'.2.2.2.2.2.1, rkP_pt ((cput_ne (nM k' hk')).trans (p k' hk')) b'.2.2.2.2.1 b'.2.2.2.2.2.1]
  · rcases hq with hq | rfl
    · rw [if_neg (by have := (hS q hq).2; omega)]; exact r4 q hq
    · rw [if_pos rfl]
  · have := hz k (Or.inr rfl)
    rw [if_neg (by omega)]
    exact r5 z (fun q hq => hz q (Or.inl hq))
  · rcases t5 v hv with rfl | hv
    · exact ⟨k, Or.inr rfl, hk, rfl⟩
    · obtain ⟨k', h1, h2, h3⟩ := r6 v hv
      exact ⟨k', Or.inl h1, h2, h3⟩
  · have : es0 = es := by
      have := e0.symm.trans r1
      have e := Option.some.inj this
      simp only [Prod.mk.injEq, List.cons.injEq, true_and] at e
      have := congrArg prs e.2
      rwa [prs_fl, prs_fl] at this
    rw [this, t6, none0]
    simp
/-- the entries in their order -/
theorem MRs_at (hg : gdL L nl) (hR : RF L nl nr st ln) {S : Nat → Prop} {K : List Nat} (p : PRs h L nl nr st pid) (hK : ∀ k, k ∈ K ↔ S k) (hKn : ∀ k ∈ K, k < nr) (hKp : (K.map (cdR L nl st)).Pairwise (· < ·)) {mc : Int32} {es : List (Value × Value)} (r1 : h M = some (true, false, 1042, .int mc :: fl es)) (r : MRs h L nl nr st pid rc M S) : es.length = K.length ∧ ∀ i (hi : i < es.length), es[i].2 = .ref (rc (K.getD i 0)) := by
  obtain ⟨mc', es', r1', r2, ⟨m, r3, r4, r5⟩, r6⟩ := r
  have ee : es' = es := by
    have e := Option.some.inj (r1'.symm.trans r1)
    simp only [Prod.mk.injEq, List.cons.injEq, true_and] at e
    have := congrArg prs e.2
    rwa [prs_fl, prs_fl] at this
  subst ee
  have rk : ∀ q ∈ es', ∃ k, S k ∧ k < nr ∧ rkP h q.1 = (cdR L nl st k : Nat) := by
    intro q hq
    obtain ⟨k, h1, h2, e⟩ := r6 q.1 (List.mem_map.mpr ⟨q, hq, rfl⟩)
    have b := sX_i hg (hR.1 k h2).1
    refine ⟨k, h1, h2, ?_⟩
    rw [e, rkP_pt (p k h2) b.2.2.2.2.1 b.2.2.2.2.2.1]
    unfold cdR
    omega
  have el : es'.map (fun q => (rkP h q.1).toNat) = K.map (cdR L nl st) := by
    refine pw_eq ?_ hKp (fun z => ⟨fun hz => ?_, fun hz => ?_⟩)
    · rw [List.pairwise_map]
      refine r3.1.imp_of_mem (fun {a b} ha hb hab => ?_)
      obtain ⟨_, _, _, e1⟩ := rk a ha
      obtain ⟨_, _, _, e2⟩ := rk b hb
      omega
    · obtain ⟨q, hq, rfl⟩ := List.mem_map.mp hz
      obtain ⟨k, h1, h2, e⟩ := rk q hq
      exact List.mem_map.mpr ⟨k, (hK k).mpr h1, by rw [e]; rfl⟩
    · obtain ⟨k, hk, rfl⟩ := List.mem_map.mp hz
      obtain ⟨q, hq, e⟩ := r3.2.2 _ _ (r4 k ((hK k).mp hk))
      exact List.mem_map.mpr ⟨q, hq, by rw [e]; rfl⟩
  have len : es'.length = K.length := by
    have := congrArg List.length el
    rwa [List.length_map, List.length_map] at this
  refine ⟨len, fun i hi => ?_⟩
  have e1 := r3.2.1 es'[i] (List.getElem_mem hi)
  have e2 : (rkP h es'[i].1).toNat = cdR L nl st (K.getD i 0) := by
    have := congrArg (fun l => l[i]?) el
    simp only [List.getElem?_map, List.getElem?_eq_getElem hi, List.getElem?_eq_getElem (show i < K.length by omega), Option.map_some] at this
    rw [getD_lt (show i < K.length by omega)]
    exact Option.some.inj this
  obtain ⟨_, _, _, e3⟩ := rk es'[i] (List.getElem_mem hi)
  have e4 : rkP h es'[i].1 = (cdR L nl st (K.getD i 0) : Nat) := by omega
  have := r4 (K.getD i 0) ((hK _).mp (by rw [getD_lt (show i < K.length by omega)]; exact List.getElem_mem _))
  rw [e4, this] at e1
  exact (Option.some.inj e1).symm
end
