/-! the plan in the reference: rings -/
section
variable {L : PLn} {nl : Nat} {t T : TS} {ps : List Nat}
/-- the rings found so far: all that begin before the place K -/
def RFp (L : PLn) (nl n : Nat) (st ln : Nat → Nat) (K : Int) : Prop :=
  (∀ k, k < n → st k < 2 * nP L nl ∧ 0 < ln k ∧ itn (gNx L nl) (ln k) (st k) = st k ∧ ∀ m, 0 < m → m < ln k → itn (gNx L nl) m (st k) ≠ st k)
  ∧ (∀ k, k < n → ∀ q ∈ rgs L nl st ln k, kyS L nl (st k) ≤ kyS L nl q) ∧ (∀ k k', k < k' → k' < n → kyS L nl (st k) < kyS L nl (st k')) ∧ (∀ s, s < 2 * nP L nl → kyS L nl s < K → ∃ k, k < n ∧ s ∈ rgs L nl st ln k) ∧ ∀ k, k < n → kyS L nl (st k) < K
theorem nx_ne {s : Nat} (hs : s < 2 * nP L nl) : gNx L nl s ≠ s := by
  intro e
  obtain ⟨_, h2, h3, _⟩ := gNx_next hs
  rw [e] at h2 h3
  have := gS_shape hs
  unfold gShape at this
  omega
theorem rgs_uniP (hg : gdL L nl) {n : Nat} {st ln : Nat → Nat} {K : Int} (h : RFp L nl n st ln K) {k k' q : Nat} (hk : k < n) (hk' : k' < n) (hq : q ∈ rgs L nl st ln k) (hq' : q ∈ rgs L nl st ln k') : k = k' := by
  have key : ∀ a b, a < n → b < n → q ∈ rgs L nl st ln a → q ∈ rgs L nl st ln b → kyS L nl (st a) ≤ kyS L nl (st b) := by
    intro a b ha hb h1 h2
    obtain ⟨a1, a2, a3, a4⟩ := h.1 a ha
    obtain ⟨b1, b2, b3, b4⟩ := h.1 b hb
    have e1 := (orb_same gNx_lt (gNx_inj hg) a1 a2 a3 h1)
    have e2 := (orb_same gNx_lt (gNx_inj hg) b1 b2 b3 h2)
    obtain ⟨j, _, ej⟩ := orb_mem.mp ((e2.2 (st b)).mpr (orb_mem.mpr ⟨0, b2, rfl⟩))
    refine h.2.1 a ha _ ?_
    rw [← ej]
    exact (e1.2 _).mp (orb_all a2 e1.1 j)
  have e := Int.le_antisymm (key k k' hk hk' hq hq') (key k' k hk' hk hq' hq)
  rcases Nat.lt_trichotomy k k' with z | z | z
  · have := h.2.2.1 k k' z hk'; omega
  · exact z
  · have := h.2.2.1 k' k z hk; omega
/-- there are at most half as many rings as sides -/
theorem RFp_le (hg : gdL L nl) {n : Nat} {st ln : Nat → Nat} {K : Int} (h : RFp L nl n st ln K) : n ≤ nP L nl := by
  have m0 : ∀ k, k < n → st k ∈ rgs L nl st ln k := fun k hk => orb_mem.mpr ⟨0, (h.1 k hk).2.1, rfl⟩
  have m1 : ∀ k, k < n → gNx L nl (st k) ∈ rgs L nl st ln k := fun k hk => (orb_rnd (h.1 k hk).2.1 (h.1 k hk).2.2.1).1 _ (m0 k hk)
  have hd : ((List.range n).flatMap (fun k => [st k, gNx L nl (st k)])).Nodup := by
    refine nd_flat List.nodup_range (fun k hk => ?_) (fun k hk k' hk' s hs hs' => ?_)
    · have := nx_ne (h.1 k (List.mem_range.mp hk)).1
      simp [Ne.symm this]
    · have hk := List.mem_range.mp hk
      have hk' := List.mem_range.mp hk'
      refine rgs_uniP hg h hk hk' (q := s) ?_ ?_
      · simp only [List.mem_cons, List.not_mem_nil, or_false] at hs
        rcases hs with rfl | rfl
        · exact m0 k hk
        · exact m1 k hk
      · simp only [List.mem_cons, List.not_mem_nil, or_false] at hs'
        rcases hs' with rfl | rfl
        · exact m0 k' hk'
        · exact m1 k' hk'
  have hs : ((List.range n).flatMap (fun k => [st k, gNx L nl (st k)])) ⊆ List.range (2 * nP L nl) := by
    intro q hq
    obtain ⟨k, hk, hq⟩ := List.mem_flatMap.mp hq
    have hk := List.mem_range.mp hk
    simp only [List.mem_cons, List.not_mem_nil, or_false] at hq
    rcases hq with rfl | rfl
    · exact List.mem_range.mpr (h.1 k hk).1
    · exact List.mem_range.mpr (gNx_lt _ (h.1 k hk).1)
  have h1 := List.Nodup.length_le_of_subset hd hs
  have h2 : ((List.range n).flatMap (fun k => [st k, gNx L nl (st k)])).length = 2 * n := by
    clear hd hs h1 m0 m1 h
    induction n with
    | zero => rfl
    | succ n ih => rw [List.range_succ, List.flatMap_append, List.length_append, ih]; simp; omega
  rw [h2, List.length_range] at h1
  omega
theorem RFp_mono {n : Nat} {st ln : Nat → Nat} {K K' : Int} (h : RFp L nl n st ln K) (h1 : K ≤ K') (h2 : ∀ s, s < 2 * nP L nl → K ≤ kyS L nl s → kyS L nl s < K' → ∃ k, k < n ∧ s ∈ rgs L nl st ln k) : RFp L nl n st ln K' := by
  refine ⟨h.1, h.2.1, h.2.2.1, fun s hs hk => ?_, fun k hk => Int.lt_of_lt_of_le (h.2.2.2.2 k hk) h1⟩
  by_cases z : kyS L nl s < K
  · exact h.2.2.2.1 s hs z
  · exact h2 s hs (by omega) hk
/-- a ring more -/
theorem RFp_add (hg : gdL L nl) {n s m : Nat} {st ln : Nat → Nat} {K : Int} (h : RFp L nl n st ln K) (hs : s < 2 * nP L nl) (hk : kyS L nl s = K) (hn : ∀ k, k < n → s ∉ rgs L nl st ln k) (m0 : 0 < m) (m1 : itn (gNx L nl) m s = s) (m2 : ∀ j, 0 < j → j < m → itn (gNx L nl) j s ≠ s) : RFp L nl (n + 1) (fun k => if k = n then s else st k) (fun k => if k = n then m else ln k) (K + 1) := by
  have rN : rgs L nl (fun k => if k = n then s else st k) (fun k => if k = n then m else ln k) n = orb (gNx L nl) m s := by unfold rgs; dsimp only; rw [if_pos rfl, if_pos rfl]
  have rO : ∀ k, k ≠ n → rgs L nl (fun k => if k = n then s else st k) (fun k => if k = n then m else ln k) k = rgs L nl st ln k := fun k hk => by unfold rgs; dsimp only; rw [if_neg hk, if_neg hk]
  refine ⟨fun k hk1 => ?_, fun k hk1 q hq => ?_, fun k k' h1 h2 => ?_, fun q hq hqk => ?_, fun k hk1 => ?_⟩
  · by_cases e : k = n
    · simp only [if_pos e]; exact ⟨hs, m0, m1, m2⟩
    · simp only [if_neg e]; exact h.1 k (by omega)
  · by_cases e : k = n
    · rw [e, rN] at hq
      simp only [if_pos e]
      rw [hk]
      rcases Int.lt_or_le (kyS L nl q) K with z | z
      · exfalso
        have hq2 : q < 2 * nP L nl := by obtain ⟨j, _, rfl⟩ := orb_mem.mp hq; exact itn_lt gNx_lt hs j
        obtain ⟨k', k1, k2⟩ := h.2.2.2.1 q hq2 z
        obtain ⟨a1, a2, a3, a4⟩ := h.1 k' k1
        have e1 := (orb_same gNx_lt (gNx_inj hg) a1 a2 a3 k2)
        have e2 := (orb_same gNx_lt (gNx_inj hg) hs m0 m1 hq)
        obtain ⟨j, _, ej⟩ := orb_mem.mp ((e2.2 s).mpr (orb_mem.mpr ⟨0, m0, rfl⟩))
        refine hn k' k1 ?_
        rw [← ej]
        exact (e1.2 _).mp (orb_all a2 e1.1 j)
      · exact z
    · rw [rO k e] at hq
      simp only [if_neg e]
      exact h.2.1 k (by omega) q hq
  · by_cases e' : k' = n
    · simp only [if_pos e', if_neg (show ¬ k = n by omega)]
      rw [hk]
      exact h.2.2.2.2 k (by omega)
    · simp only [if_neg e', if_neg (show ¬ k = n by omega)]
      exact h.2.2.1 k k' h1 (by omega)
  · by_cases e : kyS L nl q = K
    · have : q = s := ky_inj hg hq hs (by rw [e, hk])
      subst this
      exact ⟨n, by omega, by rw [rN]; exact orb_mem.mpr ⟨0, m0, rfl⟩⟩
    · obtain ⟨k, k1, k2⟩ := h.2.2.2.1 q hq (by omega)
      exact ⟨k, by omega, by rw [rO k (by omega)]; exact k2⟩
  · by_cases e : k = n
    · simp only [if_pos e]; omega
    · simp only [if_neg e]
      have := h.2.2.2.2 k (by omega)
      omega
theorem RFp_end (hg : gdL L nl) {n : Nat} {st ln : Nat → Nat} (h : RFp L nl n st ln 2500) : RF L nl n st ln := by
  refine ⟨h.1, h.2.1, h.2.2.1, fun s hs => h.2.2.2.1 s hs ?_⟩
  have a := gS_box hg hs
  have c := gS_d4 hs
  unfold kyS
  omega
/-- rings in the reference -/
def rgR (T : TS) (n : Nat) (st ln : Nat → Nat) : Prop := T.1 135 = Int32.ofNat n ∧ ∀ k, k < n → T.2.2.1 72 k = Int32.ofNat (st k) ∧ T.2.2.1 73 k = Int32.ofNat (ln k)
def meR (T : TS) (L : PLn) (nl n : Nat) (st ln : Nat → Nat) : Prop := ∀ s, s < 2 * nP L nl → T.2.2.1 71 s = if ∃ k, k < n ∧ s ∈ rgs L nl st ln k then 1 else 0
/-- one ring is gone round -/
theorem t_ring (hg : gdL L nl) (hT : TPl T L nl ps) {n s : Nat} {st ln : Nat → Nat} {K : Int} (h : RFp L nl n st ln K) (hr : rgR T n st ln) (hm : meR T L nl n st ln) (hs : s < 2 * nP L nl) (hk : kyS L nl s = K) : Tr (Option.bind (rdI T 71 920 (Int32.ofNat s)) (fun x4 => (if x4 = 0 then Option.bind (stI T 72 460 (T.1 135) (Int32.ofNat s)) (fun s5 => Option.bind (stI s5 73 460 (s5.1 135) 0) (fun s6 => Option.bind (wh (S := TS × Int32) (X := TS) (fun p53 => Option.bind (rdI p53.1 71 920 p53.2) (fun x7 => (if x7 = 0 then Option.bind (stI p53.1 71 920 p53.2 ((1 : Int32) &&& 1)) (fun s8 => Option.bind (rdI s8 73 460 (s8.1 135)) (fun x9 => Option.bind (stI s8 73 460 (s8.1 135) (x9 + 1)) (fun s10 => Option.bind (t_699 p53.2 s10) (fun x11 => some (.inl (s10, x11)))))) else some (.inr p53.1)))) (s6, Int32.ofNat s)) (fun v77 => Option.bind (some (ptI v77 135 ((v77.1 135) + 1))) (fun s12 => some s12)))) else some T))) (fun T' => ∃ n' st' ln', RFp L nl n' st' ln' (K + 1) ∧ rgR T' n' st' ln' ∧ meR T' L nl n' st' ln' ∧ agr [135] [71, 72, 73] T T') := by
  have hN := nP_le hg
  have hn := RFp_le hg h
  rw [rdI_n (by omega) (by omega), hm s hs]; repeat (first | rw [Option.bind_some] | rw [Sum.elim_inl] | rw [Sum.elim_inr])
  by_cases z : ∃ k, k < n ∧ s ∈ rgs L nl st ln k
  · rw [if_pos z, if_neg (by decide)]
    refine Tr.ok ⟨n, st, ln, RFp_mono h (by omega) (fun q hq h1 h2 => ?_), hr, hm, agr_refl⟩
    have : q = s := ky_inj hg hq hs (by omega)
    rw [this]; exact z
  · rw [if_neg z, if_pos rfl]
    obtain ⟨m, m0, mN, m1, m2⟩ := orb_per gNx_lt (gNx_inj hg) hs
    have hno : ∀ k, k < n → s ∉ rgs L nl st ln k := fun k hk hq => z ⟨k, hk, hq⟩
    have hadd := RFp_add hg h hs hk hno m0 m1 m2
    have hn1 := RFp_le hg hadd
    have nin : ∀ i, ¬ ∃ k, k < n ∧ itn (gNx L nl) i s ∈ rgs L nl st ln k := by
      rintro i ⟨k', k1, k2⟩
      obtain ⟨a1, a2, a3, a4⟩ := h.1 k' k1
      have e1 := (orb_same gNx_lt (gNx_inj hg) a1 a2 a3 k2)
      have e2 := (orb_same gNx_lt (gNx_inj hg) hs m0 m1 (orb_all m0 m1 i))
      obtain ⟨j, _, ej⟩ := orb_mem.mp ((e2.2 s).mpr (orb_mem.mpr ⟨0, m0, rfl⟩))
      refine hno k' k1 ?_
      rw [← ej]
      exact (e1.2 _).mp (orb_all a2 e1.1 j)
    have hnd := orb_nd gNx_lt (gNx_inj hg) hs m2
    rw [hr.1, stI_n (by omega) (by omega)]; repeat (first | rw [Option.bind_some] | rw [Sum.elim_inl] | rw [Sum.elim_inr])
    rw [show (wrI T 72 n (Int32.ofNat s)).1 135 = Int32.ofNat n from hr.1, stI_n (by omega) (by omega)]; repeat (first | rw [Option.bind_some] | rw [Sum.elim_inl] | rw [Sum.elim_inr])
    refine Tr.bd (P := fun U => agr [] [71, 72, 73] T U ∧ (∀ k, k ≠ n → U.2.2.1 72 k = T.2.2.1 72 k ∧ U.2.2.1 73 k = T.2.2.1 73 k) ∧ U.2.2.1 72 n = Int32.ofNat s ∧ U.2.2.1 73 n = Int32.ofNat m ∧ ∀ q, q < 2 * nP L nl → U.2.2.1 71 q = if (∃ j, j < m ∧ itn (gNx L nl) j s = q) then 1 else T.2.2.1 71 q) (wh_cnt m (fun i a => a.2 = Int32.ofNat (itn (gNx L nl) i s) ∧ agr [] [71, 72, 73] T a.1 ∧ (∀ k, k ≠ n → a.1.2.2.1 72 k = T.2.2.1 72 k ∧ a.1.2.2.1 73 k = T.2.2.1 73 k) ∧ a.1.2.2.1 72 n = Int32.ofNat s ∧ a.1.2.2.1 73 n = Int32.ofNat i ∧ ∀ q, q < 2 * nP L nl → a.1.2.2.1 71 q = if (∃ j, j < i ∧ itn (gNx L nl) j s = q) then 1 else T.2.2.1 71 q) ?_ ?_ ⟨rfl, agr_w (agr_w agr_refl (by simp)) (by simp), fun k hk => ⟨?_, ?_⟩, ?_, ?_, fun q hq => ?_⟩) ?_
    · rintro i ⟨U, _⟩ hi ⟨rfl, a, u1, u2, u3, u4⟩
      right
      dsimp only at a u1 u2 u3 u4 ⊢
      have hlt := itn_lt gNx_lt hs i
      rw [rdI_n (by omega) (by omega), u4 _ hlt]; repeat (first | rw [Option.bind_some] | rw [Sum.elim_inl] | rw [Sum.elim_inr])
      have e0 : ¬ ∃ j, j < i ∧ itn (gNx L nl) j s = itn (gNx L nl) i s := by
        rintro ⟨j, j1, j2⟩
        have e : itn (gNx L nl) (i - j) s = s := itn_can gNx_lt (gNx_inj hg) hs j (i - j) (by rw [show j + (i - j) = i by omega]; exact j2)
        exact m2 (i - j) (by omega) (by omega) e
      rw [if_neg e0, hm _ hlt, if_neg (nin i), if_pos rfl, stI_n (by omega) (by omega)]; repeat (first | rw [Option.bind_some] | rw [Sum.elim_inl] | rw [Sum.elim_inr])
      have e5 : (wrI U 71 (itn (gNx L nl) i s) ((1 : Int32) &&& 1)).1 135 = Int32.ofNat n := (a.1 135 (by simp)).trans hr.1
      rw [e5, rdI_n (by omega) (by omega), wr_at, if_neg (by omega), u3]; repeat (first | rw [Option.bind_some] | rw [Sum.elim_inl] | rw [Sum.elim_inr])
      rw [stI_n (by omega) (by omega), i_suc]; repeat (first | rw [Option.bind_some] | rw [Sum.elim_inl] | rw [Sum.elim_inr])
      have a' : agr [] [71, 72, 73] T (wrI (wrI U 71 (itn (gNx L nl) i s) ((1 : Int32) &&& 1)) 73 n (Int32.ofNat (i + 1))) := agr_w (agr_w a (by simp)) (by simp)
      rw [t_nxS hg (TPl_cg hT a' (by simp) (by simp)) hlt]; repeat (first | rw [Option.bind_some] | rw [Sum.elim_inl] | rw [Sum.elim_inr])
      refine ⟨_, rfl, rfl, a', fun k hk => ⟨?_, ?_⟩, ?_, ?_, fun q hq => ?_⟩
      · dsimp only; rw [wr_at, if_neg (by omega), wr_at, if_neg (by omega)]; exact (u1 k hk).1
      · dsimp only; rw [wr_at, if_neg (by omega), wr_at, if_neg (by omega)]; exact (u1 k hk).2
      · dsimp only; rw [wr_at, if_neg (by omega), wr_at, if_neg (by omega)]; exact u2
      · dsimp only; rw [wr_at, if_pos ⟨rfl, rfl⟩]
      · dsimp only
        rw [wr_at, if_neg (by omega), wr_at]
        by_cases w : q = itn (gNx L nl) i s
        · rw [if_pos ⟨rfl, w⟩, if_pos ⟨i, by omega, w.symm⟩]; rfl
        · rw [if_neg (fun y => w y.2), u4 q hq]
          by_cases y : ∃ j, j < i ∧ itn (gNx L nl) j s = q
          · obtain ⟨j, j1, j2⟩ := y
            rw [if_pos ⟨j, j1, j2⟩, if_pos ⟨j, by omega, j2⟩]
          · rw [if_neg y, if_neg]
            rintro ⟨j, j1, j2⟩
            by_cases e : j = i
            · rw [e] at j2; exact w j2.symm
            · exact y ⟨j, by omega, j2⟩
    · rintro ⟨U, _⟩ ⟨rfl, a, u1, u2, u3, u4⟩
      dsimp only at a u1 u2 u3 u4 ⊢
      rw [m1]
      refine ⟨U, ?_, a, u1, u2, u3, u4⟩
      rw [rdI_n (by omega) (by omega), u4 s hs]; repeat (first | rw [Option.bind_some] | rw [Sum.elim_inl] | rw [Sum.elim_inr])
      rw [if_pos (show ∃ j, j < m ∧ itn (gNx L nl) j s = s from ⟨0, m0, rfl⟩), if_neg (by decide)]
    · dsimp only; rw [wr_at, if_neg (by omega), wr_at, if_neg (by omega)]
    · dsimp only; rw [wr_at, if_neg (by omega), wr_at, if_neg (by omega)]
    · dsimp only; rw [wr_at, if_neg (by omega), wr_at, if_pos ⟨rfl, rfl⟩]
    · dsimp only; rw [wr_at, if_pos ⟨rfl, rfl⟩]; rfl
    · dsimp only; rw [wr_at, if_neg (by omega), wr_at, if_neg (by omega), if_neg]
      rintro ⟨j, j1, _⟩; omega
    · rintro U ⟨a, u1, u2, u3, u4⟩
      have e5 : U.1 135 = Int32.ofNat n := (a.1 135 (by simp)).trans hr.1
      rw [e5, i_suc]; repeat (first | rw [Option.bind_some] | rw [Sum.elim_inl] | rw [Sum.elim_inr])
      refine Tr.ok ⟨n + 1, _, _, hadd, ⟨rfl, fun k hk => ?_⟩, fun q hq => ?_, agr_p (agr_mono a (by simp) (by simp)) (by simp)⟩
      · rw [pt_2]
        by_cases e : k = n
        · simp only [if_pos e]
          rw [e]; exact ⟨u2, u3⟩
        · simp only [if_neg e]
          rw [(u1 k e).1, (u1 k e).2]
          exact hr.2 k (by omega)
      · rw [pt_2, u4 q hq, hm q hq]
        have rN : rgs L nl (fun k => if k = n then s else st k) (fun k => if k = n then m else ln k) n = orb (gNx L nl) m s := by unfold rgs; dsimp only; rw [if_pos rfl, if_pos rfl]
        have rO : ∀ k, k ≠ n → rgs L nl (fun k => if k = n then s else st k) (fun k => if k = n then m else ln k) k = rgs L nl st ln k := fun k hk => by unfold rgs; dsimp only; rw [if_neg hk, if_neg hk]
        by_cases y : ∃ j, j < m ∧ itn (gNx L nl) j s = q
        · rw [if_pos y, if_pos ⟨n, by omega, by rw [rN]; exact orb_mem.mpr y⟩]
        · rw [if_neg y]
          by_cases w : ∃ k, k < n ∧ q ∈ rgs L nl st ln k
          · obtain ⟨k, k1, k2⟩ := w
            rw [if_pos ⟨k, k1, k2⟩, if_pos ⟨k, by omega, by rw [rO k (by omega)]; exact k2⟩]
          · rw [if_neg w, if_neg]
            rintro ⟨k, k1, k2⟩
            by_cases e : k = n
            · rw [e, rN] at k2; exact y (orb_mem.mp k2)
            · rw [rO k e] at k2; exact w ⟨k, by omega, k2⟩
end
