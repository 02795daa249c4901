/-! the plan's sides: what comes next; rings -/
theorem lst_nat {P : Nat → Prop} (h : ∃ n, P n) : ∃ n, P n ∧ ∀ m, m < n → ¬ P m := by
  obtain ⟨n, hn⟩ := h
  induction n using Nat.strongRecOn with
  | ind n ih =>
    by_cases z : ∃ m, m < n ∧ P m
    · obtain ⟨m, h1, h2⟩ := z
      exact ih m h1 h2
    · exact ⟨n, hn, fun m hm hp => z ⟨m, hm, hp⟩⟩
def itn (f : Nat → Nat) : Nat → Nat → Nat
  | 0, s => s
  | k + 1, s => f (itn f k s)
def orb (f : Nat → Nat) (n s : Nat) : List Nat := (List.range n).map (fun k => itn f k s)
section ORB
variable {f : Nat → Nat} {N : Nat}
theorem itn_lt (hf : ∀ s, s < N → f s < N) {s : Nat} (hs : s < N) (k : Nat) : itn f k s < N := by
  induction k with
  | zero => exact hs
  | succ k ih => exact hf _ ih
theorem itn_add (i j s : Nat) : itn f (i + j) s = itn f i (itn f j s) := by
  induction i with
  | zero => rw [Nat.zero_add]; rfl
  | succ i ih => rw [Nat.succ_add]; exact congrArg f ih
theorem itn_can (hf : ∀ s, s < N → f s < N) (hi : ∀ s r, s < N → r < N → f s = f r → s = r) {s : Nat} (hs : s < N) (i k : Nat) (h : itn f i s = itn f (i + k) s) : itn f k s = s := by
  induction i with
  | zero => rw [Nat.zero_add] at h; exact h.symm
  | succ i ih =>
    rw [Nat.succ_add] at h
    exact ih (hi _ _ (itn_lt hf hs i) (itn_lt hf hs (i + k)) h)
theorem orb_per (hf : ∀ s, s < N → f s < N) (hi : ∀ s r, s < N → r < N → f s = f r → s = r) {s : Nat} (hs : s < N) : ∃ n, 0 < n ∧ n ≤ N ∧ itn f n s = s ∧ ∀ m, 0 < m → m < n → itn f m s ≠ s := by
  have h1 : ∃ n, (0 < n ∧ n ≤ N ∧ itn f n s = s) := by
    by_cases z : ∃ i k, 0 < k ∧ i + k ≤ N ∧ itn f i s = itn f (i + k) s
    · obtain ⟨i, k, h1, h2, h3⟩ := z
      exact ⟨k, h1, by omega, itn_can hf hi hs i k h3⟩
    · exfalso
      have hn : ((List.range (N + 1)).map (fun k => itn f k s)).Nodup := by
        refine List.Pairwise.map _ (R := fun a b => a < b ∧ b ≤ N) ?_ ?_
        · intro a b hab e
          exact z ⟨a, b - a, by omega, by omega, by rw [show a + (b - a) = b by omega]; exact e⟩
        · refine List.Pairwise.imp_of_mem ?_ (List.pairwise_lt_range (n := N + 1))
          intro a b ha hb hab
          have := List.mem_range.mp hb
          exact ⟨hab, by omega⟩
      have hs2 : ((List.range (N + 1)).map (fun k => itn f k s)) ⊆ List.range N := by
        intro x hx
        obtain ⟨k, _, rfl⟩ := List.mem_map.mp hx
        exact List.mem_range.mpr (itn_lt hf hs k)
      have := List.Nodup.length_le_of_subset hn hs2
      simp at this
      omega
  obtain ⟨n, ⟨h2, h3, h4⟩, h5⟩ := lst_nat h1
  exact ⟨n, h2, h3, h4, fun m hm hmn e => h5 m hmn ⟨hm, by omega, e⟩⟩
theorem orb_mem {n s q : Nat} : q ∈ orb f n s ↔ ∃ k, k < n ∧ itn f k s = q := by
  unfold orb
  rw [List.mem_map]
  constructor
  · rintro ⟨k, h1, h2⟩; exact ⟨k, List.mem_range.mp h1, h2⟩
  · rintro ⟨k, h1, h2⟩; exact ⟨k, List.mem_range.mpr h1, h2⟩
theorem orb_len (n s : Nat) : (orb f n s).length = n := by simp [orb]
theorem orb_nd (hf : ∀ s, s < N → f s < N) (hi : ∀ s r, s < N → r < N → f s = f r → s = r) {s n : Nat} (hs : s < N) (h : ∀ m, 0 < m → m < n → itn f m s ≠ s) : (orb f n s).Nodup := by
  refine List.Pairwise.map _ (R := fun a b => a < b ∧ b < n) ?_ ?_
  · intro a b hab e
    exact h (b - a) (by omega) (by omega) (itn_can hf hi hs a (b - a) (by rw [show a + (b - a) = b by omega]; exact e))
  · refine List.Pairwise.imp_of_mem ?_ (List.pairwise_lt_range (n := n))
    intro a b ha hb hab
    exact ⟨hab, List.mem_range.mp hb⟩
theorem orb_rnd {s n : Nat} (hn : 0 < n) (h : itn f n s = s) : grnd f (orb f n s) := by
  constructor
  · intro q hq
    obtain ⟨k, h1, rfl⟩ := orb_mem.mp hq
    by_cases e : k + 1 = n
    · refine orb_mem.mpr ⟨0, hn, ?_⟩
      show s = itn f (k + 1) s
      rw [e, h]
    · exact orb_mem.mpr ⟨k + 1, by omega, rfl⟩
  · intro q hq
    obtain ⟨k, h1, rfl⟩ := orb_mem.mp hq
    cases k with
    | zero =>
      refine ⟨itn f (n - 1) s, orb_mem.mpr ⟨n - 1, by omega, rfl⟩, ?_⟩
      show itn f (n - 1 + 1) s = s
      rw [show n - 1 + 1 = n by omega, h]
    | succ k => exact ⟨itn f k s, orb_mem.mpr ⟨k, by omega, rfl⟩, rfl⟩
/-- all that comes from a side of a ring lies in it -/
theorem orb_all {s n : Nat} (hn : 0 < n) (h : itn f n s = s) (k : Nat) : itn f k s ∈ orb f n s := by
  induction k with
  | zero => exact orb_mem.mpr ⟨0, hn, rfl⟩
  | succ k ih => exact (orb_rnd hn h).1 _ ih
theorem orb_sm (h : Nat → Int) (n s : Nat) : gsm (fun q => h (f q) - h q) (orb f n s) = h (itn f n s) - h s := by
  induction n with
  | zero => simp [orb, gsm, itn]
  | succ n ih =>
    have e : orb f (n + 1) s = orb f n s ++ [itn f n s] := by unfold orb; rw [List.range_succ, List.map_append]; rfl
    rw [e, sm_app, ih]
    show _ + (h (f (itn f n s)) - h (itn f n s) + 0) = h (f (itn f n s)) - h s
    omega
/-- rings of one and the same side -/
theorem orb_same (hf : ∀ s, s < N → f s < N) (hi : ∀ s r, s < N → r < N → f s = f r → s = r) {s n r : Nat} (hs : s < N) (hn : 0 < n) (h : itn f n s = s) (hr : r ∈ orb f n s) : itn f n r = r ∧ ∀ q, q ∈ orb f n r ↔ q ∈ orb f n s := by
  obtain ⟨k, hk, rfl⟩ := orb_mem.mp hr
  have e : itn f n (itn f k s) = itn f k s := by rw [← itn_add, Nat.add_comm, itn_add, h]
  refine ⟨e, fun q => ⟨fun hq => ?_, fun hq => ?_⟩⟩
  · obtain ⟨j, _, rfl⟩ := orb_mem.mp hq
    rw [← itn_add]
    exact orb_all hn h _
  · obtain ⟨j, hj, rfl⟩ := orb_mem.mp hq
    have : itn f (j + n - k) (itn f k s) = itn f j s := by
      rw [← itn_add, show j + n - k + k = j + n by omega, itn_add, h]
    rw [← this]
    exact orb_all hn e _
end ORB
/-! next -/
noncomputable def lvF (L : PLn) (nl : Nat) (x y : Int) (e : Nat) : Option Nat := (List.range (2 * nP L nl)).find? (fun t => decide (gx0 (gS L nl) t = x ∧ gy0 (gS L nl) t = y ∧ gdr (gS L nl) t = e))
noncomputable def lv4 (L : PLn) (nl : Nat) (x y : Int) (d : Nat) : Option Nat := (((lvF L nl x y ((d + 1) % 4)).or (lvF L nl x y (d % 4))).or (lvF L nl x y ((d + 3) % 4))).or (lvF L nl x y ((d + 2) % 4))
noncomputable def gNx (L : PLn) (nl s : Nat) : Nat := (lv4 L nl (gx1 (gS L nl) s) (gy1 (gS L nl) s) (gdr (gS L nl) s)).getD 0
section NX
variable {L : PLn} {nl : Nat}
theorem lvF_some {x y : Int} {e t : Nat} (h : lvF L nl x y e = some t) : t < 2 * nP L nl ∧ gx0 (gS L nl) t = x ∧ gy0 (gS L nl) t = y ∧ gdr (gS L nl) t = e :=
  by
  unfold lvF at h
  have z := List.find?_some h
  exact ⟨List.mem_range.mp (List.mem_of_find?_eq_some h), of_decide_eq_true z⟩
theorem lvF_none {x y : Int} {e : Nat} (h : lvF L nl x y e = none) : ¬ glv (gS L nl) (2 * nP L nl) x y e := by
  rintro ⟨t, h1, h2⟩
  exact List.find?_eq_none.mp h t (List.mem_range.mpr h1) (decide_eq_true h2)
theorem lvF_of (hg : gdL L nl) {t : Nat} (ht : t < 2 * nP L nl) : lvF L nl (gx0 (gS L nl) t) (gy0 (gS L nl) t) (gdr (gS L nl) t) = some t := by
  cases h : lvF L nl (gx0 (gS L nl) t) (gy0 (gS L nl) t) (gdr (gS L nl) t) with
  | none => exact absurd ⟨t, ht, rfl, rfl, rfl⟩ (lvF_none h)
  | some r =>
    obtain ⟨h1, h2, h3, h4⟩ := lvF_some h
    rw [glv_uni hg h1 ht h2 h3 h4]
theorem gS_rv {s : Nat} (hs : s < 2 * nP L nl) : gRev (gS L nl) (2 * nP L nl) s := by
  obtain ⟨r, h1, _, h2⟩ := gS_rev hs
  exact ⟨r, h1, h2⟩
theorem gS_d4 {s : Nat} (hs : s < 2 * nP L nl) : gdr (gS L nl) s < 4 := by
  have := gS_shape hs
  unfold gShape at this
  omega
theorem gNx_o {s : Nat} (hs : s < 2 * nP L nl) : ∃ t, lv4 L nl (gx1 (gS L nl) s) (gy1 (gS L nl) s) (gdr (gS L nl) s) = some t ∧ gNx L nl s = t ∧ t < 2 * nP L nl ∧ gx0 (gS L nl) t = gx1 (gS L nl) s ∧ gy0 (gS L nl) t = gy1 (gS L nl) s ∧ gTurn (gS L nl) (2 * nP L nl) (gx1 (gS L nl) s) (gy1 (gS L nl) s) (gdr (gS L nl) s) (gdr (gS L nl) t) := by
  have hd := gS_d4 hs
  have key : ∀ t e, lv4 L nl (gx1 (gS L nl) s) (gy1 (gS L nl) s) (gdr (gS L nl) s) = some t → lvF L nl (gx1 (gS L nl) s) (gy1 (gS L nl) s) e = some t → gTurn (gS L nl) (2 * nP L nl) (gx1 (gS L nl) s) (gy1 (gS L nl) s) (gdr (gS L nl) s) e → ∃ t, lv4 L nl (gx1 (gS L nl) s) (gy1 (gS L nl) s) (gdr (gS L nl) s) = some t ∧ gNx L nl s = t ∧ t < 2 * nP L nl ∧ gx0 (gS L nl) t = gx1 (gS L nl) s ∧ gy0 (gS L nl) t = gy1 (gS L nl) s ∧ gTurn (gS L nl) (2 * nP L nl) (gx1 (gS L nl) s) (gy1 (gS L nl) s) (gdr (gS L nl) s) (gdr (gS L nl) t) := by
    intro t e h1 h2 h3
    obtain ⟨h4, h5, h6, h7⟩ := lvF_some h2
    exact ⟨t, h1, by unfold gNx; rw [h1]; rfl, h4, h5, h6, by rw [h7]; exact h3⟩
  cases a1 : lvF L nl (gx1 (gS L nl) s) (gy1 (gS L nl) s) ((gdr (gS L nl) s + 1) % 4) with
  | some t => exact key t _ (by unfold lv4; rw [a1]; rfl) a1 (Or.inl rfl)
  | none =>
    have n1 := lvF_none a1
    cases a2 : lvF L nl (gx1 (gS L nl) s) (gy1 (gS L nl) s) (gdr (gS L nl) s % 4) with
    | some t => exact key t _ (by unfold lv4; rw [a1, a2]; rfl) a2 (Or.inr ⟨n1, Or.inl (Nat.mod_eq_of_lt hd)⟩)
    | none =>
      have n2 := lvF_none a2
      rw [Nat.mod_eq_of_lt hd] at n2
      cases a3 : lvF L nl (gx1 (gS L nl) s) (gy1 (gS L nl) s) ((gdr (gS L nl) s + 3) % 4) with
      | some t => exact key t _ (by unfold lv4; rw [a1, a2, a3]; rfl) a3 (Or.inr ⟨n1, Or.inr ⟨n2, Or.inl rfl⟩⟩)
      | none =>
        have n3 := lvF_none a3
        cases a4 : lvF L nl (gx1 (gS L nl) s) (gy1 (gS L nl) s) ((gdr (gS L nl) s + 2) % 4) with
        | some t => exact key t _ (by unfold lv4; rw [a1, a2, a3, a4]; rfl) a4 (Or.inr ⟨n1, Or.inr ⟨n2, Or.inr ⟨n3, rfl⟩⟩⟩)
        | none =>
          obtain ⟨r, h1, h2, h3, _, _, h4⟩ := gS_rv hs
          exact absurd ⟨r, h1, h2, h3, h4⟩ (lvF_none a4)
theorem gNx_lt : ∀ s, s < 2 * nP L nl → gNx L nl s < 2 * nP L nl := by
  intro s hs
  obtain ⟨t, _, e, h, _⟩ := gNx_o hs
  rw [e]; exact h
theorem gNx_next {s : Nat} (hs : s < 2 * nP L nl) : gNext (gS L nl) (2 * nP L nl) (gNx L nl) s := by
  obtain ⟨t, _, e, h⟩ := gNx_o hs
  unfold gNext
  rw [e]; exact h
theorem turn_inj {x y : Int} {g : SD} {N d d' e : Nat} (hd : d < 4) (hd' : d' < 4) (h : gTurn g N x y d e) (h' : gTurn g N x y d' e) (r : glv g N x y ((d + 2) % 4)) (r' : glv g N x y ((d' + 2) % 4)) : d = d' := by
  have i4 : ∀ d : Nat, d < 4 → d = 0 ∨ d = 1 ∨ d = 2 ∨ d = 3 := by omega
  unfold gTurn at h h'
  generalize hl : glv g N x y = lv at *
  rcases i4 d hd with rfl | rfl | rfl | rfl <;> rcases i4 d' hd' with rfl | rfl | rfl | rfl <;> first | rfl | (exfalso; simp only [Nat.reduceAdd, Nat.reduceMod] at h h' r r'; rcases h with rfl | ⟨n1, rfl | ⟨n2, rfl | ⟨n3, rfl⟩⟩⟩ <;> simp_all)
theorem gNx_inj (hg : gdL L nl) : ∀ s r, s < 2 * nP L nl → r < 2 * nP L nl → gNx L nl s = gNx L nl r → s = r := by
  intro s r hs hr e
  obtain ⟨h1, h2, h3, h4⟩ := gNx_next hs
  obtain ⟨k1, k2, k3, k4⟩ := gNx_next hr
  rw [← e] at k2 k3 k4
  have ex : gx1 (gS L nl) s = gx1 (gS L nl) r := h2.symm.trans k2
  have ey : gy1 (gS L nl) s = gy1 (gS L nl) r := h3.symm.trans k3
  obtain ⟨u, u0, u1, u2, u3, u4, u5, u6⟩ := gS_rev hs
  obtain ⟨v, v0, v1, v2, v3, v4, v5, v6⟩ := gS_rev hr
  rw [← ex, ← ey] at k4
  have ed := turn_inj (gS_d4 hs) (gS_d4 hr) h4 k4 ⟨u, u0, u2, u3, u6⟩ ⟨v, v0, by omega, by omega, v6⟩
  have := glv_uni hg u0 v0 (by omega) (by omega) (by omega)
  rw [u1, v1] at this
  split at this <;> split at this <;> omega
theorem gS_geo (hg : gdL L nl) {lab : Int → Int → Int} (h : gLab (gS L nl) (2 * nP L nl) lab) : Geo (gS L nl) (2 * nP L nl) (gNx L nl) lab :=
  ⟨fun _ hs => gS_shape hs, fun _ hs => gS_box hg hs, fun _ hs => gS_rv hs, gS_uniq hg, fun _ hs => gS_in hs, fun _ hs => gS_end hs, fun _ hs => gNx_next hs, h⟩
/-- a ring -/
theorem orb_RgF (hg : gdL L nl) {lab : Int → Int → Int} (h : gLab (gS L nl) (2 * nP L nl) lab) {s n : Nat} (hs : s < 2 * nP L nl) (he : itn (gNx L nl) n s = s) (hm : ∀ m, 0 < m → m < n → itn (gNx L nl) m s ≠ s) : RgF (gS L nl) (2 * nP L nl) lab (orb (gNx L nl) n s) (gLL (gS L nl) lab s) := by
  refine ⟨orb_nd gNx_lt (gNx_inj hg) hs hm, ?_, ?_⟩
  · intro q hq
    obtain ⟨k, hk, rfl⟩ := orb_mem.mp hq
    refine ⟨itn_lt gNx_lt hs k, ?_⟩
    clear hq hk
    induction k with
    | zero => rfl
    | succ k ih => exact ((gS_geo hg h).LLnext (itn_lt gNx_lt hs k)).trans ih
  · intro f
    have e : ∀ q ∈ orb (gNx L nl) n s, f (gx1 (gS L nl) q) (gy1 (gS L nl) q) - f (gx0 (gS L nl) q) (gy0 (gS L nl) q) = f (gx0 (gS L nl) (gNx L nl q)) (gy0 (gS L nl) (gNx L nl q)) - f (gx0 (gS L nl) q) (gy0 (gS L nl) q) := by
      intro q hq
      obtain ⟨k, _, rfl⟩ := orb_mem.mp hq
      obtain ⟨_, h2, h3, _⟩ := gNx_next (itn_lt gNx_lt hs k)
      rw [h2, h3]
    rw [sm_congr e, orb_sm (f := gNx L nl) (fun q => f (gx0 (gS L nl) q) (gy0 (gS L nl) q)), he]
    omega
end NX
