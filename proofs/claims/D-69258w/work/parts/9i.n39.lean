/-! the plan: all rings in the component -/
theorem sm_perm {f : Nat → Int} {l m : List Nat} (h : l.Perm m) : gsm f l = gsm f m := by
  induction h with
  | nil => rfl
  | cons x _ ih => show f x + _ = f x + _; rw [ih]
  | swap x y l => show f y + (f x + _) = f x + (f y + _); omega
  | trans _ _ h1 h2 => exact h1.trans h2
section
variable {L : PLn} {nl nr : Nat} {st ln : Nat → Nat}
theorem orb_perm (hg : gdL L nl) (h : RF L nl nr st ln) {k q : Nat} (hk : k < nr) (hq : q ∈ rgs L nl st ln k) : q < 2 * nP L nl ∧ itn (gNx L nl) (ln k) q = q ∧ (∀ j, 0 < j → j < ln k → itn (gNx L nl) j q ≠ q) ∧ (∀ r, r ∈ orb (gNx L nl) (ln k) q ↔ r ∈ rgs L nl st ln k) ∧ (orb (gNx L nl) (ln k) q).Nodup ∧ (rgs L nl st ln k).Nodup := by
  obtain ⟨a1, a2, a3, a4⟩ := h.1 k hk
  obtain ⟨e1, e2⟩ := orb_same gNx_lt (gNx_inj hg) a1 a2 a3 hq
  have hN := rgs_lt h hk hq
  have mn : ∀ j, 0 < j → j < ln k → itn (gNx L nl) j q ≠ q := by
    intro j j1 j2 e
    obtain ⟨a, _, rfl⟩ := orb_mem.mp hq
    rw [← itn_add, Nat.add_comm] at e
    exact a4 j j1 j2 (itn_can gNx_lt (gNx_inj hg) a1 a j e.symm)
  exact ⟨hN, e1, mn, e2, orb_nd gNx_lt (gNx_inj hg) hN mn, orb_nd gNx_lt (gNx_inj hg) a1 a4⟩
theorem tn_st (hg : gdL L nl) (h : RF L nl nr st ln) {k q : Nat} (hk : k < nr) (hq : q ∈ rgs L nl st ln k) : gsm (tnS L nl) (orb (gNx L nl) (ln k) q) = gtrn (gS L nl) (rgs L nl st ln k) := by
  obtain ⟨_, _, _, e2, n1, n2⟩ := orb_perm hg h hk hq
  exact sm_perm ((List.perm_ext_iff_of_nodup n1 n2).mpr e2)
theorem lpt_st (hg : gdL L nl) (h : RF L nl nr st ln) {k q : Nat} (hk : k < nr) (hq : q ∈ rgs L nl st ln k) : lpt L nl q (ln k) / 25 = sX L nl (st k) ∧ lpt L nl q (ln k) % 25 = sY L nl (st k) := by
  obtain ⟨hN, e1, _, e2, _⟩ := orb_perm hg h hk hq
  obtain ⟨d, s', _, d1, d2, _, d5⟩ := st_ex hg hN (h.1 k hk).2.1
  have m1 := (e2 s').mp d1
  have le1 := h.2.1 k hk s' m1
  have le2 := d5 (st k) ((e2 _).mpr (st_mem h hk))
  have : s' = st k := ky_inj hg (rgs_lt h hk m1) (h.1 k hk).1 (by omega)
  obtain ⟨q1, q2, q3, _⟩ := lvF_some d2
  rw [this] at q2 q3
  have b := sX_i hg (h.1 k hk).1
  omega
/-- how many sides some rings have -/
def lnS (ln : Nat → Nat) (od : List Nat) : Nat := (od.map ln).sum
theorem lnS_add (od : List Nat) (k : Nat) : lnS ln (od ++ [k]) = lnS ln od + ln k := by simp [lnS]
theorem lnS_le (hg : gdL L nl) (h : RF L nl nr st ln) {od : List Nat} (hd : od.Nodup) (ho : ∀ k ∈ od, k < nr) : lnS ln od ≤ 2 * nP L nl := by
  have n1 : (od.flatMap (rgs L nl st ln)).Nodup := nd_flat hd (fun k hk => (orb_perm hg h (ho k hk) (st_mem h (ho k hk))).2.2.2.2.2) (fun k hk k' hk' s a b => rgs_uni hg h (ho k hk) (ho k' hk') a b)
  have n2 : od.flatMap (rgs L nl st ln) ⊆ List.range (2 * nP L nl) := by
    intro q hq
    obtain ⟨k, hk, hq⟩ := List.mem_flatMap.mp hq
    exact List.mem_range.mpr (rgs_lt h (ho k hk) hq)
  have := List.Nodup.length_le_of_subset n1 n2
  rw [List.length_range] at this
  have e : (od.flatMap (rgs L nl st ln)).length = lnS ln od := by
    clear n1 n2 this hd ho
    induction od with
    | nil => rfl
    | cons k r ih =>
      rw [List.flatMap_cons, List.length_append, ih]
      unfold rgs
      rw [orb_len]
      simp [lnS]
  omega
/-- ring cells -/
noncomputable def rgC (L : PLn) (nl : Nat) (st ln : Nat → Nat) (nid : Nat → Nat → Nat) (rl : Nat → Nat) (sv : Value) (k : Nat) : lCell := (true, false, 66, [.ref (rl k), .ref (nid (sX L nl (st k)) (sY L nl (st k))), .int (Int32.ofInt (gtrn (gS L nl) (rgs L nl st ln k))), sv])
def RGs (b0 : Nat) (h : lHeap) (L : PLn) (nl nr : Nat) (st ln : Nat → Nat) (od : List Nat) (rc rl q : Nat → Nat) (nid : Nat → Nat → Nat) (si : Nat → Nat) (sv : Nat → Value) : Prop :=
  od.Nodup ∧ (∀ k ∈ od, k < nr ∧ q k ∈ rgs L nl st ln k ∧ b0 ≤ rc k ∧ b0 ≤ rl k ∧ h (rc k) = some (rgC L nl st ln nid rl (sv k) k) ∧ ∃ mc : Int32, h (rl k) = some (true, false, 1013, .int mc :: rowC (fun j => .ref (si (itn (gNx L nl) j (q k)))) (ln k))) ∧ (∀ k ∈ od, ∀ k' ∈ od, rc k = rc k' → k = k') ∧ ∀ k ∈ od, ∀ k' ∈ od, rl k = rl k' → k = k'
/-- the rings that sides have -/
def rvR (L : PLn) (nl : Nat) (st ln : Nat → Nat) (od : List Nat) (rc : Nat → Nat) (rv : Nat → Value) : Prop := ∀ j, (∀ k ∈ od, j ∈ rgs L nl st ln k → rv j = .ref (rc k)) ∧ ((∀ k ∈ od, j ∉ rgs L nl st ln k) → rv j = .null)
theorem RGs_ext {b0 : Nat} {h h' : lHeap} {od : List Nat} {rc rl q : Nat → Nat} {nid : Nat → Nat → Nat} {si : Nat → Nat} {sv : Nat → Value} (r : RGs b0 h L nl nr st ln od rc rl q nid si sv) (e : ∀ k ∈ od, h' (rc k) = h (rc k) ∧ h' (rl k) = h (rl k)) : RGs b0 h' L nl nr st ln od rc rl q nid si sv := by
  refine ⟨r.1, fun k hk => ?_, r.2.2.1, r.2.2.2⟩
  obtain ⟨a1, a2, a3, a4, a5, mc, a6⟩ := r.2.1 k hk
  exact ⟨a1, a2, a3, a4, by rw [(e k hk).1]; exact a5, mc, by rw [(e k hk).2]; exact a6⟩
end
