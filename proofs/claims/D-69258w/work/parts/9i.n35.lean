/-! the plan: sides with their rings; what comes next in the component -/
/-- all pieces are there; rv tells the rings that sides have -/
def GSt (b0 : Nat) (h : lHeap) (L : PLn) (nl : Nat) (LC : Nat → Nat) (mp : Nat) (pid nid aid : Nat → Nat → Nat) (si : Nat → Nat) (rv : Nat → Value) : Prop :=
  NDs b0 h L nl mp (nP L nl) (isPt L nl) pid nid aid si ∧ (∀ k, k < 2 * nP L nl → b0 ≤ si k ∧ h (si k) = some (sdC L nl LC nid si (rv k) k)) ∧ ∀ j k, j < 2 * nP L nl → k < 2 * nP L nl → si j = si k → j = k
section
variable {L : PLn} {nl : Nat} {LC LD : Nat → Nat} {b0 : Nat} {h h' h0 : lHeap} {s : CS} {F fL ou mp SL : Nat} {ms ml : Int32} {pid nid aid : Nat → Nat → Nat} {si : Nat → Nat} {rv : Nat → Value}
theorem VL_all (hg : gdL L nl) {x y : Nat} : VL L nl nl x y ↔ isPt L nl x y := by
  constructor
  · rintro ⟨m, d, h1, h2, rfl, rfl⟩
    exact (cts_mem.mp h2).2
  · intro h
    have h' := h
    obtain ⟨l, hl, ho, _⟩ := h'
    obtain ⟨d, d1, d2, d3⟩ := on_a ho
    exact ⟨l, d, hl, cts_mem.mpr ⟨d1, by rw [← d2, ← d3]; exact h⟩, d2, d3⟩
theorem CT_GSt (hg : gdL L nl) (r : CT b0 h0 s L nl LC F fL ou mp SL (off L nl nl) (VL L nl nl) ms pid nid aid si) : GSt b0 s.1 L nl LC mp pid nid aid si (fun _ => .null) := by
  have r := CT_V r (fun x y => VL_all hg)
  obtain ⟨_, _, _, r4, _, _, r7, r8, _, _⟩ := r
  exact ⟨r4, fun k hk => ⟨(r7 k hk).1, (r7 k hk).2.1⟩, r8⟩
theorem lvC_all (x y : Int) (e : Nat) : lvC L nl (nP L nl) x y e = lvF L nl x y e := by
  unfold lvC
  cases hv : lvF L nl x y e with
  | none => rfl
  | some s =>
    have := (lvF_some hv).1
    rw [Option.filter_some, if_pos (by rw [decide_eq_true_eq]; exact this)]
/-- the store's cells may be added to, and sides' rings change -/
theorem GSt_ext (r : GSt b0 h L nl LC mp pid nid aid si rv) {rv' : Nat → Value} (e : ∀ q d, h q = some d → d.2.2.1 ≠ 65 → d.2.2.1 = 63 ∨ d.2.2.1 = 64 ∨ d.2.2.1 = 7 ∨ d.2.2.1 = 1042 → h' q = some d) (e2 : ∀ k, k < 2 * nP L nl → h' (si k) = some (sdC L nl LC nid si (rv' k) k)) : GSt b0 h' L nl LC mp pid nid aid si rv' := by
  obtain ⟨⟨⟨mc, es, r1, ⟨m, r2, r2b, r2c⟩, r3⟩, r4, r5, r6⟩, r7, r8⟩ := r
  refine ⟨⟨⟨mc, es, e _ _ r1 (by show ¬ (1042 : Nat) = 65; decide) (Or.inr (Or.inr (Or.inr rfl))), ⟨m, Mp_rk r2 (fun v hv => ?_), r2b, r2c⟩, r3⟩, fun x y hv => ?_, r5, r6⟩, fun k hk => ⟨(r7 k hk).1, e2 k hk⟩, r8⟩
  · obtain ⟨x, y, hV, rfl⟩ := r3 v hv
    obtain ⟨a1, a2, _, _, _, a3, _⟩ := r4 x y hV
    rw [rkP_pt (e _ _ a3 (by show ¬ (63 : Nat) = 65; decide) (Or.inl rfl)) a1 a2, rkP_pt a3 a1 a2]
  · obtain ⟨a1, a2, a3, a4, a5, a6, a7, a8⟩ := r4 x y hv
    exact ⟨a1, a2, a3, a4, a5, e _ _ a6 (by show ¬ (63 : Nat) = 65; decide) (Or.inl rfl), e _ _ a7 (by show ¬ (64 : Nat) = 65; decide) (Or.inr (Or.inl rfl)), e _ _ a8 (by show ¬ (7 : Nat) = 65; decide) (Or.inr (Or.inr (Or.inl rfl)))⟩
/-- what a side leads to -/
theorem GSt_sd (hg : gdL L nl) (r : GSt b0 h L nl LC mp pid nid aid si rv) {k : Nat} (hk : k < 2 * nP L nl) : h (si k) = some (sdC L nl LC nid si (rv k) k) ∧ h (nid (sX L nl k) (sY L nl k)) = some (true, false, 64, [.ref (pid (sX L nl k) (sY L nl k)), .ref (aid (sX L nl k) (sY L nl k))]) ∧ h (pid (sX L nl k) (sY L nl k)) = some (poC (sX L nl k) (sY L nl k)) ∧ h (nid (eX L nl k) (eY L nl k)) = some (true, false, 64, [.ref (pid (eX L nl k) (eY L nl k)), .ref (aid (eX L nl k) (eY L nl k))]) ∧ h (pid (eX L nl k) (eY L nl k)) = some (poC (eX L nl k) (eY L nl k)) ∧ h (aid (eX L nl k) (eY L nl k)) = some (true, true, 7, rowC (fun e => vR ((lvF L nl (eX L nl k) (eY L nl k) e).map si)) 4) ∧ h (aid (sX L nl k) (sY L nl k)) = some (true, true, 7, rowC (fun e => vR ((lvF L nl (sX L nl k) (sY L nl k) e).map si)) 4) := by
  obtain ⟨x, y, u, v, h1, h2, h3, h4, h5, h6⟩ := gS_pts hk
  have e1 : sX L nl k = x := by unfold sX; rw [h1]; rfl
  have e2 : sY L nl k = y := by unfold sY; rw [h2]; rfl
  have e3 : eX L nl k = u := by unfold eX; rw [h3]; rfl
  have e4 : eY L nl k = v := by unfold eY; rw [h4]; rfl
  obtain ⟨_, _, _, _, _, a6, a7, a8⟩ := r.1.2.1 x y h5
  obtain ⟨_, _, _, _, _, b6, b7, b8⟩ := r.1.2.1 u v h6
  refine ⟨(r.2.1 k hk).2, ?_⟩
  rw [e1, e2, e3, e4]
  have row : ∀ a b : Nat, rowC (fun e => vR ((lvF L nl a b e).map si)) 4 = rowC (fun e => vR ((lvC L nl (nP L nl) a b e).map si)) 4 := fun a b => rowC_congr (fun e _ => by rw [lvC_all])
  rw [row, row]
  exact ⟨a7, a6, b7, b6, b8, a8⟩
theorem and3 {d : Nat} (hd : d < 4) : (Int32.ofNat d + 1 + 4) &&& 3 = Int32.ofNat ((d + 1) % 4) ∧ (Int32.ofNat d + 0 + 4) &&& 3 = Int32.ofNat (d % 4) ∧ (Int32.ofNat d + -1 + 4) &&& 3 = Int32.ofNat ((d + 3) % 4) ∧ (Int32.ofNat d + -2 + 4) &&& 3 = Int32.ofNat ((d + 2) % 4) := by
  rcases (show d = 0 ∨ d = 1 ∨ d = 2 ∨ d = 3 by omega) with rfl | rfl | rfl | rfl <;> decide
theorem vR_toO (o : Option Nat) : toO (vR o) = some o := by cases o <;> rfl
theorem aR_out {a : Nat} {f : Nat → Option Nat} (ha : s.1 a = some (true, true, 7, rowC (fun e => vR (f e)) 4)) {e : Nat} (he : e < 4) : aR s a (Int32.ofNat e) = some (f e) := by
  unfold aR
  rw [aV_r ha (by omega) rfl he (by omega), Option.bind_some, vR_toO]
theorem c_next (hg : gdL L nl) (r : GSt b0 s.1 L nl LC mp pid nid aid si rv) {k : Nat} (hk : k < 2 * nP L nl) : c_883 (si k) s = some (some (si (gNx L nl k))) := by
  obtain ⟨g1, g2, g3, g4, g5, g6, g7⟩ := GSt_sd hg r hk
  obtain ⟨t, f1, f2, f3, _⟩ := gNx_o hk
  have hs := sX_i hg hk
  rw [hs.2.2.1, hs.2.2.2.1] at f1
  have hd := gS_d4 hk
  obtain ⟨m1, m2, m3, m4⟩ := and3 hd
  rw [f2]
  unfold c_883
  have st : ∀ j : Int32, ¬ j < -2 → ∀ e, e < 4 → (Int32.ofNat (gdr (gS L nl) k) + j + 4) &&& 3 = Int32.ofNat e → (if j < (-2) then some (Sum.inr (α := Option Nat × Int32) (none : Option Nat)) else (if (none : Option Nat) = none then Option.bind (xN s [(65, 2)] (si k)) (fun a1 => Option.bind (xN s [(64, 1)] a1) (fun a2 => Option.bind (xI s [(65, 3)] (si k)) (fun x3 => Option.bind (aR s a2 (((x3 + j) + 4) &&& 3)) (fun r4 => some (.inl (r4, j - 1)))))) else some (.inr none))) = some (.inl ((lvF L nl (eX L nl k) (eY L nl k) e).map si, j - 1)) := by
    intro j hj e he hm
    rw [if_neg hj, if_pos rfl, xN_o (b := nid (eX L nl k) (eY L nl k)) g1 rfl rfl, Option.bind_some, xN_o (b := aid (eX L nl k) (eY L nl k)) g4 rfl rfl, Option.bind_some, xI_o (x := Int32.ofNat (gdr (gS L nl) k)) g1 rfl rfl, Option.bind_some, hm, aR_out g6 he, Option.bind_some]
  have fin : ∀ (q : Nat) (j : Int32), (if j < (-2) then some (Sum.inr (α := Option Nat × Int32) (some q)) else (if (some q : Option Nat) = none then Option.bind (xN s [(65, 2)] (si k)) (fun a1 => Option.bind (xN s [(64, 1)] a1) (fun a2 => Option.bind (xI s [(65, 3)] (si k)) (fun x3 => Option.bind (aR s a2 (((x3 + j) + 4) &&& 3)) (fun r4 => some (.inl (r4, j - 1)))))) else some (.inr (some q)))) = some (.inr (some q)) := by
    intro q j
    split
    · rfl
    · rw [if_neg (by simp)]
  unfold lv4 at f1
  rw [wh_inl (st 1 (by decide) ((gdr (gS L nl) k + 1) % 4) (by omega) m1)]
  cases a1 : lvF L nl (eX L nl k) (eY L nl k) ((gdr (gS L nl) k + 1) % 4) with
  | some q =>
    rw [a1] at f1
    have : q = t := by simpa using f1
    subst this
    rw [Option.map_some, wh_inr (fin _ _)]; rfl
  | none =>
    rw [a1] at f1
    rw [Option.map_none, show (1 : Int32) - 1 = 0 by decide, wh_inl (st 0 (by decide) (gdr (gS L nl) k % 4) (by omega) m2)]
    cases a2 : lvF L nl (eX L nl k) (eY L nl k) (gdr (gS L nl) k % 4) with
    | some q =>
      rw [a2] at f1
      have : q = t := by simpa using f1
      subst this
      rw [Option.map_some, wh_inr (fin _ _)]; rfl
    | none =>
      rw [a2] at f1
      rw [Option.map_none, show (0 : Int32) - 1 = -1 by decide, wh_inl (st (-1) (by decide) ((gdr (gS L nl) k + 3) % 4) (by omega) m3)]
      cases a3 : lvF L nl (eX L nl k) (eY L nl k) ((gdr (gS L nl) k + 3) % 4) with
      | some q =>
        rw [a3] at f1
        have : q = t := by simpa using f1
        subst this
        rw [Option.map_some, wh_inr (fin _ _)]; rfl
      | none =>
        rw [a3] at f1
        rw [Option.map_none, show (-1 : Int32) - 1 = -2 by decide, wh_inl (st (-2) (by decide) ((gdr (gS L nl) k + 2) % 4) (by omega) m4)]
        cases a4 : lvF L nl (eX L nl k) (eY L nl k) ((gdr (gS L nl) k + 2) % 4) with
        | some q =>
          rw [a4] at f1
          have : q = t := by simpa using f1
          subst this
          rw [Option.map_some, wh_inr (fin _ _)]; rfl
        | none =>
          rw [a4] at f1
          simp at f1
end
