/-! the law's walk: the house's store over the reference's cells -/
section LW
variable {E : lE} {ad : List Nat} {y y' : lY} {s s' : CS} {A A' : lMem} {t t' : TS} {b n : Nat} {f : Nat → Int32}
/-- kinds that tell of values are none of the reference's -/
def nk4 : List Nat := [19, 20, 31, 34]
theorem tab_nk : tTab.all (fun x => match x with
  | .inl p => !(nk4.contains p.1)
  | .inr _ => true) = true := by decide +kernel
theorem tcell_nk {c k : Nat} {w : Bool} {fs : List Value} (h : tcell ad t c = (w, false, k, fs)) : ¬ k ∈ nk4 := by
  unfold tcell at h
  split at h
  · rename_i ci gs e
    cases h
    have := List.all_eq_true.mp tab_nk _ (List.mem_of_getElem? e)
    dsimp only at this
    intro z
    rw [List.contains_iff_mem.mpr z] at this
    cases this
  · cases h
  · cases h
theorem tp_tp : tp ad t' (tp ad t A) = tp ad t' A := by
  unfold tp
  refine Prod.ext ?_ rfl
  funext q
  dsimp only
  cases fx ad q <;> rfl
theorem tp_out {q : Nat} (h : fx ad q = none) : (tp ad t A).1 q = A.1 q := by
  unfold tp
  dsimp only
  rw [h]
theorem tp_in {q c : Nat} (h : fx ad q = some c) : (tp ad t A).1 q = some (tcell ad t c) := by
  unfold tp
  dsimp only
  rw [h]
/-- the memory below the store: the reference at rest in it, and the script -/
def LI (E : lE) (ad : List Nat) (b n : Nat) (f : Nat → Int32) (y : lY) (s : CS) (A : lMem) (t : TS) : Prop :=
  cW E y s A ∧ tp ad t A = A ∧ (∀ q c, fx ad q = some c → fx y.1 q = none) ∧ A.1 b = some (false, true, 12, (List.range n).map (fun k => Value.int (f k))) ∧ fx y.1 b = none ∧ fx ad b = none
theorem LI.ext (h : LI E ad b n f y s A t) (hW : cW E y' s' A') (hX : Ext y s A y' s' A') : LI E ad b n f y' s' A' t := by
  obtain ⟨h1, h2, h3, h4, h5, h6⟩ := h
  have key : ∀ q c, fx ad q = some c → A'.1 q = some (tcell ad t c) ∧ fx y'.1 q = none := fun q c hq => hX.2.1 q _ (by rw [← h2]; exact tp_in hq) (h3 q c hq)
  obtain ⟨k1, k2⟩ := hX.2.1 b _ h4 h5
  refine ⟨hW, Prod.ext ?_ rfl, fun q c hq => (key q c hq).2, k1, k2, h6⟩
  funext q
  cases hq : fx ad q with
  | none => exact tp_out hq
  | some c => rw [tp_in hq, (key q c hq).1]
theorem LI.sw (h : LI E ad b n f y s A t) : cp y s A = tp ad t (cp y s A) := by
  obtain ⟨h1, h2, h3, h4, h5, h6⟩ := h
  refine Prod.ext ?_ rfl
  funext q
  cases hq : fx ad q with
  | none => exact (tp_out hq).symm
  | some c =>
    rw [tp_in hq]
    unfold cp
    dsimp only
    rw [h3 q c hq]
    dsimp only
    rw [← h2]
    exact tp_in hq
/-- the reference's cells at the same addresses, in another order perhaps -/
def SDa (ad ad' : List Nat) : Prop := ∀ q, fx ad q = none ↔ fx ad' q = none
theorem SDa.rf : SDa ad ad := fun _ => Iff.rfl
theorem SDa.swp (hn : tOk ad) : SDa ad (swp ad) := by
  intro q
  refine ⟨fx_swpn hn, fun h => ?_⟩
  cases e : fx ad q with
  | none => rfl
  | some c => rw [fx_swp hn e] at h; cases h
variable {ad' : List Nat}
theorem LI.mv (h : LI E ad b n f y s A t) (hd : SDa ad ad') (t' : TS) : tp ad' t' (cp y s A) = cp y s (tp ad' t' A) := by
  obtain ⟨h1, h2, h3, h4, h5, h6⟩ := h
  refine Prod.ext ?_ rfl
  funext q
  cases hq : fx ad' q with
  | none =>
    rw [tp_out hq]
    unfold cp
    dsimp only
    cases fx y.1 q with
    | none => exact (tp_out hq).symm
    | some c => rfl
  | some c =>
    have e3 : fx y.1 q = none := by
      cases hq2 : fx ad q with
      | none => rw [(hd q).mp hq2] at hq; cases hq
      | some d => exact h3 q d hq2
    rw [tp_in hq]
    unfold cp
    dsimp only
    rw [e3]
    exact (tp_in hq).symm
theorem LI.keep (h : LI E ad b n f y s A t) (hd : SDa ad ad') (t' : TS) {q k : Nat} {w : Bool} {fs : List Value} (hk : k ∈ nk4) (e : A.1 q = some (w, false, k, fs)) : (tp ad' t' A).1 q = some (w, false, k, fs) := by
  cases hq : fx ad q with
  | none => rw [tp_out ((hd q).mp hq)]; exact e
  | some c =>
    have := h.2.1
    rw [← this, tp_in hq] at e
    exact absurd hk (tcell_nk (Option.some.inj e))
theorem tcell_w {c : Nat} : (tcell ad t c).1 = true := by
  unfold tcell
  split <;> rfl
theorem LI.keepF (h : LI E ad b n f y s A t) (hd : SDa ad ad') (t' : TS) {q k : Nat} {w : Bool} {fs : List Value} (e : A.1 q = some (false, w, k, fs)) : (tp ad' t' A).1 q = some (false, w, k, fs) := by
  cases hq : fx ad q with
  | none => rw [tp_out ((hd q).mp hq)]; exact e
  | some c =>
    have := h.2.1
    rw [← this, tp_in hq] at e
    have e2 := congrArg Prod.fst (Option.some.inj e)
    rw [tcell_w] at e2
    cases e2
theorem LI.cci (h : LI E ad b n f y s A t) (hd : SDa ad ad') (t' : TS) {e u ci : Nat} {v : Nat → Value} {l : List Nat} (z : cCi E l A e u ci v) : cCi E l (tp ad' t' A) e u ci v := by
  obtain ⟨ca, rs, h3, h4, h5, h6, h7⟩ := z
  refine ⟨ca, rs, h3, h.keepF hd t' h4, h5, h6, fun k hk => ?_⟩
  obtain ⟨q, q1, q2, q3⟩ := h7 k hk
  exact ⟨q, q1, h.keepF hd t' q2, q3⟩
theorem LI.rlV (h : LI E ad b n f y s A t) (hd : SDa ad ad') (t' : TS) {l : List Nat} {e r : Value} (k : relV l A e r) : relV l (tp ad' t' A) e r := by
  unfold relV at k ⊢
  split at k
  · exact k
  · exact k
  · obtain ⟨q, w, h1, h2, h3⟩ := k
    exact ⟨q, w, h1, h.keep hd t' (by decide) h2, h3⟩
  · obtain ⟨q, w, h1, h2, h3⟩ := k
    exact ⟨q, w, h1, h.keep hd t' (by decide) h2, h3⟩
  · exact k.elim
theorem LI.vwk (h : LI E ad b n f y s A t) (hd : SDa ad ad') (t' : TS) {l : List Nat} {sa k : Nat} {v : Value} (hk : k ∈ nk4) (z : vw l A sa k v) : vw l (tp ad' t' A) sa k v := by
  rcases z with z | ⟨q, w, h3, h4, h5⟩
  · exact Or.inl z
  · exact Or.inr ⟨q, w, h3, h.keep hd t' hk h4, h5⟩
theorem LI.rlC (h : LI E ad b n f y s A t) (hd : SDa ad ad') (t' : TS) {l : List Nat} {sa k : Nat} {fs rs : List Value} (z : relC l A sa k fs rs) : relC l (tp ad' t' A) sa k fs rs := by
  have hm : ∀ e r, relV l A e r → relV l (tp ad' t' A) e r := fun e r k => h.rlV hd t' k
  unfold relC at z ⊢
  split
  · rename_i e
    rw [if_pos e] at z
    obtain ⟨m, es, rs', h1, h2, h3⟩ := z
    exact ⟨m, es, rs', h1, h2, h3.mono hm⟩
  · rename_i e
    rw [if_neg e] at z
    split
    · rename_i e2
      rw [if_pos e2] at z
      obtain ⟨m, v1, v2, es, rs', q1, q2, q3, q4, q5⟩ := z
      exact ⟨m, v1, v2, es, rs', q1, q2, h.vwk hd t' (by decide) q3, h.vwk hd t' (by decide) q4, q5.mono hm⟩
    · rename_i e2
      rw [if_neg e2] at z
      split
      · rename_i e3
        rw [if_pos e3] at z
        obtain ⟨gs, g1, g2⟩ := z
        exact ⟨gs, g1.mono hm, g2⟩
      · rename_i e3
        rw [if_neg e3] at z
        split
        · rename_i e4
          rw [if_pos e4] at z
          exact ⟨z.1.mono hm, z.2⟩
        · rename_i e4
          rw [if_neg e4] at z
          exact z
theorem LI.tw (h : LI E ad b n f y s A t) (hd : SDa ad ad') (t' : TS) : LI E ad' b n f y s (tp ad' t' A) t' := by
  obtain ⟨⟨k1, k2, k3, k4, k5, k6, k7, k8⟩, h2, h3, h4, h5, h6⟩ := id h
  refine ⟨⟨k1, k2, k3, k4, k5, fun c w b k fs hz hk => h.rlC hd t' (k6 c w b k fs hz hk), k7, k8.1, h.cci hd t' k8.2.1, h.cci hd t' k8.2.2⟩, tp_tp, fun q c hq => ?_, by rw [tp_out ((hd b).mp h6)]; exact h4, h5, (hd b).mp h6⟩
  cases hq2 : fx ad q with
  | none => rw [(hd q).mp hq2] at hq; cases hq
  | some d => exact h3 q d hq2
theorem i_ofn (a c : Nat) : Int32.ofNat a + Int32.ofNat c = Int32.ofNat (a + c) := (Int32.ofNat_add a c).symm
theorem i_cl {k : Nat} (h : k < 2147483648) : (Int32.ofNat k).toNatClampNeg = k := Int32.toNatClampNeg_ofNat_of_lt (by omega)
theorem i_n0 {k : Nat} (h : k < 2147483648) : ¬ Int32.ofNat k < 0 := by
  rw [Int32.lt_iff_toInt_lt, Int32.toInt_ofNat_of_lt (by omega), Int32.toInt_zero]
  omega
/-- the script is read -/
theorem LI.scr (h : LI E ad b n f y s A t) (hn : n ≤ 448) {i : Nat} (k : Nat) (hk : i + k < n) : gA (cp y s A) [0, 12] b (Int32.ofNat i + Int32.ofNat k) (.int (f (i + k))) := by
  obtain ⟨h1, h2, h3, h4, h5, h6⟩ := h
  refine ⟨false, 12, (List.range n).map (fun k => Value.int (f k)), ?_, by omega, rfl, ?_, ?_⟩
  · unfold cp
    dsimp only
    rw [h5]
    exact h4
  · rw [i_ofn]; exact i_n0 (by omega)
  · rw [i_ofn, i_cl (by omega), List.getElem?_map, List.getElem?_range hk]
    rfl
theorem LI.len (h : LI E ad b n f y s A t) : gL (cp y s A) b (Int32.ofNat n) := by
  obtain ⟨h1, h2, h3, h4, h5, h6⟩ := h
  refine ⟨false, 12, (List.range n).map (fun k => Value.int (f k)), ?_, by omega, ?_⟩
  · unfold cp
    dsimp only
    rw [h5]
    exact h4
  · rw [List.length_map, List.length_range]
end LW
