/-! the library: objects outside the store; ArrayList's iterators -/
/-- the cells below that must stay as they are -/
def keepA (A0 A' : lMem) : Prop := ∀ q c, A0.1 q = some c → (c.2.2.1 = 19 ∨ c.2.2.1 = 20 ∨ c.2.2.1 = 31 ∨ c.2.2.1 = 34 ∨ c.1 = false) → A'.1 q = some c
section
variable {E : lE} {y : lY} {s : CS} {A0 A' : lMem} {G : lHeap}
theorem keepA.rlV (h : keepA A0 A') {l : List Nat} {e r : Value} (k : relV l A0 e r) : relV l A' e r := by
  unfold relV at k ⊢
  split at k
  · exact k
  · exact k
  · obtain ⟨q, w, h1, h2, h3⟩ := k
    exact ⟨q, w, h1, h q _ h2 (Or.inl rfl), h3⟩
  · obtain ⟨q, w, h1, h2, h3⟩ := k
    exact ⟨q, w, h1, h q _ h2 (Or.inr (Or.inl rfl)), h3⟩
  · exact k.elim
theorem keepA.vwk (h : keepA A0 A') {l : List Nat} {sa k : Nat} {v : Value} (hk : k = 31 ∨ k = 34) (z : vw l A0 sa k v) : vw l A' sa k v := by
  rcases z with z | ⟨q, w, h3, h4, h5⟩
  · exact Or.inl z
  · exact Or.inr ⟨q, w, h3, h q _ h4 (by rcases hk with rfl | rfl <;> simp), h5⟩
theorem keepA.rlC (h : keepA A0 A') {l : List Nat} {sa k : Nat} {fs rs : List Value} (z : relC l A0 sa k fs rs) : relC l A' sa k fs rs := by
  have hm : ∀ e r, relV l A0 e r → relV l A' e r := fun e r k => h.rlV k
  unfold relC at z ⊢
  split
  · rename_i e
    rw [if_pos e] at z
    obtain ⟨m, es, rs', h1, h2, h3⟩ := z
    exact ⟨m, es, rs', h1, h2, h3.mono hm⟩
  · rename_i e
    rw [if_neg e] at z
    split
    · rename_i e2
      rw [if_pos e2] at z
      obtain ⟨m, v1, v2, es, rs', q1, q2, q3, q4, q5⟩ := z
      exact ⟨m, v1, v2, es, rs', q1, q2, h.vwk (Or.inl rfl) q3, h.vwk (Or.inr rfl) q4, q5.mono hm⟩
    · rename_i e2
      rw [if_neg e2] at z
      split
      · rename_i e3
        rw [if_pos e3] at z
        obtain ⟨gs, g1, g2⟩ := z
        exact ⟨gs, g1.mono hm, g2⟩
      · rename_i e3
        rw [if_neg e3] at z
        split
        · rename_i e4
          rw [if_pos e4] at z
          exact ⟨z.1.mono hm, z.2⟩
        · rename_i e4
          rw [if_neg e4] at z
          exact z
theorem keepA.cci (h : keepA A0 A') {e t ci : Nat} {v : Nat → Value} {l : List Nat} (z : cCi E l A0 e t ci v) : cCi E l A' e t ci v := by
  obtain ⟨ca, rs, h3, h4, h5, h6, h7⟩ := z
  have w : ∀ {a b c d : Prop}, True → (a ∨ b ∨ c ∨ d ∨ (false = false)) := fun _ => Or.inr (Or.inr (Or.inr (Or.inr rfl)))
  refine ⟨ca, rs, h3, h _ _ h4 (w trivial), h5, h6, fun k hk => ?_⟩
  obtain ⟨q, q1, q2, q3⟩ := h7 k hk
  exact ⟨q, q1, h _ _ q2 (w trivial), q3⟩
theorem keepA.cwk (h : keepA A0 A') (hW : cW E y s A0) : cW E y s A' := by
  obtain ⟨k1, k2, k3, k4, k5, k6, k7, k8, k9, k10⟩ := hW
  exact ⟨k1, k2, k3, k4, k5, fun c w b k fs hz hk => h.rlC (k6 c w b k fs hz hk), k7, k8, h.cci k9, h.cci k10⟩
theorem cW_chg (hW : cW E y s A0) (n m : Nat) : cW E y (chg s n m) A0 := hW
/-- a new object outside the store -/
theorem jp_hid (hW : cW E y s A0) {n m : Nat} {c : lCell} (hn : (cp y s A0).1 n = none) : cW E y (chg s 1 m) (lUpd A0.1 n c, A0.2) ∧ Ext y s A0 y (chg s 1 m) (lUpd A0.1 n c, A0.2) ∧ cp y (chg s 1 m) (lUpd A0.1 n c, A0.2) = (lUpd (cp y s A0).1 n c, s.2.2.1 + 1, s.2.2.2 + m) ∧ fx y.1 n = none ∧ A0.1 n = none := by
  have fn : fx y.1 n = none := by
    cases e : fx y.1 n with
    | none => rfl
    | some d =>
      exfalso
      have h1 := fx_some e
      have hc : d < s.2.1 := by rw [← hW.1]; exact tlen h1
      unfold cp at hn
      dsimp only at hn
      rw [e] at hn
      dsimp only at hn
      cases e2 : s.1 d with
      | none => exact hW.2.2.1 d hc e2
      | some z => rw [e2] at hn; cases hn
  have an : A0.1 n = none := by
    unfold cp at hn
    dsimp only at hn
    rw [fn] at hn
    exact hn
  have hk : ∀ q c', A0.1 q = some c' → lUpd A0.1 n c q = some c' := fun q c' h => (lUpd_ne _ _ (fun z => by rw [z, an] at h; cases h)).trans h
  have kA : keepA A0 (lUpd A0.1 n c, A0.2) := fun q c' h _ => hk q c' h
  refine ⟨kA.cwk hW, Ext.same (fun e r h => kA.rlV h) (fun q c' h k => ⟨hk q c' h, k⟩) (Nat.le_succ _) (fun c m hm => ⟨hm, rfl⟩), ?_, fn, an⟩
  unfold cp
  refine Prod.ext ?_ rfl
  funext q
  dsimp only
  by_cases e : q = n
  · rw [e, lUpd_eq, fn]
    exact (lUpd_eq ..).symm
  · refine Eq.trans ?_ (lUpd_ne _ _ e).symm
    cases fx y.1 q with
    | none => exact lUpd_ne _ _ e
    | some d => rfl
theorem sp_89 {M : lMem} {q a : Nat} {c l x r : Value} {m : Int32} {e n : Value} {w : Bool} (hq : M.1 q = some (true, false, 14, [c, l, x, r])) (ha : M.1 a = some (w, false, 13, [.int m, e, n])) (hqa : a ≠ q) : lSp E prog 1 89 [.ref q, .ref a] M (.inl none, (lUpd M.1 q (true, false, 14, [c, .int (-1), .int m, .ref a]), M.2.1, M.2.2)) := by
  refine lGo.sp (D := 0) pg_89 (Nat.le_of_ble_eq_true rfl) ?_
  repeat (refine lGo.step rfl (fun _ => rfl) ?_; try dsimp only)
  refine lGo.put rfl hq rfl (Nat.le_of_ble_eq_true rfl) rfl ?_
  repeat (refine lGo.step rfl (fun _ => rfl) ?_; try dsimp only)
  refine lGo.put rfl (lUpd_eq ..) rfl (Nat.le_of_ble_eq_true rfl) rfl ?_
  rw [lUpdU]
  repeat (refine lGo.step rfl (fun _ => rfl) ?_; try dsimp only)
  refine lGo.get rfl (lUpd_eq ..) rfl rfl ?_
  refine lGo.get rfl ((lUpd_ne _ _ hqa).trans ha) rfl rfl ?_
  refine lGo.put rfl (lUpd_eq ..) rfl (Nat.le_of_ble_eq_true rfl) rfl ?_
  rw [lUpdU]
  exact lGo.done rfl (fun _ => rfl)
theorem jp82 : JP_82 (lAb (lJd E G) G) E := by
  intro y s A0 a w x hW hr hx M hM
  obtain ⟨own, cr, hA⟩ := id hM
  obtain ⟨⟨m, es⟩, hc, hx⟩ := bindC hx
  cases hx
  have hc := alC_some hc
  dsimp only at hc ⊢
  obtain ⟨rs, ey, hL, J, ho, hla, hok⟩ := jp_L hW hA hc
  obtain ⟨e, h1, hl, h3⟩ := JL_raw J
  obtain ⟨hn, hR⟩ := (lAb_ok (G := G) (lJd_ok (E := E) (G := G))).2.2.2 M (cp y s A0) false 14 [.int 0, .int (-1), .int m, .ref (adr y.1 a)] hM (by decide) (fun _ => by decide)
  obtain ⟨k1, k2, k3, k4, k5⟩ := jp_hid (m := 4) (c := (true, false, 14, [.int 0, .int (-1), .int m, .ref (adr y.1 a)])) hW hn
  have hne : adr y.1 a ≠ M.2.1 := by omega
  rw [hr.1]
  refine ⟨(.inl (some (.ref M.2.1)), (lUpd M.1 M.2.1 (true, false, 14, [.int 0, .int (-1), .int m, .ref (adr y.1 a)]), M.2.1 + 1, M.2.2 + 4)), _, ?_, ?_, trivial, some M.2.1, rfl, y, _, k1, k2, ⟨M.2.1, -1, rfl, lUpd_eq .., k4, hr.2⟩, fun q c h _ z => ?_, rfl⟩
  · refine lGo.sp (D := 1) pg_82 (Nat.le_of_ble_eq_true rfl) ?_
    repeat (refine lGo.step rfl (fun _ => rfl) ?_; try dsimp only)
    refine lGo.callV rfl rfl (lUpd_eq ..) rfl ⟨Nat.le_of_ble_eq_true rfl, Nat.le_of_ble_eq_true rfl⟩ (sp_89 (lUpd_eq ..) ((lUpd_ne _ _ hne).trans h1) hne) ?_
    dsimp only
    rw [lUpdU]
    exact lGo.done rfl (fun _ => rfl)
  · rw [k3]
    exact hR
  · cases z
    rw [k5] at h
    cases h
end
