/-! the library: ArrayList's readers, clear, iterators -/
section
variable {E : lE} {G : lHeap}
theorem sp_0 {M : lMem} {a : Nat} : lSp E prog 1 0 [.ref a] M (.inl none, M) := by
  refine lGo.sp (D := 0) pg_0 (Nat.le_of_ble_eq_true rfl) ?_
  repeat (refine lGo.step rfl (fun _ => rfl) ?_; try dsimp only)
  exact lGo.done rfl (fun _ => rfl)
theorem sp_4 {M : lMem} {a : Nat} {x y z : Value} (hM : M.1 a = some (true, false, 13, [x, y, z])) : lSp E prog 2 4 [.ref a] M (.inl none, (lUpd M.1 a (true, false, 13, [.int 0, y, z]), M.2.1, M.2.2)) := by
  refine lGo.sp (D := 1) pg_4 (Nat.le_of_ble_eq_true rfl) ?_
  repeat (refine lGo.step rfl (fun _ => rfl) ?_; try dsimp only)
  refine lGo.callV rfl rfl hM rfl ⟨Nat.le_of_ble_eq_true rfl, Nat.le_of_ble_eq_true rfl⟩ sp_0 ?_
  repeat (refine lGo.step rfl (fun _ => rfl) ?_; try dsimp only)
  refine lGo.put rfl hM rfl (Nat.le_of_ble_eq_true rfl) rfl ?_
  exact lGo.done rfl (fun _ => rfl)
theorem sp_76 {M : lMem} {a e : Nat} {x y z : Value} (hM : M.1 a = some (true, false, 13, [x, y, z])) (hE : E 19 = .ref e) : lSp E prog 3 76 [.ref a] M (.inl none, (lUpd M.1 a (true, false, 13, [.int 0, .ref e, z]), M.2.1, M.2.2)) := by
  refine lGo.sp (D := 2) pg_76 (Nat.le_of_ble_eq_true rfl) ?_
  repeat (refine lGo.step rfl (fun _ => rfl) ?_; try dsimp only)
  refine lGo.callV rfl rfl hM rfl ⟨Nat.le_of_ble_eq_true rfl, Nat.le_of_ble_eq_true rfl⟩ (sp_4 hM) ?_
  refine lGo.step rfl (fun _ => rfl) ?_
  refine lGo.env rfl hE ?_
  refine lGo.put rfl (lUpd_eq ..) rfl (Nat.le_of_ble_eq_true rfl) rfl ?_
  rw [lUpdU]
  exact lGo.done rfl (fun _ => rfl)
theorem jp76 (hJE : jE E G) : JP_76 (lAb (lJd E G) G) E := by
  intro y s A0 a w x hW hr hx M hM
  obtain ⟨own, cr, hA⟩ := hM
  obtain ⟨hc, rfl⟩ := ccI_some hx
  obtain ⟨_, ⟨e, he, hGe⟩, _⟩ := hJE
  rw [hr.1]
  obtain ⟨h0, w', h1, h2⟩ := jp_pl hW hA hc (by decide)
  have h2 := h2 rfl
  subst h2
  obtain ⟨q1, q2, q3, _⟩ := hA.2.2.2.2.2 _ _ h0
  refine jp_done (kc := 0) (n := s.2.2.1) (m := s.2.2.2) (f := [.int 0]) hW hA hc (by decide) (by decide) (relC_L' (es := []) (rs := []) trivial) (fun q hq => by simp at hq) (Nat.le_refl _) (sp_76 h1 he) ((Jw.rf hA).upd h1 (fun _ => q1)) (Or.inl ⟨rfl, 0, [], e, 0, rfl, ?_, by simp, by omega, by simp, Or.inl ⟨rfl, rfl, he⟩⟩) (fun _ b hb => by simp at hb) (by show M.2.1 + _ ≤ _; omega) (by show M.2.2 + _ + _ ≤ _; omega)
  rw [hp_old q1 q2]
  exact lUpd_eq ..
/-- the raw cells of a list -/
theorem JL_raw {M : lMem} {own : Nat → Nat} {a k : Nat} {m : Int32} {rs : List Value} (J : JL E (.int m :: rs) a (lHp own M a) k) : ∃ e, M.1 a = some (true, false, 13, [.int m, .ref e, .int (Int32.ofNat rs.length)]) ∧ rs.length ≤ 500000 ∧ ((rs = [] ∧ E 19 = .ref e) ∨ ∃ cap, rs.length ≤ cap ∧ e ≠ a ∧ own e = a ∧ M.1 e = some (true, true, 6, jfil rs cap) ∧ 10 ≤ cap ∧ cap ≤ 800000) := by
  obtain ⟨m0, es, e, cap, e0, h1, h2, h3, h4, h5⟩ := J
  cases e0
  refine ⟨e, (hp_some h1).2, h2, ?_⟩
  rcases h5 with ⟨_, h6, h7⟩ | ⟨h6, h7, h8, h9⟩
  · exact Or.inl ⟨h6, h7⟩
  · exact Or.inr ⟨cap, h7, h8, (hp_some h9).1, (hp_some h9).2, h6, h3⟩
theorem jp81 : JP_81 (lAb (lJd E G) G) E := by
  intro y s A0 a w x hW hr hx M hM
  obtain ⟨own, cr, hA⟩ := hM
  obtain ⟨⟨m, es⟩, hc, hx⟩ := bindC hx
  cases hx
  obtain ⟨rs, ey, hL, J, ho, hla, hok⟩ := jp_L hW hA (alC_some hc)
  obtain ⟨e, h1, _⟩ := JL_raw J
  rw [hr.1]
  refine ⟨(.inl (some (.int _)), M), _, ?_, ⟨own, cr, hA⟩, trivial, rfl, rfl⟩
  refine lGo.sp (D := 0) pg_81 (Nat.le_of_ble_eq_true rfl) ?_
  repeat (refine lGo.step rfl (fun _ => rfl) ?_; try dsimp only)
  refine lGo.get rfl h1 rfl rfl ?_
  rw [← relL_len hL]
  exact lGo.done rfl (fun _ => rfl)
theorem jp88 : JP_88 (lAb (lJd E G) G) E := by
  intro y s A0 a w x hW hr hx M hM
  obtain ⟨own, cr, hA⟩ := hM
  obtain ⟨⟨m, es⟩, hc, hx⟩ := bindC hx
  cases hx
  obtain ⟨rs, ey, hL, J, ho, hla, hok⟩ := jp_L hW hA (alC_some hc)
  obtain ⟨e, h1, hl, _⟩ := JL_raw J
  have hlen := relL_len hL
  rw [hr.1]
  dsimp only at hlen ⊢
  refine ⟨(.inl (some (.int _)), M), _, ?_, ⟨own, cr, hA⟩, trivial, rfl, rfl⟩
  refine lGo.sp (D := 0) pg_88 (Nat.le_of_ble_eq_true rfl) ?_
  repeat (refine lGo.step rfl (fun _ => rfl) ?_; try dsimp only)
  refine lGo.get rfl h1 rfl rfl ?_
  refine lGo.step rfl (fun _ => rfl) ?_
  by_cases z : es.length = 0
  · rw [if_pos z]
    refine lGo.brF (decide_eq_false (fun w => w ?_)) ?_
    · rw [← hlen, z]; rfl
    repeat (refine lGo.step rfl (fun _ => rfl) ?_; try dsimp only)
    exact lGo.done rfl (fun _ => rfl)
  · rw [if_neg z]
    refine lGo.brT (decide_eq_true (fun w => ?_)) ?_
    · have := (i_inj (j := rs.length) (k := 0) (by omega) (by omega)).mp w
      omega
    repeat (refine lGo.step rfl (fun _ => rfl) ?_; try dsimp only)
    exact lGo.done rfl (fun _ => rfl)
end
