/-! the library: ArrayList's calls, over the relation -/
/-- what is known of the library's statics -/
def jE (E : lE) (G : lHeap) : Prop := (∃ c1, E 1 = .ref c1) ∧ (∃ z, E 19 = .ref z ∧ G z = some (false, true, 6, [])) ∧ E 22 = .int 127 ∧ E 27 = .int 1 ∧ (∃ z, E 28 = .ref z) ∧ (∃ z w, E 20 = .ref z ∧ G z = some (w, true, 2, (List.range 100).map (fun k => .int (Int32.ofNat (48 + k % 10))))) ∧ (∃ z w, E 21 = .ref z ∧ G z = some (w, true, 2, (List.range 100).map (fun k => .int (Int32.ofNat (48 + k / 10))))) ∧ E 0 = .int 1
section
variable {E : lE} {M : lMem}
theorem sp_77 {a e D : Nat} {v : Value} {m : Int32} {n : Int32} {M' : lMem} (hM : M.1 a = some (true, false, 13, [.int m, .ref e, .int n])) (hv : okV M v) (h : lSp E prog D 78 [.ref a, v, .ref e, .int n] (lUpd M.1 a (true, false, 13, [.int (m + 1), .ref e, .int n]), M.2.1, M.2.2) (.inl none, M')) : lSp E prog (D + 1) 77 [.ref a, v] M (.inl (some (.int 1)), M') := by
  rcases hv with rfl | ⟨b, _, _, _, rfl, _⟩
  all_goals
    refine lGo.sp (D := D) pg_77 (Nat.le_of_ble_eq_true rfl) ?_
    repeat (refine lGo.step rfl (fun _ => rfl) ?_; try dsimp only)
    refine lGo.get rfl hM rfl rfl ?_
    repeat (refine lGo.step rfl (fun _ => rfl) ?_; try dsimp only)
    refine lGo.put rfl hM rfl (Nat.le_of_ble_eq_true rfl) rfl ?_
    repeat (refine lGo.step rfl (fun _ => rfl) ?_; try dsimp only)
    refine lGo.get rfl (lUpd_eq ..) rfl rfl ?_
    repeat (refine lGo.step rfl (fun _ => rfl) ?_; try dsimp only)
    refine lGo.get rfl (lUpd_eq ..) rfl rfl ?_
    refine lGo.callV rfl rfl (lUpd_eq ..) rfl ⟨Nat.le_of_ble_eq_true rfl, Nat.le_of_ble_eq_true rfl⟩ h ?_
    repeat (refine lGo.step rfl (fun _ => rfl) ?_; try dsimp only)
    exact lGo.done rfl (fun _ => rfl)
theorem jfil_len {es : List Value} {cap : Nat} (h : es.length ≤ cap) : (jfil es cap).length = cap := by
  unfold jfil
  rw [List.length_append, List.length_replicate]
  omega
theorem jfil_set {es : List Value} {cap : Nat} {v : Value} (h : es.length < cap) : (jfil es cap).set es.length v = jfil (es ++ [v]) cap := by
  unfold jfil
  rw [List.set_append_right _ _ (Nat.le_refl _), Nat.sub_self, List.length_append, List.length_singleton]
  obtain ⟨k, hk⟩ : ∃ k, cap - es.length = k + 1 := ⟨cap - es.length - 1, by omega⟩
  rw [hk, show cap - (es.length + 1) = k by omega, List.replicate_succ, List.set_cons_zero, List.append_assoc]
  rfl
theorem jfil_full {es : List Value} : jfil es es.length = es := by
  unfold jfil
  rw [Nat.sub_self]
  simp
theorem okVs_ok {M : lMem} {vs : List Value} (h : okVs M vs) (hk : ∀ q c, M.1 q = some c → rk6 c) (hr : ∀ v ∈ vs, v = .null ∨ ∃ b, v = .ref b) : ∀ v ∈ vs, okV M v := by
  intro v hv
  rcases hr v hv with rfl | ⟨b, rfl⟩
  · exact Or.inl rfl
  · obtain ⟨w, ci, fs, e⟩ := h b hv
    exact Or.inr ⟨b, w, ci, fs, rfl, e, (hk b _ e).2 rfl⟩
/-- an entry at a list's end -/
theorem al_add {G : lHeap} {own : Nat → Nat} {a k : Nat} {m : Int32} {es : List Value} {v : Value} {h : lHeap} (hJE : jE E G) (hG : ∀ q c, G q = some c → M.1 q = some c) (hh : h = lHp own M a) (ha : own a = a) (hla : a < M.2.1) (hfr : ∀ q, M.2.1 ≤ q → M.1 q = none) (hrk : ∀ q c, M.1 q = some c → rk6 c) (J : JL E (.int m :: es) a h k) (hes : ∀ v ∈ es, okV M v) (hv : okV M v) (hl : es.length < 500000) :
    ∃ M', lSp E prog 8 77 [.ref a, v] M (.inl (some (.int 1)), M') ∧ Jw own a M M' ∧ M'.2.1 ≤ M.2.1 + 1 ∧ ∃ k', JL E (.int (m + 1) :: (es ++ [v])) a (lHp (ownN own M.2.1 a) M' a) k' ∧ M'.2.2 + k' ≤ M.2.2 + k + 16 := by
  obtain ⟨m0, es0, e, cap, e0, h1, h2, h3, h4, h5⟩ := J
  cases e0
  rw [hh] at h1 h5
  have g1 := (hp_some h1).2
  have Wrf : Jw own a M M := ⟨Nat.le_refl _, hfr, hrk, lKs.rf M, fun _ _ _ => rfl⟩
  have W1 := Wrf.upd (w' := true) (fs' := [.int (m + 1), .ref e, .int (Int32.ofNat es.length)]) g1 (fun _ => ha)
  obtain ⟨⟨c1, hc1⟩, ⟨z, hz, hGz⟩, _⟩ := hJE
  have hv1 : okV (lUpd M.1 a (true, false, 13, [.int (m + 1), .ref e, .int (Int32.ofNat es.length)]), M.2.1, M.2.2) v := hv.upd (Or.inr ⟨true, false, 13, _, g1, rfl, rfl⟩)
  have f1 : lUpd M.1 a (true, false, 13, [.int (m + 1), .ref e, .int (Int32.ofNat es.length)]) M.2.1 = none := W1.2.1 _ (Nat.le_refl _)
  have ga : lUpd M.1 a (true, false, 13, [.int (m + 1), .ref e, .int (Int32.ofNat es.length)]) a = _ := lUpd_eq ..
  have ne : a ≠ M.2.1 := by omega
  rcases h5 with ⟨rfl, rfl, he⟩ | ⟨c10, hle, hea, he⟩
  · -- the first entry
    rw [hz] at he
    cases he
    have gz := hG _ _ hGz
    have gz1 : lUpd M.1 a (true, false, 13, [.int (m + 1), .ref e, .int (Int32.ofNat ([] : List Value).length)]) e = some (false, true, 6, []) := (lUpd_ne _ _ (fun w => by rw [w, g1] at gz; cases gz)).trans gz
    have s80 := sp_80z (mn := 1) (M := (lUpd M.1 a (true, false, 13, [.int (m + 1), .ref e, .int (Int32.ofNat ([] : List Value).length)]), M.2.1, M.2.2)) ga gz1 hz f1 (by omega)
    have s78 := sp_78b (v := v) (M := (lUpd M.1 a (true, false, 13, [.int (m + 1), .ref e, .int (Int32.ofNat ([] : List Value).length)]), M.2.1, M.2.2)) (n := 0) (ys := List.replicate (max 10 1) .null) ga gz1 rfl (by decide) f1 hv1 (by decide : 5 ≤ 5) (s80.mono (by decide)) (by rw [List.length_replicate]; decide) (by rw [List.length_replicate]; decide)
    refine ⟨_, (sp_77 g1 hv s78).mono (by decide), ?_, Nat.le_refl _, 0, ⟨m + 1, [v], M.2.1, 10, rfl, ?_, by simp, by omega, by simp, Or.inr ⟨Nat.le_refl _, by simp, fun w => ne w.symm, ?_⟩⟩, ?_⟩
    · exact (W1.new ⟨(show 6 < 1000 by decide), fun w => by cases w⟩ _).upd (w' := true) ((lUpd_ne _ _ ne).trans ga) (fun _ => ha)
    · rw [hp_old ha hla]
      exact lUpd_eq ..
    · rw [hp_new (Nat.le_refl _)]
      refine (lUpd_ne _ _ (fun w => ne w.symm)).trans ((lUpd_eq ..).trans ?_)
      rfl
    · show M.2.2 + 10 + 0 ≤ _
      omega
  · have g2 := hp_some he
    have ge1 : lUpd M.1 a (true, false, 13, [.int (m + 1), .ref e, .int (Int32.ofNat es.length)]) e = some (true, true, 6, jfil es cap) := (lUpd_ne _ _ hea).trans g2.2
    have le := jfil_len hle
    by_cases hr : es.length < cap
    · have s78 := sp_78a (E := E) (v := v) (M := (lUpd M.1 a (true, false, 13, [.int (m + 1), .ref e, .int (Int32.ofNat es.length)]), M.2.1, M.2.2)) (n := es.length) ga ge1 (by rw [le]; exact hr) (by rw [le]; omega) hea hv1
      refine ⟨_, (sp_77 g1 hv s78).mono (by decide), ?_, Nat.le_succ _, k + 16, ⟨m + 1, es ++ [v], e, cap, rfl, ?_, by rw [List.length_append, List.length_singleton]; omega, h3, by rw [List.length_append, List.length_singleton]; omega, Or.inr ⟨c10, by rw [List.length_append, List.length_singleton]; omega, hea, ?_⟩⟩, ?_⟩
      · exact (W1.upd (w' := true) ge1 (fun _ => g2.1)).upd (w' := true) ((lUpd_ne _ _ (fun w => hea w.symm)).trans ga) (fun _ => ha)
      · rw [hp_old ha hla, List.length_append, List.length_singleton]
        exact lUpd_eq ..
      · have le2 : e < M.2.1 := by
          by_cases w : e < M.2.1
          · exact w
          · have := hfr e (by omega)
            rw [g2.2] at this
            cases this
        rw [hp_old g2.1 le2]
        refine (lUpd_ne _ _ hea).trans ((lUpd_eq ..).trans ?_)
        rw [jfil_set hr]
      · show M.2.2 + (k + 16) ≤ _
        omega
    · have ec : cap = es.length := by omega
      subst ec
      rw [jfil_full] at ge1 le
      have hes1 : ∀ v ∈ es, okV (lUpd M.1 a (true, false, 13, [.int (m + 1), .ref e, .int (Int32.ofNat es.length)]), M.2.1, M.2.2) v := fun v hv => (hes v hv).upd (Or.inr ⟨true, false, 13, _, g1, rfl, rfl⟩)
      have s80 := sp_80 (mn := es.length + 1) (M := (lUpd M.1 a (true, false, 13, [.int (m + 1), .ref e, .int (Int32.ofNat es.length)]), M.2.1, M.2.2)) ga ge1 (by omega) hc1 f1 (by omega) (by omega) (by omega) hes1
      have lN : es.length < es.length + max (es.length + 1 - es.length) (es.length / 2) := by omega
      have lN2 : es.length + max (es.length + 1 - es.length) (es.length / 2) ≤ 750001 := by omega
      have s78 := sp_78b (v := v) (M := (lUpd M.1 a (true, false, 13, [.int (m + 1), .ref e, .int (Int32.ofNat es.length)]), M.2.1, M.2.2)) (n := es.length) (ys := jfil es (es.length + max (es.length + 1 - es.length) (es.length / 2))) ga ge1 rfl (by omega) f1 hv1 (by decide : 5 ≤ 5) (s80.mono (by decide)) (by rw [jfil_len (by omega)]; exact lN) (by rw [jfil_len (by omega)]; omega)
      refine ⟨_, (sp_77 g1 hv s78).mono (by decide), ?_, Nat.le_refl _, 16 * (es.length + 1) - 4 * (es.length + max (es.length + 1 - es.length) (es.length / 2)), ⟨m + 1, es ++ [v], M.2.1, es.length + max (es.length + 1 - es.length) (es.length / 2), rfl, ?_, by rw [List.length_append, List.length_singleton]; omega, by omega, by rw [List.length_append, List.length_singleton]; omega, Or.inr ⟨by omega, by rw [List.length_append, List.length_singleton]; omega, fun w => ne w.symm, ?_⟩⟩, ?_⟩
      · exact (W1.new ⟨(show 6 < 1000 by decide), fun w => by cases w⟩ _).upd (w' := true) ((lUpd_ne _ _ ne).trans ga) (fun _ => ha)
      · rw [hp_old ha hla, List.length_append, List.length_singleton]
        exact lUpd_eq ..
      · rw [hp_new (Nat.le_refl _)]
        refine (lUpd_ne _ _ (fun w => ne w.symm)).trans ((lUpd_eq ..).trans ?_)
        rw [jfil_set lN]
      · show M.2.2 + (es.length + max (es.length + 1 - es.length) (es.length / 2)) + _ ≤ _
        omega
end
