/-! the library: String -/
section
variable {s : CS} {a : Nat}
theorem stC_some {xs : List Value} (h : stC s a = some xs) : ∃ w, s.1 a = some (w, false, 1000, xs) := by
  unfold stC at h
  split at h
  · rename_i w xs' e
    cases h
    exact ⟨w, e⟩
  · cases h
end
section
variable {E : lE} {G : lHeap} {M : lMem}
theorem sp_95r {i n : Int32} {z : Nat} (h0 : ¬ i < 0) (h1 : i < n) : lSp E prog 1 95 [.int i, .int n, .ref z] M (.inl (some (.int i)), M) := by
  refine lGo.sp (D := 0) pg_95 (Nat.le_of_ble_eq_true rfl) ?_
  repeat (refine lGo.step rfl (fun _ => rfl) ?_; try dsimp only)
  refine lGo.brF (decide_eq_false h0) ?_
  repeat (refine lGo.step rfl (fun _ => rfl) ?_; try dsimp only)
  refine lGo.brT (decide_eq_true h1) ?_
  repeat (refine lGo.step rfl (fun _ => rfl) ?_; try dsimp only)
  exact lGo.done rfl (fun _ => rfl)
theorem sp_230 {a : Nat} {w : Bool} {v h1 h2 : Value} (hE : E 27 = .int 1) (g : M.1 a = some (w, false, 0, [v, .int 0, h1, h2])) : lSp E prog 1 230 [.ref a] M (.inl (some (.int 0)), M) := by
  refine lGo.sp (D := 0) pg_230 (Nat.le_of_ble_eq_true rfl) ?_
  refine lGo.env rfl hE ?_
  refine lGo.step rfl (fun _ => rfl) ?_
  refine lGo.brF (by rfl) ?_
  repeat (refine lGo.step rfl (fun _ => rfl) ?_; try dsimp only)
  refine lGo.get rfl g rfl rfl ?_
  repeat (refine lGo.step rfl (fun _ => rfl) ?_; try dsimp only)
  exact lGo.done rfl (fun _ => rfl)
theorem sp_228 {a : Nat} {w : Bool} {v h1 h2 : Value} (hE : E 27 = .int 1) (g : M.1 a = some (w, false, 0, [v, .int 0, h1, h2])) : lSp E prog 1 228 [.ref a] M (.inl (some (.int 1)), M) := by
  refine lGo.sp (D := 0) pg_228 (Nat.le_of_ble_eq_true rfl) ?_
  refine lGo.env rfl hE ?_
  refine lGo.step rfl (fun _ => rfl) ?_
  refine lGo.brF (by rfl) ?_
  repeat (refine lGo.step rfl (fun _ => rfl) ?_; try dsimp only)
  refine lGo.get rfl g rfl rfl ?_
  refine lGo.step rfl (fun _ => rfl) ?_
  refine lGo.brF (by rfl) ?_
  repeat (refine lGo.step rfl (fun _ => rfl) ?_; try dsimp only)
  exact lGo.done rfl (fun _ => rfl)
theorem relC_W {l : List Nat} {A0 : lMem} {sa k : Nat} {fs rs : List Value} (hk : k = 1000 ∨ k = 1003 ∨ k = 1035) (h : relC l A0 sa k fs rs) : rs = fs := by
  unfold relC at h
  rw [if_neg (by omega), if_neg (by omega), if_neg (by omega), if_neg (by omega)] at h
  exact h
theorem relC_W' {l : List Nat} {A0 : lMem} {sa k : Nat} {fs : List Value} (hk : k = 1000 ∨ k = 1003 ∨ k = 1035) : relC l A0 sa k fs fs := by
  unfold relC
  rw [if_neg (by omega), if_neg (by omega), if_neg (by omega), if_neg (by omega)]
/-- a text found by its number -/
theorem jp_W {y : lY} {s : CS} {A0 M : lMem} {own cr : Nat → Nat} {a : Nat} {w : Bool} {xs : List Value} (hW : cW E y s A0) (hA : lAbo (lJd E G) G own cr M (cp y s A0)) (hc : s.1 a = some (w, false, 1000, xs)) : ∃ (w' : Bool) (e : Nat) (hs hz : Int32) (we : Bool), M.1 (adr y.1 a) = some (w', false, 0, [.ref e, .int 0, .int hs, .int hz]) ∧ M.1 e = some (we, true, 2, xs) ∧ xs.length ≤ 200000 ∧ jchr xs ∧ (hs ≠ 0 → hsh xs 0 = some hs) ∧ (hz ≠ 0 → hz = 1 ∧ hsh xs 0 = some 0) ∧ (w = true → w' = true) ∧ (cp y s A0).1 (adr y.1 a) = some (w, false, 1000, xs) := by
  obtain ⟨h1, h2, q1, q2, q3, q4, q5, q6⟩ := jp_at hW hA hc (by omega)
  have e2 := relC_W (Or.inl rfl) h2
  obtain ⟨r1, r2⟩ := q5 (by dsimp only; omega)
  obtain ⟨w', e, hs, hz, g1, ⟨we, g2⟩, g3, g4, g5, g6, g7, g8⟩ := lJd_W r2
  rw [e2] at g2 g4 g5 g6 g7 h1
  refine ⟨w', e, hs, hz, we, (hp_some g1).2, ?_, g4, g5, g6, g7, fun hw => g8 (q3 (Or.inl hw)), h1⟩
  rcases g2 with g2 | g2
  · exact (hp_some g2).2
  · exact (hA.2.2.2.2.1 _ _ g2).1
theorem i_shr0 {n : Nat} (h : n < 2147483648) : Int32.ofNat n >>> ((0 : Int32) &&& 31) = Int32.ofNat n := by
  rw [show ((0 : Int32) &&& 31) = Int32.ofNat 0 from by decide, i_shr h (by decide), Nat.pow_zero, Nat.div_one]
theorem sp_229 {a e : Nat} {w we : Bool} {h1 h2 : Value} {xs : List Value} (hE : E 27 = .int 1) (g : M.1 a = some (w, false, 0, [.ref e, .int 0, h1, h2])) (ge : M.1 e = some (we, true, 2, xs)) (hl : xs.length < 2147483648) : lSp E prog 2 229 [.ref a] M (.inl (some (.int (Int32.ofNat xs.length))), M) := by
  refine lGo.sp (D := 1) pg_229 (Nat.le_of_ble_eq_true rfl) ?_
  repeat (refine lGo.step rfl (fun _ => rfl) ?_; try dsimp only)
  refine lGo.get rfl g rfl rfl ?_
  refine lGo.len rfl ge ?_
  repeat (refine lGo.step rfl (fun _ => rfl) ?_; try dsimp only)
  refine lGo.callV rfl rfl g rfl ⟨Nat.le_of_ble_eq_true rfl, Nat.le_of_ble_eq_true rfl⟩ (sp_230 hE g) ?_
  repeat (refine lGo.step rfl (fun _ => rfl) ?_; try dsimp only)
  rw [show xs.length.toInt32 >>> ((0 : Int32) &&& 31) = Int32.ofNat xs.length from i_shr0 hl]
  exact lGo.done rfl (fun _ => rfl)
theorem jp229 (hJE : jE E G) : JP_229 (lAb (lJd E G) G) E := by
  intro y s A0 a w x hW hr hx M hM
  obtain ⟨own, cr, hA⟩ := hM
  obtain ⟨xs, hc, hx⟩ := bindC hx
  cases hx
  obtain ⟨w0, hc⟩ := stC_some hc
  obtain ⟨w', e, hs, hz, we, g1, g2, g3, _⟩ := jp_W hW hA hc
  rw [hr.1]
  exact ⟨(.inl (some (.int _)), M), _, sp_229 hJE.2.2.2.1 g1 g2 (by omega), ⟨own, cr, hA⟩, trivial, rfl, rfl⟩
theorem jp237 : JP_237 (lAb (lJd E G) G) E := by
  intro y s A0 a w x hW hr hx M hM
  obtain ⟨own, cr, hA⟩ := hM
  obtain ⟨xs, hc, hx⟩ := bindC hx
  cases hx
  obtain ⟨w0, hc⟩ := stC_some hc
  obtain ⟨w', e, hs, hz, we, g1, g2, g3, _⟩ := jp_W hW hA hc
  rw [hr.1]
  refine ⟨(.inl (some (.int _)), M), _, ?_, ⟨own, cr, hA⟩, trivial, rfl, rfl⟩
  refine lGo.sp (D := 0) pg_237 (Nat.le_of_ble_eq_true rfl) ?_
  repeat (refine lGo.step rfl (fun _ => rfl) ?_; try dsimp only)
  refine lGo.get rfl g1 rfl rfl ?_
  refine lGo.len rfl g2 ?_
  refine lGo.step rfl (fun _ => rfl) ?_
  by_cases z : xs.length = 0
  · rw [if_pos z]
    refine lGo.brF (decide_eq_false (fun w => w ?_)) ?_
    · rw [z]; rfl
    repeat (refine lGo.step rfl (fun _ => rfl) ?_; try dsimp only)
    exact lGo.done rfl (fun _ => rfl)
  · rw [if_neg z]
    refine lGo.brT (decide_eq_true (fun w => ?_)) ?_
    · have := (i_inj (j := xs.length) (k := 0) (by omega) (by omega)).mp w
      omega
    repeat (refine lGo.step rfl (fun _ => rfl) ?_; try dsimp only)
    exact lGo.done rfl (fun _ => rfl)
theorem chr_ok : ∀ c : Fin 128, ((Int32.ofNat c.val &&& 255).toUInt32 % 65536).toInt32 = Int32.ofNat c.val ∧ (Int32.ofNat c.val &&& 255) = Int32.ofNat c.val := by decide +kernel
theorem fit_ch : ∀ c : Fin 128, fits .char (.int (Int32.ofNat c.val)) = true := by decide +kernel
theorem sp_225 {i n : Int32} {z : Nat} (hE : E 28 = .ref z) (h0 : ¬ i < 0) (h1 : i < n) : lSp E prog 2 225 [.int i, .int n] M (.inl none, M) := by
  refine lGo.sp (D := 1) pg_225 (Nat.le_of_ble_eq_true rfl) ?_
  repeat (refine lGo.step rfl (fun _ => rfl) ?_; try dsimp only)
  rw [hE]
  refine lGo.call (n := 3) rfl ⟨Nat.le_of_ble_eq_true rfl, Nat.le_of_ble_eq_true rfl⟩ (sp_95r h0 h1) ?_
  repeat (refine lGo.step rfl (fun _ => rfl) ?_; try dsimp only)
  exact lGo.done rfl (fun _ => rfl)
theorem sp_124 {e c z : Nat} {we : Bool} {xs : List Value} {i : Int32} (hE : E 28 = .ref z) (ge : M.1 e = some (we, true, 2, xs)) (h0 : ¬ i < 0) (h1 : xs[i.toNatClampNeg]? = some (.int (Int32.ofNat c))) (hc : c < 128) (hl : xs.length < 2147483648) : lSp E prog 3 124 [.ref e, .int i] M (.inl (some (.int (Int32.ofNat c))), M) := by
  have hlt : i.toNatClampNeg < xs.length := (List.getElem?_eq_some_iff.mp h1).1
  have hi : i < Int32.ofNat xs.length := by
    rw [i_ofc h0]
    exact (i_lt (by omega) (by omega)).mpr hlt
  refine lGo.sp (D := 2) pg_124 (Nat.le_of_ble_eq_true rfl) ?_
  repeat (refine lGo.step rfl (fun _ => rfl) ?_; try dsimp only)
  refine lGo.len rfl ge ?_
  refine lGo.call (n := 2) rfl ⟨Nat.le_of_ble_eq_true rfl, Nat.le_of_ble_eq_true rfl⟩ (sp_225 hE h0 hi) ?_
  repeat (refine lGo.step rfl (fun _ => rfl) ?_; try dsimp only)
  refine lGo.ald rfl ge rfl h0 h1 ?_
  repeat (refine lGo.step rfl (fun _ => rfl) ?_; try dsimp only)
  rw [(chr_ok ⟨c, hc⟩).1]
  refine lGo.done rfl (fun _ => ?_)
  have hf : fits .char (.int (Int32.ofNat c)) = true := fit_ch ⟨c, hc⟩
  simp only [fRetI]
  exact if_pos hf
theorem jp238 (hJE : jE E G) : JP_238 (lAb (lJd E G) G) E := by
  intro y s A0 a w i x hW hr hx M hM
  obtain ⟨own, cr, hA⟩ := hM
  obtain ⟨xs, hc, hx⟩ := bindC hx
  rcases iteC hx with ⟨h0, hx2⟩ | ⟨_, hx2⟩
  case inr => cases hx2
  clear hx
  obtain ⟨v, hv, hx⟩ := bindC hx2
  have hv2 := toI_some hx
  subst hv2
  obtain ⟨w0, hc⟩ := stC_some hc
  obtain ⟨w', e, hs, hz, we, g1, g2, g3, g4, _⟩ := jp_W hW hA hc
  obtain ⟨_, _, _, hE27, ⟨z, hE28⟩, _⟩ := hJE
  obtain ⟨c, hc1, hc2⟩ := g4 _ (List.mem_of_getElem? hv)
  have hc2 := Value.int.inj hc2
  subst hc2
  rw [hr.1]
  refine ⟨(.inl (some (.int _)), M), _, ?_, ⟨own, cr, hA⟩, trivial, rfl, rfl⟩
  refine lGo.sp (D := 4) pg_238 (Nat.le_of_ble_eq_true rfl) ?_
  repeat (refine lGo.step rfl (fun _ => rfl) ?_; try dsimp only)
  refine lGo.callV rfl rfl g1 rfl ⟨Nat.le_of_ble_eq_true rfl, Nat.le_of_ble_eq_true rfl⟩ ((sp_228 hE27 g1).mono (by decide)) ?_
  refine lGo.step rfl (fun _ => rfl) ?_
  refine lGo.brF (by rfl) ?_
  repeat (refine lGo.step rfl (fun _ => rfl) ?_; try dsimp only)
  refine lGo.get rfl g1 rfl rfl ?_
  repeat (refine lGo.step rfl (fun _ => rfl) ?_; try dsimp only)
  refine lGo.call (n := 2) rfl ⟨Nat.le_of_ble_eq_true rfl, Nat.le_of_ble_eq_true rfl⟩ ((sp_124 hE28 g2 h0 hv hc1 (by omega)).mono (by decide)) ?_
  repeat (refine lGo.step rfl (fun _ => rfl) ?_; try dsimp only)
  refine lGo.done rfl (fun _ => ?_)
  have hf : fits .char (.int (Int32.ofNat c)) = true := fit_ch ⟨c, hc1⟩
  simp only [fRetI]
  exact if_pos hf
end
