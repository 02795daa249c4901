/-! the library: arrays of longs; BitSet's state amid a call -/
theorem rowC_cp {f g : Nat → Value} {m n sp dp k : Nat} (hs : sp + k ≤ m) (hd : dp + k ≤ n) : (rowC g n).take dp ++ ((rowC f m).drop sp).take k ++ (rowC g n).drop (dp + k) = rowC (fun i => if dp ≤ i ∧ i < dp + k then f (sp + (i - dp)) else g i) n := by
  have l1 : ((rowC g n).take dp).length = dp := by rw [List.length_take, rowC_len]; omega
  have l2 : (((rowC f m).drop sp).take k).length = k := by rw [List.length_take, List.length_drop, rowC_len]; omega
  have l12 : ((rowC g n).take dp ++ ((rowC f m).drop sp).take k).length = dp + k := by rw [List.length_append, l1, l2]
  refine rowC_ext ?_ (fun i hi => ?_)
  · rw [List.length_append, l12, List.length_drop, rowC_len]
    omega
  · by_cases z : i < dp + k
    · rw [List.getElem?_append_left (by rw [l12]; exact z)]
      by_cases z2 : i < dp
      · rw [List.getElem?_append_left (by rw [l1]; exact z2), List.getElem?_take, if_pos z2, rowC_get, if_pos hi, if_neg (by omega)]
      · rw [List.getElem?_append_right (by rw [l1]; omega), l1, List.getElem?_take, if_pos (by omega), List.getElem?_drop, rowC_get, if_pos (by omega), if_pos ⟨by omega, z⟩]
    · rw [List.getElem?_append_right (by rw [l12]; omega), l12, List.getElem?_drop, rowC_get, if_pos (by omega), if_neg (by omega), show dp + k + (i - (dp + k)) = i by omega]
theorem lUpd_sw {h : lHeap} {a b : Nat} {c d : lCell} (n : a ≠ b) : lUpd (lUpd h a c) b d = lUpd (lUpd h b d) a c := by
  funext q
  rw [lUpd_at, lUpd_at, lUpd_at, lUpd_at]
  by_cases z : q = b
  · rw [if_pos z, if_neg (fun w => n (w.symm.trans z)), if_pos z]
  · rw [if_neg z, if_neg z]
section
variable {E : lE} {M : lMem} {D : Nat} {cd : List lI} {i j : Nat} {fin : lF} {lv : lL} {r : List Value}
/-- an array of longs -/
def rowW (f : Nat → Int64) (n : Nat) : List Value := rowC (fun i => .long (f i)) n
theorem rowW_len (f : Nat → Int64) (n : Nat) : (rowW f n).length = n := rowC_len ..
theorem rowW_get {f : Nat → Int64} {n k : Nat} (h : k < n) : (rowW f n)[k]? = some (.long (f k)) := by
  unfold rowW
  rw [rowC_get, if_pos h]
theorem rowW_set (f : Nat → Int64) (n k : Nat) (x : Int64) : (rowW f n).set k (.long x) = rowW (fun j => if j = k then x else f j) n := by
  unfold rowW
  rw [rowC_set]
  refine rowC_congr (fun i _ => ?_)
  dsimp only
  split <;> rfl
theorem rowW_rep (n : Nat) : List.replicate n (Value.long 0) = rowW (fun _ => 0) n := by
  refine rowC_ext (List.length_replicate ..) (fun k hk => ?_)
  rw [List.getElem?_replicate, if_pos hk]
theorem rowW_cg {f g : Nat → Int64} {n : Nat} (h : ∀ k, k < n → f k = g k) : rowW f n = rowW g n := rowC_congr (fun k hk => congrArg Value.long (h k hk))
theorem lGo.copyL {a0 a : Nat} {w : Bool} {f g : Nat → Int64} {m n sp dp k : Nat} (hi : cd[i]? = some (aM (fCopy lPrims raTab j))) (h0 : M.1 a0 = some (w, true, 1, rowW f m)) (h1 : M.1 a = some (true, true, 1, rowW g n)) (hs : sp + k ≤ m) (hd : dp + k ≤ n) (hb : m < 2147483648) (hb2 : n < 2147483648) (hr : (r.map (fun v => v.category)).sum ≤ 8)
    (h : lGo E prog D cd j (lv, r, lUpd M.1 a (true, true, 1, rowW (fun i => if dp ≤ i ∧ i < dp + k then f (sp + (i - dp)) else g i) n), M.2.1, M.2.2) fin) : lGo E prog D cd i (lv, .int (Int32.ofNat k) :: .int (Int32.ofNat dp) :: .ref a :: .int (Int32.ofNat sp) :: .ref a0 :: r, M) fin := by
  have l1 : (((rowW f m).drop sp).take k).length = k := by rw [List.length_take, List.length_drop, rowW_len]; omega
  have e := lSt_eq (((rowW f m).drop sp).take k) (rowW g n) dp (by rw [l1, rowW_len]; omega)
  rw [l1] at e
  have e2 : (rowW g n).take dp ++ ((rowW f m).drop sp).take k ++ (rowW g n).drop (dp + k) = rowW (fun i => if dp ≤ i ∧ i < dp + k then f (sp + (i - dp)) else g i) n := by
    unfold rowW
    rw [rowC_cp hs hd]
    refine rowC_congr (fun i _ => ?_)
    dsimp only
    split <;> rfl
  rw [← e2, ← e] at h
  refine lGo.step hi (fun _ => ?_) h
  show lMemI (fCopy lPrims raTab j) E _ _ = _
  unfold lMemI fCopy
  dsimp only
  rw [h0]
  dsimp only
  rw [h1]
  dsimp only
  have hp : lPrm lPrims 1 (((rowW f m).drop sp).take k) = true := by
    show List.all _ _ = true
    refine List.all_eq_true.mpr (fun v hv' => ?_)
    have hv := List.mem_of_mem_drop (List.mem_of_mem_take hv')
    unfold rowW rowC at hv
    obtain ⟨q, _, rfl⟩ := List.mem_map.mp hv
    rfl
  rw [i_clamp (by omega), i_clamp (by omega), i_clamp (by omega), if_pos ⟨i_nlt0 (by omega), i_nlt0 (by omega), i_nlt0 (by omega), by rw [rowW_len]; exact hs, by rw [rowW_len]; exact hd, hr, Or.inl ⟨rfl, hp⟩⟩]
/-- Arrays.copyOf of longs, longer -/
theorem sp_64 {e n N : Nat} {w : Bool} {f : Nat → Int64} (he : M.1 e = some (w, true, 1, rowW f n)) (hf : M.1 M.2.1 = none) (hN : n < N) (hN2 : N ≤ 1000000) : lSp E prog 2 64 [.ref e, .int (Int32.ofNat N)] M (.inl (some (.ref M.2.1)), (lUpd M.1 M.2.1 (true, true, 1, rowW (fun i => if i < n then f i else 0) N), M.2.1 + 1, M.2.2 + N)) := by
  refine lGo.sp (D := 1) pg_64 (Nat.le_of_ble_eq_true rfl) ?_
  repeat (refine lGo.step rfl (fun _ => rfl) ?_; try dsimp only)
  refine lGo.len rfl he ?_
  rw [rowW_len]
  refine lGo.step rfl (fun _ => rfl) ?_
  refine lGo.brT (decide_eq_true (fun z => ?_)) ?_
  · have : N = n := (i_inj (by omega) (by omega)).mp z
    omega
  refine lGo.step rfl (fun _ => rfl) ?_; dsimp only
  refine lGo.newa rfl (i_nlt0 (by omega)) (by rw [clampN (by omega)]; exact hN2) ?_
  rw [clampN (by omega), rowW_rep]
  have he' : lUpd M.1 M.2.1 (true, true, 1, rowW (fun _ => 0) N) e = some (w, true, 1, rowW f n) := (lUpd_ne _ _ (fun z => by rw [z, hf] at he; cases he)).trans he
  repeat (refine lGo.step rfl (fun _ => rfl) ?_; try dsimp only)
  refine lGo.len rfl he' ?_
  rw [rowW_len]
  repeat (refine lGo.step rfl (fun _ => rfl) ?_; try dsimp only)
  rw [i_32]
  refine lGo.call (n := 2) rfl ⟨Nat.le_of_ble_eq_true rfl, Nat.le_of_ble_eq_true rfl⟩ (sp_48n (by omega) (by omega)) ?_
  refine lGo.copyL (sp := 0) (dp := 0) (k := min n N) rfl he' (lUpd_eq ..) (by omega) (by omega) (by omega) (by omega) (cat8 (Nat.le_of_ble_eq_true rfl)) ?_
  repeat (refine lGo.step rfl (fun _ => rfl) ?_; try dsimp only)
  rw [lUpdU, rowW_cg (g := fun i => if i < n then f i else 0) (fun i hi => by
    by_cases z : i < n
    · rw [if_pos ⟨Nat.zero_le _, by omega⟩, if_pos z, Nat.zero_add, Nat.sub_zero]
    · rw [if_neg (by omega), if_neg z])]
  exact lGo.done rfl (fun _ => rfl)
end
section
variable {E : lE} {G : lHeap} {own cr : Nat → Nat} {M0 M : lMem} {a e n u : Nat} {f : Nat → Int64} {fs : List Value}
/-- a bit set amid a call that began at M0: e its words' array, n words, u in use -/
def BBs (own : Nat → Nat) (M0 : lMem) (a e n u : Nat) (f : Nat → Int64) (M : lMem) : Prop := Jw own a M0 M ∧ own a = a ∧ a < M0.2.1 ∧ M.1 a = some (true, false, 3, [.ref e, .int (Int32.ofNat u), .int 0]) ∧ e ≠ a ∧ (e < M0.2.1 → own e = a) ∧ M.1 e = some (true, true, 1, rowW f n)
theorem BBs.wE (h : BBs own M0 a e n u f M) (f' : Nat → Int64) : BBs own M0 a e n u f' (lUpd M.1 e (true, true, 1, rowW f' n), M.2.1, M.2.2) := by
  obtain ⟨h1, h2, h3, h4, h5, h6, h7⟩ := h
  exact ⟨h1.upd h7 h6, h2, h3, (lUpd_ne _ _ (fun z => h5 z.symm)).trans h4, h5, h6, lUpd_eq ..⟩
theorem BBs.wA (h : BBs own M0 a e n u f M) (u' : Nat) : BBs own M0 a e n u' f (lUpd M.1 a (true, false, 3, [.ref e, .int (Int32.ofNat u'), .int 0]), M.2.1, M.2.2) := by
  obtain ⟨h1, h2, h3, h4, h5, h6, h7⟩ := h
  exact ⟨h1.upd h4 (fun _ => h2), h2, h3, lUpd_eq .., h5, h6, (lUpd_ne _ _ h5).trans h7⟩
theorem BBs.cg (h : BBs own M0 a e n u f M) {f' : Nat → Int64} (hf : ∀ i, i < n → f i = f' i) : BBs own M0 a e n u f' M := by
  obtain ⟨h1, h2, h3, h4, h5, h6, h7⟩ := h
  exact ⟨h1, h2, h3, h4, h5, h6, by rw [← rowW_cg hf]; exact h7⟩
theorem BBs.nw (h : BBs own M0 a e n u f M) (f' : Nat → Int64) (n' k : Nat) : BBs own M0 a M.2.1 n' u f' (lUpd (lUpd M.1 M.2.1 (true, true, 1, rowW f' n')) a (true, false, 3, [.ref M.2.1, .int (Int32.ofNat u), .int 0]), M.2.1 + 1, k) := by
  obtain ⟨h1, h2, h3, h4, h5, h6, h7⟩ := h
  have hle := h1.1
  have ne : a ≠ M.2.1 := by omega
  exact ⟨(h1.new (c := (true, true, 1, rowW f' n')) ⟨(show 1 < 1000 by decide), fun w => by cases w⟩ k).upd ((lUpd_ne _ _ ne).trans h4) (fun _ => h2), h2, h3, lUpd_eq .., ne.symm, fun z => by omega, (lUpd_ne _ _ ne.symm).trans (lUpd_eq ..)⟩
theorem BBs.fin (h : BBs own M0 a e n u f M) (h1 : 1 ≤ n) (h2 : n ≤ 40000) (h3 : fs.length ≤ 64 * n) (h4 : fs.length ≤ 1000000) (h5 : u ≤ n) (h6 : ∀ i, u ≤ i → f i = 0) (h7 : u = 0 ∨ f (u - 1) ≠ 0) (h8 : ∀ v ∈ fs, v = .int 0 ∨ v = .int 1) (h9 : ∀ q, bit fs q = tbL (f (q / 64)) (q % 64)) : JB fs a (lHp (ownN own M0.2.1 a) M a) := by
  obtain ⟨k1, k2, k3, k4, k5, k6, k7⟩ := h
  refine ⟨e, n, u, f, ?_, k5, ?_, h1, h2, h3, h4, h5, h6, h7, h8, h9⟩
  · rw [hp_old k2 k3]
    exact k4
  · by_cases z : e < M0.2.1
    · rw [hp_old (k6 z) z]
      exact k7
    · rw [hp_new (by omega)]
      exact k7
/-- a bit set found by its number -/
theorem jp_B {y : lY} {s : CS} {A0 M : lMem} {own cr : Nat → Nat} {a : Nat} {xs : List Value} (hW : cW E y s A0) (hA : lAbo (lJd E G) G own cr M (cp y s A0)) (hc : s.1 a = some (true, false, 1003, xs)) : ∃ (e n u : Nat) (f : Nat → Int64), BBs own M (adr y.1 a) e n u f M ∧ 1 ≤ n ∧ n ≤ 40000 ∧ xs.length ≤ 64 * n ∧ xs.length ≤ 1000000 ∧ u ≤ n ∧ (∀ i, u ≤ i → f i = 0) ∧ (u = 0 ∨ f (u - 1) ≠ 0) ∧ (∀ v ∈ xs, v = .int 0 ∨ v = .int 1) ∧ ∀ q, bit xs q = tbL (f (q / 64)) (q % 64) := by
  obtain ⟨h1, h2, q1, q2, q3, q4, q5, q6⟩ := jp_at hW hA hc (by omega)
  have e2 := relC_W (Or.inr (Or.inl rfl)) h2
  obtain ⟨r1, r2⟩ := q5 (by dsimp only; omega)
  rw [e2] at r2
  obtain ⟨e, n, u, f, g1, g2, g3, g4⟩ := lJd_B r2
  exact ⟨e, n, u, f, ⟨Jw.rf hA, q1, q2, (hp_some g1).2, g2, fun _ => (hp_some g3).1, (hp_some g3).2⟩, g4⟩
/-- the end of a call that changes a bit set -/
theorem bb_done {y : lY} {s : CS} {A0 M M' : lMem} {own cr : Nat → Nat} {a D mi e n u k m nn : Nat} {args fs xs : List Value} {f : Nat → Int64} {v : Option Value} (hW : cW E y s A0) (hA : lAbo (lJd E G) G own cr M (cp y s A0)) (hc : s.1 a = some (true, false, k, fs)) (h42 : k ≠ 1042) (hsp : lSp E prog D mi args M (.inl v, M')) (S : BBs own M (adr y.1 a) e n u f M') (h1 : 1 ≤ n) (h2 : n ≤ 40000) (h3 : xs.length ≤ 64 * n) (h4 : xs.length ≤ 1000000) (h5 : u ≤ n) (h6 : ∀ i, u ≤ i → f i = 0) (h7 : u = 0 ∨ f (u - 1) ≠ 0) (h8 : ∀ v ∈ xs, v = .int 0 ∨ v = .int 1) (h9 : ∀ q, bit xs q = tbL (f (q / 64)) (q % 64)) (hz1 : M'.2.1 ≤ nn + M.2.1) (hz2 : M'.2.2 ≤ m + M.2.2) :
    ∃ (fin : lF) (A' : lMem), lSp E prog D mi args M fin ∧ lAb (lJd E G) G fin.2 A' ∧ lXk A' fin.1 ∧ (fin.1 = .inl v ∧ qP E y s A0 (lUpd s.1 a (true, false, 1003, xs), s.2.1, s.2.2.1 + nn, s.2.2.2 + m) A') := by
  have hj : ∀ {q n : Nat}, .ref q ∈ xs → q < n := by
    intro q n z
    rcases h8 _ z with w | w <;> cases w
  refine jp_done (kc := 0) (n := s.2.2.1 + nn) (m := s.2.2.2 + m) (f := xs) hW hA hc h42 (by decide) (relC_W' (Or.inr (Or.inl rfl))) (fun q hq => hj hq) (by omega) hsp S.1 (Or.inr (Or.inr (Or.inr (Or.inl ⟨rfl, S.fin h1 h2 h3 h4 h5 h6 h7 h8 h9⟩)))) (fun z => by omega) (by omega) (by omega)
/-- the checks are switched off -/
theorem sp_11 (hE : E 0 = .int 1) {b : Nat} : lSp E prog 1 11 [.ref b] M (.inl none, M) := by
  refine lGo.sp (D := 0) pg_11 (Nat.le_of_ble_eq_true rfl) ?_
  refine lGo.env rfl hE ?_
  refine lGo.step rfl (fun _ => rfl) ?_
  refine lGo.brT (by rfl) ?_
  refine lGo.env rfl hE ?_
  refine lGo.step rfl (fun _ => rfl) ?_
  refine lGo.brT (by rfl) ?_
  refine lGo.env rfl hE ?_
  refine lGo.step rfl (fun _ => rfl) ?_
  refine lGo.brT (by rfl) ?_
  exact lGo.done rfl (fun _ => rfl)
theorem i_shr6 {k : Nat} (h : k < 2147483648) : Int32.ofNat k >>> ((6 : Int32) &&& 31) = Int32.ofNat (k / 64) := by
  rw [show ((6 : Int32) &&& 31) = Int32.ofNat 6 from by decide, i_shr h (by decide)]
theorem sp_7 {k : Nat} (h : k < 2147483648) : lSp E prog 1 7 [.int (Int32.ofNat k)] M (.inl (some (.int (Int32.ofNat (k / 64)))), M) := by
  refine lGo.sp (D := 0) pg_7 (Nat.le_of_ble_eq_true rfl) ?_
  refine lGo.step rfl (fun _ => rfl) ?_; dsimp only
  refine lGo.step rfl (fun _ => rfl) ?_; dsimp only
  refine lGo.step rfl (fun _ => rfl) ?_; dsimp only
  rw [i_shr6 h]
  exact lGo.done rfl (fun _ => rfl)
/-- BitSet.<init>: one word -/
theorem jp5 : JP_5 (lAb (lJd E G) G) E := by
  intro y s A0 a w x hW hr hx M hM
  obtain ⟨own, cr, hA⟩ := hM
  obtain ⟨s1, hc0, hx1⟩ := bindC hx
  obtain ⟨hc, hs1⟩ := ccI_some hc0
  subst hs1
  cases hx1
  rw [hr.1]
  obtain ⟨h0, w', h1, h2⟩ := jp_pl hW hA hc (by decide)
  have h2 := h2 rfl
  subst h2
  obtain ⟨q1, q2, q3, _⟩ := hA.2.2.2.2.2 _ _ h0
  have h1 : M.1 (adr y.1 a) = some (true, false, 3, [.null, .int 0, .int 0]) := h1
  have ne : adr y.1 a ≠ M.2.1 := by omega
  have W : BBs own M (adr y.1 a) M.2.1 1 0 (fun _ => 0) (lUpd (lUpd M.1 M.2.1 (true, true, 1, rowW (fun _ => 0) 1)) (adr y.1 a) (true, false, 3, [.ref M.2.1, .int 0, .int 0]), M.2.1 + 1, M.2.2 + 1) :=
    ⟨((Jw.rf hA).new (c := (true, true, 1, rowW (fun _ => 0) 1)) ⟨(show 1 < 1000 by decide), fun w => by cases w⟩ (M.2.2 + 1)).upd ((lUpd_ne _ _ ne).trans h1) (fun _ => q1), q1, q2, lUpd_eq .., ne.symm, fun z => by omega, (lUpd_ne _ _ ne.symm).trans (lUpd_eq ..)⟩
  refine bb_done (nn := 1) (m := 1) (xs := []) hW hA hc (by decide) ?_ W (by decide) (by decide) (by decide) (by decide) (by decide) (fun _ _ => rfl) (Or.inl rfl) (fun v hv => by simp at hv) (fun q => ?_) (by show M.2.1 + 1 ≤ _; omega) (by show M.2.2 + 1 ≤ _; omega)
  · refine lGo.sp (D := 2) pg_5 (Nat.le_of_ble_eq_true rfl) ?_
    repeat (refine lGo.step rfl (fun _ => rfl) ?_; try dsimp only)
    refine lGo.put rfl h1 rfl (Nat.le_of_ble_eq_true rfl) rfl ?_
    repeat (refine lGo.step rfl (fun _ => rfl) ?_; try dsimp only)
    refine lGo.put rfl (lUpd_eq ..) rfl (Nat.le_of_ble_eq_true rfl) rfl ?_
    rw [lUpdU]
    repeat (refine lGo.step rfl (fun _ => rfl) ?_; try dsimp only)
    refine lGo.callV rfl rfl (lUpd_eq ..) rfl ⟨Nat.le_of_ble_eq_true rfl, Nat.le_of_ble_eq_true rfl⟩ (v := none) (M' := (lUpd (lUpd M.1 M.2.1 (true, true, 1, rowW (fun _ => 0) 1)) (adr y.1 a) (true, false, 3, [.ref M.2.1, .int 0, .int 0]), M.2.1 + 1, M.2.2 + 1)) ?_ ?_
    · refine lGo.sp (D := 1) pg_6 (Nat.le_of_ble_eq_true rfl) ?_
      refine lGo.step rfl (fun _ => rfl) ?_; dsimp only
      refine lGo.step rfl (fun _ => rfl) ?_; dsimp only
      refine lGo.step rfl (fun _ => rfl) ?_; dsimp only
      refine lGo.step rfl (fun _ => rfl) ?_; dsimp only
      refine lGo.call (n := 1) rfl ⟨Nat.le_of_ble_eq_true rfl, Nat.le_of_ble_eq_true rfl⟩ (sp_7 (k := 63) (by decide)) ?_
      refine lGo.step rfl (fun _ => rfl) ?_; dsimp only
      refine lGo.step rfl (fun _ => rfl) ?_; dsimp only
      refine lGo.newa (n := 1) rfl (by decide) (by decide) ?_
      rw [show Int32.toNatClampNeg 1 = 1 from by decide, rowW_rep]
      refine lGo.put rfl ((lUpd_ne _ _ ne).trans (lUpd_eq ..)) rfl (Nat.le_of_ble_eq_true rfl) rfl ?_
      rw [lUpd_sw ne, lUpdU]
      exact lGo.done rfl (fun _ => rfl)
    · repeat (refine lGo.step rfl (fun _ => rfl) ?_; try dsimp only)
      refine lGo.put rfl (lUpd_eq ..) rfl (Nat.le_of_ble_eq_true rfl) rfl ?_
      rw [lUpdU]
      exact lGo.done rfl (fun _ => rfl)
  · rw [tb_0]
    unfold bit
    rw [List.getElem?_nil]
    rfl
end
