/-! the library: Integer.compareTo; heaps, plain -/
section
variable {E : lE} {M : lMem}
theorem sp_102 {x z : Int32} : lSp E prog 1 102 [.int x, .int z] M (.inl (some (.int (cmpI x z))), M) := by
  refine lGo.sp (D := 0) pg_102 (Nat.le_of_ble_eq_true rfl) ?_
  refine lGo.step rfl (fun _ => rfl) ?_; dsimp only
  refine lGo.step rfl (fun _ => rfl) ?_; dsimp only
  refine lGo.step rfl (fun _ => rfl) ?_; dsimp only
  unfold cmpI
  by_cases h : x < z
  · rw [if_pos h]
    refine lGo.brF (decide_eq_false (fun w => Int32.not_lt.mpr w h)) ?_
    refine lGo.step rfl (fun _ => rfl) ?_; dsimp only
    refine lGo.step rfl (fun _ => rfl) ?_; dsimp only
    exact lGo.done rfl (fun _ => rfl)
  · rw [if_neg h]
    refine lGo.brT (decide_eq_true (Int32.not_lt.mp h)) ?_
    refine lGo.step rfl (fun _ => rfl) ?_; dsimp only
    refine lGo.step rfl (fun _ => rfl) ?_; dsimp only
    refine lGo.step rfl (fun _ => rfl) ?_; dsimp only
    by_cases e : x = z
    · rw [if_pos e]
      refine lGo.brF (decide_eq_false (fun w => w e)) ?_
      refine lGo.step rfl (fun _ => rfl) ?_; dsimp only
      refine lGo.step rfl (fun _ => rfl) ?_; dsimp only
      exact lGo.done rfl (fun _ => rfl)
    · rw [if_neg e]
      refine lGo.brT (decide_eq_true e) ?_
      refine lGo.step rfl (fun _ => rfl) ?_; dsimp only
      exact lGo.done rfl (fun _ => rfl)
theorem sp_104 {a b : Nat} {w w2 : Bool} {x z : Int32} (ha : M.1 a = some (w, false, 19, [.int x])) (hb : M.1 b = some (w2, false, 19, [.int z])) : lSp E prog 2 104 [.ref a, .ref b] M (.inl (some (.int (cmpI x z))), M) := by
  refine lGo.sp (D := 1) pg_104 (Nat.le_of_ble_eq_true rfl) ?_
  refine lGo.step rfl (fun _ => rfl) ?_; dsimp only
  refine lGo.get rfl ha rfl rfl ?_
  refine lGo.step rfl (fun _ => rfl) ?_; dsimp only
  refine lGo.get rfl hb rfl rfl ?_
  refine lGo.call (n := 2) rfl ⟨Nat.le_of_ble_eq_true rfl, Nat.le_of_ble_eq_true rfl⟩ sp_102 ?_
  exact lGo.done rfl (fun _ => rfl)
theorem sp_103 {a b : Nat} {w w2 : Bool} {x z : Int32} (ha : M.1 a = some (w, false, 19, [.int x])) (hb : M.1 b = some (w2, false, 19, [.int z])) : lSp E prog 3 103 [.ref a, .ref b] M (.inl (some (.int (cmpI x z))), M) := by
  refine lGo.sp (D := 2) pg_103 (Nat.le_of_ble_eq_true rfl) ?_
  refine lGo.step rfl (fun _ => rfl) ?_; dsimp only
  refine lGo.step rfl (fun _ => rfl) ?_; dsimp only
  refine lGo.cast rfl hb rfl ?_
  refine lGo.callV rfl rfl ha rfl ⟨Nat.le_of_ble_eq_true rfl, Nat.le_of_ble_eq_true rfl⟩ (sp_104 ha hb) ?_
  exact lGo.done rfl (fun _ => rfl)
end
theorem cmp_lt0 {x z : Int32} : cmpI x z < 0 ↔ x < z := by
  unfold cmpI
  by_cases h : x < z
  · rw [if_pos h]
    exact ⟨fun _ => h, fun _ => by decide⟩
  · rw [if_neg h]
    by_cases e : x = z
    · rw [if_pos e]
      exact ⟨fun w => absurd w (by decide), fun w => absurd w h⟩
    · rw [if_neg e]
      exact ⟨fun w => absurd w (by decide), fun w => absurd w h⟩
theorem cmp_gt0 {x z : Int32} : 0 < cmpI x z ↔ z < x := by
  unfold cmpI
  by_cases h : x < z
  · rw [if_pos h]
    exact ⟨fun w => absurd w (by decide), fun w => absurd (Int32.lt_trans h w) Int32.lt_irrefl⟩
  · rw [if_neg h]
    by_cases e : x = z
    · rw [if_pos e]
      exact ⟨fun w => absurd w (by decide), fun w => absurd (e ▸ w) Int32.lt_irrefl⟩
    · rw [if_neg e]
      exact ⟨fun _ => Int32.lt_of_le_of_ne (Int32.not_lt.mp h) (fun w => e w.symm), fun _ => by decide⟩
theorem cmp_le0 {x z : Int32} : cmpI x z ≤ 0 ↔ x ≤ z := by
  rw [← Int32.not_lt, cmp_gt0, Int32.not_lt]
/-- a heap's order -/
def HpF (f : Nat → Int32) (n : Nat) : Prop := ∀ i, 0 < i → i < n → f ((i - 1) / 2) ≤ f i
/-- a heap but for the place k, which may be too small -/
def HU (f : Nat → Int32) (k n : Nat) : Prop := (∀ i, 0 < i → i < n → i ≠ k → f ((i - 1) / 2) ≤ f i) ∧ (0 < k → ∀ c, 0 < c → c < n → (c - 1) / 2 = k → f ((k - 1) / 2) ≤ f c)
/-- a heap but for the place k, which may be too great -/
def HDn (f : Nat → Int32) (k n : Nat) : Prop := (∀ i, 0 < i → i < n → (i - 1) / 2 ≠ k → f ((i - 1) / 2) ≤ f i) ∧ (0 < k → ∀ c, 0 < c → c < n → (c - 1) / 2 = k → f ((k - 1) / 2) ≤ f c)
def swF (f : Nat → Int32) (k p : Nat) : Nat → Int32 := fun i => if i = p then f k else if i = k then f p else f i
theorem swF_p (f : Nat → Int32) (k p : Nat) : swF f k p p = f k := if_pos rfl
theorem swF_k {f : Nat → Int32} {k p : Nat} (h : k ≠ p) : swF f k p k = f p := by
  unfold swF
  rw [if_neg h, if_pos rfl]
theorem swF_o {f : Nat → Int32} {k p i : Nat} (h : i ≠ p) (h2 : i ≠ k) : swF f k p i = f i := by
  unfold swF
  rw [if_neg h, if_neg h2]
theorem HU_st {f : Nat → Int32} {k n : Nat} (h : HU f k n) (hk : 0 < k) (hn : k < n) (hl : f k < f ((k - 1) / 2)) : HU (swF f k ((k - 1) / 2)) ((k - 1) / 2) n := by
  obtain ⟨h1, h2⟩ := h
  obtain ⟨p, hp⟩ : ∃ p, p = (k - 1) / 2 := ⟨_, rfl⟩
  rw [← hp] at h2 hl ⊢
  refine ⟨fun i hi hin hip => ?_, fun hp0 c hc hcn hcp => ?_⟩
  · by_cases z : i = k
    · rw [z, ← hp, swF_p, swF_k (by omega)]
      exact Int32.le_of_lt hl
    · rw [swF_o hip z]
      by_cases z2 : (i - 1) / 2 = p
      · rw [z2, swF_p]
        exact Int32.le_trans (Int32.le_of_lt hl) (by rw [← z2]; exact h1 i hi hin z)
      · by_cases z3 : (i - 1) / 2 = k
        · rw [z3, swF_k (by omega)]
          exact h2 hk i hi hin z3
        · rw [swF_o z2 z3]
          exact h1 i hi hin z
  · rw [swF_o (by omega) (by omega)]
    have hpp := h1 p hp0 (by omega) (by omega)
    by_cases z : c = k
    · rw [z, swF_k (by omega)]
      exact hpp
    · rw [swF_o (by omega) z]
      exact Int32.le_trans hpp (by rw [← hcp]; exact h1 c hc hcn z)
theorem HU_end {f : Nat → Int32} {k n : Nat} (h : HU f k n) (he : k = 0 ∨ f ((k - 1) / 2) ≤ f k) : HpF f n := by
  intro i hi hin
  by_cases z : i = k
  · rcases he with e | e
    · omega
    · rw [z]
      exact e
  · exact h.1 i hi hin z
theorem HD_st {f : Nat → Int32} {k c n : Nat} (h : HDn f k n) (hc0 : 0 < c) (hcn : c < n) (hck : (c - 1) / 2 = k) (hl : f c < f k) (hb : ∀ d, 0 < d → d < n → (d - 1) / 2 = k → f c ≤ f d) : HDn (swF f k c) c n := by
  obtain ⟨h1, h2⟩ := h
  refine ⟨fun i hi hin hip => ?_, fun _ d hd hdn hdc => ?_⟩
  · by_cases z : i = c
    · rw [z, hck, swF_p, swF_k (by omega)]
      exact Int32.le_of_lt hl
    · by_cases z2 : i = k
      · rw [z2] at hi ⊢
        rw [swF_k (by omega), swF_o (by omega) (by omega)]
        exact h2 hi c hc0 hcn hck
      · rw [swF_o z z2]
        by_cases z3 : (i - 1) / 2 = k
        · rw [z3, swF_k (by omega)]
          exact hb i hi hin z3
        · rw [swF_o hip z3]
          exact h1 i hi hin z3
  · rw [hck, swF_k (by omega), swF_o (by omega) (by omega), ← hdc]
    exact h1 d hd hdn (by omega)
theorem HD_end {f : Nat → Int32} {k n : Nat} (h : HDn f k n) (he : ∀ d, 0 < d → d < n → (d - 1) / 2 = k → f k ≤ f d) : HpF f n := by
  intro i hi hin
  by_cases z : (i - 1) / 2 = k
  · rw [z]
    exact he i hi hin z
  · exact h.1 i hi hin z
/-- two places change -/
theorem set_sw {L : List Value} {k p : Nat} {x : Value} (hk : k < L.length) (hp : p < L.length) (n : k ≠ p) : ((L.set k (L.getD p .null)).set p x).Perm (L.set k x) := by
  have h := List.set_set_perm (as := L.set k x) (i := k) (j := p) (by rw [List.length_set]; exact hk) (by rw [List.length_set]; exact hp)
  rw [List.getElem_set_self, List.getElem_set_ne n, List.set_set] at h
  rw [List.getD_eq_getElem?_getD, List.getElem?_eq_getElem hp]
  exact h
theorem set_gD {L : List Value} {k i : Nat} {x : Value} (hk : k < L.length) : (L.set k x).getD i .null = if i = k then x else L.getD i .null := by
  rw [List.getD_eq_getElem?_getD, List.getD_eq_getElem?_getD]
  by_cases z : i = k
  · rw [if_pos z, z, List.getElem?_set_self hk]
    rfl
  · rw [if_neg z, List.getElem?_set_ne (fun w => z w.symm)]
theorem sw_fn {L : List Value} {k p : Nat} {x : Value} (ky : Value → Int32) (hk : k < L.length) (hp : p < L.length) (n : k ≠ p) : (fun i => ky (((L.set k (L.getD p .null)).set p x).getD i .null)) = swF (fun i => ky ((L.set k x).getD i .null)) k p := by
  funext i
  unfold swF
  dsimp only
  rw [set_gD (by rw [List.length_set]; exact hp)]
  by_cases z : i = p
  · rw [if_pos z, if_pos z, set_gD hk, if_pos rfl]
  · rw [if_neg z, if_neg z]
    by_cases z2 : i = k
    · rw [if_pos z2, set_gD hk, if_pos z2, set_gD hk, if_neg (fun w => n w.symm)]
    · rw [if_neg z2, set_gD hk, if_neg z2, set_gD hk, if_neg z2]
theorem uSh1 {n : Nat} (h : n < 2147483648) : uSh (Int32.ofNat n) 1 = Int32.ofNat (n / 2) := by
  unfold uSh
  rw [← Int32.toBitVec_inj]
  apply BitVec.eq_of_toNat_eq
  show ((BitVec.ofNat 32 n >>> ((1#32 &&& 31#32) % 32#32))).toNat = (BitVec.ofNat 32 (n / 2)).toNat
  rw [show ((1#32 &&& 31#32) % 32#32) = 1#32 from by decide]
  show (BitVec.ofNat 32 n >>> 1).toNat = _
  rw [BitVec.toNat_ushiftRight, BitVec.toNat_ofNat, BitVec.toNat_ofNat, Nat.shiftRight_eq_div_pow, Nat.pow_one]
  omega
