/-! the warden: the reader's next word -/
theorem sbAt_r {s : CS} {a n k : Nat} {f : Nat → Int32} (h : s.1 a = some (true, false, 1035, rowC (fun i => .int (f i)) n)) (hk : k < n) (hn : n < 2147483648) : sbAt s a (Int32.ofNat k) = some (f k) := by
  unfold sbAt
  rw [sbCt_r h, Option.bind_some, if_pos (i_nlt0 (by omega)), i_clamp (by omega), rowC_get, if_pos hk]; rfl
theorem lt_n97 (x : Int32) : x < 97 ↔ ¬ 96 < x := by
  rw [Int32.lt_iff_toInt_lt, Int32.lt_iff_toInt_lt]
  show x.toInt < 97 ↔ ¬ 96 < x.toInt
  omega
theorem lt_n122 (x : Int32) : 122 < x ↔ ¬ x < 123 := by
  rw [Int32.lt_iff_toInt_lt, Int32.lt_iff_toInt_lt]
  show 122 < x.toInt ↔ ¬ x.toInt < 123
  omega
theorem lt_n48 (x : Int32) : x < 48 ↔ ¬ 47 < x := by
  rw [Int32.lt_iff_toInt_lt, Int32.lt_iff_toInt_lt]
  show x.toInt < 48 ↔ ¬ 47 < x.toInt
  omega
theorem lt_n57 (x : Int32) : 57 < x ↔ ¬ x < 58 := by
  rw [Int32.lt_iff_toInt_lt, Int32.lt_iff_toInt_lt]
  show 57 < x.toInt ↔ ¬ x.toInt < 58
  omega
theorem csO_0 (x : Int32) : csO x = 0 ↔ x = 32 ∨ x = 10 := by
  unfold csO
  by_cases h1 : x = 32
  · simp [h1]
  · by_cases h2 : x = 10
    · simp [h2]
    · by_cases h3 : 96 < x ∧ x < 123
      · simp [h1, h2, h3]
      · by_cases h4 : 47 < x ∧ x < 58
        · rw [if_neg h1, if_neg h2, if_neg h3, if_pos h4]; simp [h1, h2]
        · rw [if_neg h1, if_neg h2, if_neg h3, if_neg h4]; simp [h1, h2]
theorem c_let (x : Int32) (s : CS) : c_1010 x s = some (if csO x = 1 then 1 else 0) := by
  unfold c_1010 csO
  simp only [lt_n97, lt_n122]
  by_cases h1 : x = 32
  · subst h1; decide
  · by_cases h2 : x = 10
    · subst h2; decide
    · rw [if_neg h1, if_neg h2]
      by_cases h3 : 96 < x
      · by_cases h4 : x < 123
        · simp [h3, h4]
        · by_cases h5 : 47 < x ∧ x < 58
          · simp [h3, h4, h5]
          · rw [if_neg (fun z => z h3), if_pos h4, if_neg (show ¬ (96 < x ∧ x < 123) from fun z => h4 z.2), if_neg h5, if_neg (by omega)]
      · by_cases h5 : 47 < x ∧ x < 58
        · simp [h3, h5]
        · rw [if_pos h3, if_neg (show ¬ (96 < x ∧ x < 123) from fun z => h3 z.1), if_neg h5, if_neg (by omega)]
theorem c_dig (x : Int32) (s : CS) : c_1011 x s = some (if csO x = 2 then 1 else 0) := by
  unfold c_1011 csO
  simp only [lt_n48, lt_n57]
  by_cases h1 : x = 32
  · subst h1; decide
  · by_cases h2 : x = 10
    · subst h2; decide
    · rw [if_neg h1, if_neg h2]
      by_cases h3 : 96 < x ∧ x < 123
      · have h6 : ¬ x < 58 := fun z => by
          have a := Int32.lt_iff_toInt_lt.mp z
          have b := Int32.lt_iff_toInt_lt.mp h3.1
          have a' : x.toInt < 58 := a
          have b' : 96 < x.toInt := b
          omega
        have h7 : 47 < x := by
          rw [Int32.lt_iff_toInt_lt]
          have b' : 96 < x.toInt := Int32.lt_iff_toInt_lt.mp h3.1
          show 47 < x.toInt
          omega
        rw [if_pos h3, if_neg (fun z => z h7), if_pos h6, if_neg (by omega)]
      · rw [if_neg h3]
        by_cases h4 : 47 < x
        · by_cases h5 : x < 58
          · simp [h4, h5]
          · simp [h4, h5]
        · simp [h4]
def rC (a b n : Int32) : lCell := (true, false, 87, [.ref 153, .int a, .int b, .int n])
theorem c_fol {s : CS} {r sz i q : Nat} {f : Nat → Int32} {b n : Int32} (h1 : s.1 r = some (rC (Int32.ofNat i) b n)) (h2 : s.1 153 = some (true, false, 1035, rowC (fun i => .int (f i)) sz)) (hz : sz ≤ 2000) (hi : i ≤ sz) (hq : q = 1 ∨ q = 2) : c_1012 r (if q = 1 then 1 else 0) s = some (if i < sz ∧ csO (f i) = q then 1 else 0) := by
  unfold c_1012
  rw [xI_o (x := Int32.ofNat i) h1 rfl rfl, Option.bind_some, xN_o (b := 153) h1 rfl rfl, Option.bind_some, if_pos (isK_t h2 rfl), sbLen_r h2, Option.bind_some]
  by_cases y : i < sz
  · rw [if_pos ((i_lt (by omega) (by omega)).mpr y)]
    rcases hq with rfl | rfl
    · rw [if_pos rfl, if_neg (by decide), Option.bind_some, Option.bind_some, if_pos (isK_t h2 rfl), sbAt_r h2 y (by omega), Option.bind_some, c_let, Option.bind_some]
      by_cases z : csO (f i) = 1
      · simp [y, z]
      · simp [y, z]
    · rw [if_neg (show ¬ (2 : Nat) = 1 by omega), if_pos rfl, Option.bind_some, Option.bind_some, if_pos (isK_t h2 rfl), sbAt_r h2 y (by omega), Option.bind_some, c_dig, Option.bind_some]
      by_cases z : csO (f i) = 2
      · simp [y, z]
      · simp [y, z]
  · rw [if_neg (fun z => y ((i_lt (by omega) (by omega)).mp z)), if_neg (fun z => y z.1)]
/-- the next word -/
theorem c_nxt {s : CS} {r sz p b e : Nat} {f : Nat → Int32} {fr x : Int32} (hr : s.1 r = some (rC (Int32.ofNat p) fr x)) (h2 : s.1 153 = some (true, false, 1035, rowC (fun i => .int (f i)) sz)) (hz : sz ≤ 2000) (hp : p ≤ b) (hb : b ≤ sz) (g1 : ∀ i, p ≤ i → i < b → csO (f i) = 0) (g2 : b = sz → e = sz) (g3 : b < sz → 0 < csO (f b) ∧ b < e ∧ e ≤ sz ∧ (csO (f b) = 3 → e = b + 1) ∧ (∀ i, b ≤ i → i < e → csO (f i) = csO (f b)) ∧ (csO (f b) = 3 ∨ e = sz ∨ csO (f e) ≠ csO (f b))) : c_1009 r s = some (cup s r (rC (Int32.ofNat e) (Int32.ofNat b) (x + 1))) := by
  have nr : (153 : Nat) ≠ r := fun z => by rw [← z, h2] at hr; cases hr
  have c153 : ∀ c, (cup s r c).1 153 = some (true, false, 1035, rowC (fun i => .int (f i)) sz) := fun c => (cup_ne nr).trans h2
  have cr : ∀ c, (cup s r c).1 r = some c := fun c => cup_eq ..
  suffices g : Tr (c_1009 r s) (fun S => S = cup s r (rC (Int32.ofNat e) (Int32.ofNat b) (x + 1))) by
    obtain ⟨S, z1, z2⟩ := g
    rw [z1, z2]
  unfold c_1009
  rw [xI_o (x := x) hr rfl rfl, Option.bind_some, xP_c (fs' := [.ref 153, .int (Int32.ofNat p), .int fr, .int (x + 1)]) hr rfl (by simp) rfl, Option.bind_some]
  refine Tr.bd (P := fun S => S = cup s r (rC (Int32.ofNat b) fr (x + 1))) (wh_cnt (b - p) (fun k a => a = cup s r (rC (Int32.ofNat (p + k)) fr (x + 1))) ?_ ?_ rfl) ?_
  · rintro k _ hk rfl
    have a1 := cr (rC (Int32.ofNat (p + k)) fr (x + 1))
    have a2 := c153 (rC (Int32.ofNat (p + k)) fr (x + 1))
    refine Or.inr ⟨_, ?_, rfl⟩
    rw [xI_o (x := Int32.ofNat (p + k)) a1 rfl rfl, Option.bind_some, xN_o (b := 153) a1 rfl rfl, Option.bind_some, if_pos (isK_t a2 rfl), sbLen_r a2, Option.bind_some, if_pos ((i_lt (by omega) (by omega)).mpr (by omega)), Option.bind_some, Option.bind_some, if_pos (isK_t a2 rfl), sbAt_r a2 (by omega) (by omega), Option.bind_some]
    have e26 : (if f (p + k) = 32 then some (Sum.inl (β := Sum CS CS) ()) else Option.bind (some 153) (fun a9 => Option.bind (some (Int32.ofNat (p + k))) (fun x10 => (if isK (cup s r (rC (Int32.ofNat (p + k)) fr (x + 1))) [35] a9 = true then Option.bind (sbAt (cup s r (rC (Int32.ofNat (p + k)) fr (x + 1))) a9 x10) (fun x11 => (if x11 = 10 then some (.inl ()) else some (.inr (.inr (cup s r (rC (Int32.ofNat (p + k)) fr (x + 1))))))) else none)))) = some (.inl ()) := by
      rcases (csO_0 _).mp (g1 (p + k) (by omega) (by omega)) with z | z
      · rw [if_pos z]
      · rw [if_neg (by rw [z]; decide), Option.bind_some, Option.bind_some, if_pos (isK_t a2 rfl), sbAt_r a2 (by omega) (by omega), Option.bind_some, if_pos z]
    rw [e26, Option.bind_some, Sum.elim_inl, Option.bind_some, i_suc, xP_c (fs' := [.ref 153, .int (Int32.ofNat (p + k + 1)), .int fr, .int (x + 1)]) a1 rfl (by simp) rfl, Option.bind_some, cupU]; rfl
  · rintro _ rfl
    have a1 := cr (rC (Int32.ofNat (p + (b - p))) fr (x + 1))
    have a2 := c153 (rC (Int32.ofNat (p + (b - p))) fr (x + 1))
    rw [show p + (b - p) = b by omega] at a1 a2 ⊢
    refine ⟨_, ?_, rfl⟩
    rw [xI_o (x := Int32.ofNat b) a1 rfl rfl, Option.bind_some, xN_o (b := 153) a1 rfl rfl, Option.bind_some, if_pos (isK_t a2 rfl), sbLen_r a2, Option.bind_some]
    by_cases y : b < sz
    · have hc : ¬ (f b = 32 ∨ f b = 10) := fun z => by have := (csO_0 (f b)).mpr z; have := (g3 y).1; omega
      rw [if_pos ((i_lt (by omega) (by omega)).mpr y), Option.bind_some, Option.bind_some, if_pos (isK_t a2 rfl), sbAt_r a2 y (by omega), Option.bind_some, if_neg (fun z => hc (Or.inl z)), Option.bind_some, Option.bind_some, if_pos (isK_t a2 rfl), sbAt_r a2 y (by omega), Option.bind_some, if_neg (fun z => hc (Or.inr z)), Option.bind_some]; rfl
    · rw [if_neg (fun z => y ((i_lt (by omega) (by omega)).mp z))]
  · rintro _ rfl
    have a1 := cr (rC (Int32.ofNat b) fr (x + 1))
    rw [xI_o (x := Int32.ofNat b) a1 rfl rfl, Option.bind_some, xP_c (fs' := [.ref 153, .int (Int32.ofNat b), .int (Int32.ofNat b), .int (x + 1)]) a1 rfl (by simp) rfl, Option.bind_some, cupU]
    have b1 := cr (rC (Int32.ofNat b) (Int32.ofNat b) (x + 1))
    have b2 := c153 (rC (Int32.ofNat b) (Int32.ofNat b) (x + 1))
    unfold rC at b1 b2
    rw [xI_o (x := Int32.ofNat b) b1 rfl rfl, Option.bind_some, xN_o (b := 153) b1 rfl rfl, Option.bind_some, if_pos (isK_t b2 rfl), sbLen_r b2, Option.bind_some]
    by_cases y : b = sz
    · rw [if_pos (by rw [y]), g2 y, ← y]; exact ⟨_, rfl, rfl⟩
    · obtain ⟨d1, d2, d3, d4, d5, d6⟩ := g3 (by omega)
      rw [if_neg (fun z => y ((i_inj (by omega) (by omega)).mp z)), Option.bind_some, Option.bind_some, if_pos (isK_t b2 rfl), sbAt_r b2 (by omega) (by omega), Option.bind_some, c_let, Option.bind_some]
      have e63 : (if (if csO (f b) = 1 then (1 : Int32) else 0) = 0 then Option.bind (some 153) (fun a23 => Option.bind (some (Int32.ofNat b)) (fun x24 => (if isK (cup s r (true, false, 87, [.ref 153, .int (Int32.ofNat b), .int (Int32.ofNat b), .int (x + 1)])) [35] a23 = true then Option.bind (sbAt (cup s r (true, false, 87, [.ref 153, .int (Int32.ofNat b), .int (Int32.ofNat b), .int (x + 1)])) a23 x24) (fun x25 => Option.bind (c_1011 x25 (cup s r (true, false, 87, [.ref 153, .int (Int32.ofNat b), .int (Int32.ofNat b), .int (x + 1)]))) (fun x26 => (if x26 = 0 then some (1 : Int32) else some 0))) else none))) else some 0) = some (if csO (f b) = 3 then 1 else 0) := by
        rw [Option.bind_some, Option.bind_some, if_pos (isK_t b2 rfl), sbAt_r b2 (by omega) (by omega), Option.bind_some, c_dig, Option.bind_some]
        have := csO_le (f b)
        rcases (show csO (f b) = 1 ∨ csO (f b) = 2 ∨ csO (f b) = 3 by omega) with z | z | z <;> simp [z]
      rw [e63, Option.bind_some, Option.bind_some, i_suc, xP_c (fs' := [.ref 153, .int (Int32.ofNat (b + 1)), .int (Int32.ofNat b), .int (x + 1)]) b1 rfl (by simp) rfl, Option.bind_some, cupU]
      refine Tr.bd (P := fun S => S = cup s r (rC (Int32.ofNat e) (Int32.ofNat b) (x + 1))) (wh_cnt (e - (b + 1)) (fun k a => a = cup s r (rC (Int32.ofNat (b + 1 + k)) (Int32.ofNat b) (x + 1))) ?_ ?_ rfl) (fun S hS => ⟨S, rfl, hS⟩)
      · rintro k _ hk rfl
        have n3 : csO (f b) ≠ 3 := fun z => by have := d4 z; omega
        have hq : csO (f b) = 1 ∨ csO (f b) = 2 := by have := csO_le (f b); omega
        have a1 := cr (rC (Int32.ofNat (b + 1 + k)) (Int32.ofNat b) (x + 1))
        have a2 := c153 (rC (Int32.ofNat (b + 1 + k)) (Int32.ofNat b) (x + 1))
        refine Or.inr ⟨_, ?_, rfl⟩
        rw [if_neg n3, if_pos rfl, if_pos (isK_t a1 rfl), c_fol a1 a2 hz (by omega) hq, Option.bind_some, if_pos (show b + 1 + k < sz ∧ csO (f (b + 1 + k)) = csO (f b) from ⟨by omega, d5 _ (by omega) (by omega)⟩), if_neg (show ¬ (1 : Int32) = 0 by decide), xI_o (x := Int32.ofNat (b + 1 + k)) a1 rfl rfl, Option.bind_some, i_suc, xP_c (fs' := [.ref 153, .int (Int32.ofNat (b + 1 + k + 1)), .int (Int32.ofNat b), .int (x + 1)]) a1 rfl (by simp) rfl, Option.bind_some, cupU]; rfl
      · rintro _ rfl
        have a1 := cr (rC (Int32.ofNat (b + 1 + (e - (b + 1)))) (Int32.ofNat b) (x + 1))
        have a2 := c153 (rC (Int32.ofNat (b + 1 + (e - (b + 1)))) (Int32.ofNat b) (x + 1))
        rw [show b + 1 + (e - (b + 1)) = e by omega] at a1 a2 ⊢
        refine ⟨_, ?_, rfl⟩
        by_cases n3 : csO (f b) = 3
        · rw [if_pos n3, if_neg (by decide)]
        · have hq : csO (f b) = 1 ∨ csO (f b) = 2 := by have := csO_le (f b); omega
          rw [if_neg n3, if_pos rfl, if_pos (isK_t a1 rfl), c_fol a1 a2 hz d3 hq, Option.bind_some, if_neg (show ¬ (e < sz ∧ csO (f e) = csO (f b)) from fun z => by rcases d6 with w | w | w; exact n3 w; omega; exact w z.2), if_pos rfl]
