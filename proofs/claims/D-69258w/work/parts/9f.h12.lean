/-! the gate: who may go where -/
def soB (t : TS) (k w e m : Nat) : Bool := decide (¬ ltd t k w e = -1) && decide (¬ Int32.ofNat m < ltd t k w e)
theorem ltd_r {t : TS} {nT k w : Nat} (h : ∀ j, j < nT → bel (t.2.2.1 39 j) 1000001) : ∀ n, n ≤ nT → (ltd t k w n = -1 ∨ bel (ltd t k w n) 1000001) := by
  intro n
  induction n with
  | zero => intro _; exact Or.inl rfl
  | succ n ih =>
    intro hn
    unfold ltd
    split
    · exact Or.inr (h n (by omega))
    · exact ih (by omega)
theorem ltd_neg {t : TS} {nT k w n : Nat} (h : ∀ j, j < nT → bel (t.2.2.1 39 j) 1000001) (hn : n ≤ nT) : ltd t k w n < 0 ↔ ltd t k w n = -1 := by
  rcases ltd_r (k := k) (w := w) h n hn with z | ⟨v, z1, z2⟩
  · rw [z]; decide
  · rw [z2]; exact ⟨fun q => absurd q (i_nlt0 (by omega)), fun q => absurd q (i_ne1 (by omega))⟩
theorem c_isSo {s : CS} {t : TS} {nT k w a b : Nat} (hn : nT ≤ 4100) (h : Snc s.1 t nT k w a b) {mi bc : Nat} (hb : bc < 2147483648) : c_1002 a (Int32.ofNat bc) (Int32.ofNat mi) s = some (if soB t k w (min bc nT) mi = true then 1 else 0, chg s 1 1) := by
  unfold c_1002
  rw [if_pos (isK_t h.1 rfl), sin_at hn h hb]; repeat (first | rw [Option.bind_some] | rw [Sum.elim_inl] | rw [Sum.elim_inr])
  dsimp only
  unfold soB
  by_cases y1 : ltd t k w (min bc nT) = -1
  · rw [if_pos y1]; simp [y1]
  · rw [if_neg y1]
    by_cases y2 : Int32.ofNat mi < ltd t k w (min bc nT)
    · rw [if_pos y2]; simp [y2]
    · rw [if_neg y2]; simp [y1, y2]
/-- why a card is barred -/
def barV (t : TS) (CT : Nat → Nat) (c m e : Nat) : Int32 := if ¬ CT c < e then 1 else if t.2.2.1 31 c < Int32.ofNat m then 2 else if soB t 3 c e m = true then 3 else 0
section
variable {s : CS} {t : TS} {K zn nr nS nT nC nR nP nL a : Nat} {rel : Int32} {S C CS' CM CT E RS RM' RT P G D L F : Nat → Nat} {RW : Nat → Nat → Nat}
theorem c_bar (hK : K < 1000) (r : R4x s.1 t K zn nr nS nT nC nR nP nL a rel S C CS' CM CT E RS RM' RT P G D L F RW) {c m bc : Nat} (hc : c < nC) (hb : bc < 2147483648) (hm : m < 2147483648) : ∃ n, n ≤ 1 ∧ c_1040 108 (C c) (Int32.ofNat m) (Int32.ofNat bc) s = some (barV t CT c m (min bc nT), chg s n n) := by
  have hnT : nT ≤ K := r.2.2.2.2.2.2.2.2.1.1
  obtain ⟨d1, d2, d3, d4, d5, d6, d7, d8, d9⟩ := r.2.2.2.1.2.2.2.1 c hc
  unfold c_1040 barV
  rw [xI_o (x := Int32.ofNat (CT c)) d1 rfl rfl]; repeat (first | rw [Option.bind_some] | rw [Sum.elim_inl] | rw [Sum.elim_inr])
  by_cases y1 : CT c < bc
  · rw [if_pos ((i_lt (by omega) hb).mpr y1), xI_o (x := t.2.2.1 31 c) d1 rfl rfl, if_neg (by omega)]; repeat (first | rw [Option.bind_some] | rw [Sum.elim_inl] | rw [Sum.elim_inr])
    by_cases y2 : t.2.2.1 31 c < Int32.ofNat m
    · rw [if_pos y2, if_pos y2]; exact ⟨0, by omega, rfl⟩
    · rw [if_neg y2, if_neg y2, xN_o (b := CS' c) d1 rfl rfl]; repeat (first | rw [Option.bind_some] | rw [Sum.elim_inl] | rw [Sum.elim_inr])
      rw [if_pos (isK_t d6.1 rfl), c_isSo (by omega) d6 hb]; repeat (first | rw [Option.bind_some] | rw [Sum.elim_inl] | rw [Sum.elim_inr])
      refine ⟨1, by omega, ?_⟩
      cases soB t 3 c (min bc nT) m <;> rfl
  · rw [if_neg (fun z => y1 ((i_lt (by omega) hb).mp z)), if_pos (by omega)]; exact ⟨0, by omega, rfl⟩
theorem t_tel0 (r : R4x s.1 t K zn nr nS nT nC nR nP nL a rel S C CS' CM CT E RS RM' RT P G D L F RW) {c e : Nat} (hc : c < nC) (he : e ≤ nT) : ltd t 0 c e < 0 ↔ ¬ CT c < e := by
  obtain ⟨d1, d2, d3, d4, d5, d6, d7, d8, d9⟩ := r.2.2.2.1.2.2.2.1 c hc
  by_cases y : CT c < e
  · rw [ltd_some y d8 (fun j h1 h2 h3 => by have := d9 j (by omega) h3; omega)]
    obtain ⟨v, z1, z2⟩ := r.2.2.1.2 (CT c) d7
    rw [z2]
    exact ⟨fun z => absurd z (i_nlt0 (by omega)), fun z => absurd y z⟩
  · rw [ltd_none (fun j h1 h3 => by have := d9 j (by omega) h3; omega)]
    exact ⟨fun _ => y, fun _ => by decide⟩
theorem t_tel1 (r : R4x s.1 t K zn nr nS nT nC nR nP nL a rel S C CS' CM CT E RS RM' RT P G D L F RW) {c e : Nat} (hc : c < nR) (he : e ≤ nT) : ltd t 1 c e < 0 ↔ ¬ RT c < e := by
  obtain ⟨d1, d2, d3, d4, d5, d6, d7, d8, d9⟩ := r.2.2.2.2.1.2.2.2.1 c hc
  by_cases y : RT c < e
  · rw [ltd_some y d8 (fun j h1 h2 h3 => by have := d9 j (by omega) h3; omega)]
    obtain ⟨v, z1, z2⟩ := r.2.2.1.2 (RT c) d7
    rw [z2]
    exact ⟨fun z => absurd z (i_nlt0 (by omega)), fun z => absurd y z⟩
  · rw [ltd_none (fun j h1 h3 => by have := d9 j (by omega) h3; omega)]
    exact ⟨fun _ => y, fun _ => by decide⟩
/-- a right's span -/
def covB (t : TS) (k : Nat) (g z d : Int32) : Bool := (if t.2.2.1 34 k < t.2.2.1 35 k then decide (¬ d < t.2.2.1 34 k) && decide (d < t.2.2.1 35 k) else decide (t.2.2.1 35 k < t.2.2.1 34 k) && (decide (¬ d < t.2.2.1 34 k) || decide (d < t.2.2.1 35 k))) && decide (t.2.2.1 32 k = g) && decide (t.2.2.1 33 k = z)
theorem c_cov {k : Nat} (h : s.1 (E k) = some (rigC t RS RT k)) (g z d : Int32) : c_1005 (E k) g z d s = some (if covB t k g z d = true then 1 else 0) := by
  unfold c_1005 covB
  rw [xI_o (x := t.2.2.1 34 k) h rfl rfl, xI_o (x := t.2.2.1 35 k) h rfl rfl, xI_o (x := t.2.2.1 32 k) h rfl rfl, xI_o (x := t.2.2.1 33 k) h rfl rfl]
  simp only [Option.bind_some]
  by_cases x1 : t.2.2.1 34 k < t.2.2.1 35 k <;> by_cases x2 : d < t.2.2.1 34 k <;> by_cases x3 : d < t.2.2.1 35 k <;> by_cases x4 : t.2.2.1 35 k < t.2.2.1 34 k <;> by_cases x5 : t.2.2.1 32 k = g <;> by_cases x6 : t.2.2.1 33 k = z <;> simp [x1, x2, x3, x4, x5, x6]
theorem t_cov {k : Nat} (hk : k < 16) (g z d : Int32) : t_611 (Int32.ofNat k) g z d t = some (if covB t k g z d = true then 1 else 0) := by
  unfold t_611 covB
  simp only [rdI_n hk (show 16 < 2147483648 by omega), Option.bind_some]
  by_cases x1 : t.2.2.1 34 k < t.2.2.1 35 k <;> by_cases x2 : d < t.2.2.1 34 k <;> by_cases x3 : d < t.2.2.1 35 k <;> by_cases x4 : t.2.2.1 35 k < t.2.2.1 34 k <;> by_cases x5 : t.2.2.1 32 k = g <;> by_cases x6 : t.2.2.1 33 k = z <;> simp [x1, x2, x3, x4, x5, x6]
def holB (t : TS) (RT : Nat → Nat) (e : Nat) (g z : Int32) (m k : Nat) : Bool := decide (RT k < e) && decide (¬ Int32.ofNat m < t.2.2.1 36 k) && !(soB t 2 k e m) && covB t k g z (Int32.ofNat (m % 1440))
theorem c_hol (hK : K < 1000) (r : R4x s.1 t K zn nr nS nT nC nR nP nL a rel S C CS' CM CT E RS RM' RT P G D L F RW) {k m bc : Nat} (hk : k < nR) (hb : bc < 2147483648) (hm : m < 2147483648) (g z : Int32) : ∃ n, n ≤ 1 ∧ c_1004 (E k) g z (Int32.ofNat m) (Int32.ofNat bc) s = some (if holB t RT (min bc nT) g z m k = true then 1 else 0, chg s n n) := by
  have hnT : nT ≤ K := r.2.2.2.2.2.2.2.2.1.1
  obtain ⟨d1, d2, d3, d4, d5, d6, d7, d8, d9⟩ := r.2.2.2.2.1.2.2.2.1 k hk
  unfold c_1004 holB
  rw [xI_o (x := Int32.ofNat (RT k)) d1 rfl rfl]; repeat (first | rw [Option.bind_some] | rw [Sum.elim_inl] | rw [Sum.elim_inr])
  by_cases y1 : RT k < bc
  · have y1' : RT k < min bc nT := by omega
    rw [if_pos ((i_lt (by omega) hb).mpr y1), xI_o (x := t.2.2.1 36 k) d1 rfl rfl]; repeat (first | rw [Option.bind_some] | rw [Sum.elim_inl] | rw [Sum.elim_inr])
    by_cases y2 : Int32.ofNat m < t.2.2.1 36 k
    · rw [if_pos y2]; exact ⟨0, by omega, by simp [y2]; rfl⟩
    · rw [if_neg y2, xN_o (b := RS k) d1 rfl rfl]; repeat (first | rw [Option.bind_some] | rw [Sum.elim_inl] | rw [Sum.elim_inr])
      rw [if_pos (isK_t d6.1 rfl), c_isSo (by omega) d6 hb]; repeat (first | rw [Option.bind_some] | rw [Sum.elim_inl] | rw [Sum.elim_inr])
      refine ⟨1, by omega, ?_⟩
      have hd1 : (chg s 1 1).1 (E k) = some (rigC t RS RT k) := d1
      cases hs : soB t 2 k (min bc nT) m with
      | true => simp [y1', y2]
      | false =>
        rw [if_neg (show ¬ false = true by decide)]
        dsimp only
        rw [if_pos rfl, if_pos (isK_t hd1 rfl), i_modL hm (by omega), c_cov hd1]; repeat (first | rw [Option.bind_some] | rw [Sum.elim_inl] | rw [Sum.elim_inr])
        simp only [y1', y2]
        cases hcv : covB t k g z (Int32.ofNat (m % 1440)) <;> simp
  · have y1' : ¬ RT k < min bc nT := by omega
    rw [if_neg (fun z => y1 ((i_lt (by omega) hb).mp z))]; exact ⟨0, by omega, by simp [y1']; rfl⟩
/-- whether there is a right for a room -/
def hasB4 (t : TS) (RT : Nat → Nat) (e : Nat) (g z : Int32) (m nR : Nat) : Bool := (List.range nR).any (holB t RT e g z m)
theorem hasB4_s (t : TS) (RT : Nat → Nat) (e : Nat) (g z : Int32) (m n : Nat) : hasB4 t RT e g z m (n + 1) = (hasB4 t RT e g z m n || holB t RT e g z m n) := by
  unfold hasB4
  rw [List.range_succ, List.any_append]; simp
theorem any_t {p : Nat → Bool} {n k : Nat} (hk : k < n) (h : p k = true) : (List.range n).any p = true := List.any_eq_true.mpr ⟨k, List.mem_range.mpr hk, h⟩
/-- the right to a room (the outside is open) -/
def rgtB (t : TS) (RT : Nat → Nat) (nR nr e p q m : Nat) : Bool := decide (q = nr) || hasB4 t RT e (t.2.2.1 22 p) (Int32.ofNat (bN (t.2.2.1 64 q) % 10)) m nR
theorem c_rgt (hK : K < 1000) (r : R4x s.1 t K zn nr nS nT nC nR nP nL a rel S C CS' CM CT E RS RM' RT P G D L F RW) (hbu : ¬ t.1 1 = 0) {p q m bc : Nat} (hp : p < nS) (hq : q ≤ nr) (hb : bc < 2147483648) (hm : m < 2147483648) : ∃ n, n ≤ 16 ∧ c_1041 108 (S p) (Int32.ofNat q) (Int32.ofNat m) (Int32.ofNat bc) s = some (if rgtB t RT nR nr (min bc nT) p q m = true then 1 else 0, chg s n n) := by
  have r' := r
  obtain ⟨⟨g, g2, g3, g4, g5, g6⟩, v1, _, _, ⟨⟨mc, r1⟩, r2, r3, r4, _⟩, _⟩ := r'
  have hS := (v1.2.2.2.1 p hp).1
  unfold c_1041 rgtB
  rw [xI_o (x := if t.1 1 = 0 then -1 else t.1 9) g rfl rfl, if_neg hbu, g4]; repeat (first | rw [Option.bind_some] | rw [Sum.elim_inl] | rw [Sum.elim_inr])
  by_cases y : q = nr
  · rw [if_pos (by rw [y])]; exact ⟨0, by omega, by simp [y]; rfl⟩
  · rw [if_neg (fun z => y ((i_inj (by omega) (by omega)).mp z))]
    have hz : ∀ n, xN (chg s n n) [(89, 2)] 108 = some zn ∧ aI (chg s n n) [0, 12] zn (Int32.ofNat q) = some (Int32.ofNat (bN (t.2.2.1 64 q) % 10)) := fun n => by
      obtain ⟨z1, z2, _⟩ := c_zonR r hbu (q := q) (by omega)
      exact ⟨z1, z2⟩
    refine Exists.elim (wh_cnt (f := fun p8 : CS × Int32 => Option.bind (xN p8.1 [(89, 6)] 108) (fun a2 => (if isK p8.1 [13] a2 = true then Option.bind (alSize p8.1 a2) (fun x3 => (if p8.2 < x3 then Option.bind (xN p8.1 [(89, 6)] 108) (fun a4 => (if isK p8.1 [13] a4 = true then Option.bind (alGet p8.1 a4 p8.2) (fun e5 => Option.bind (toN p8.1 [84] e5) (fun a6 => Option.bind (xI p8.1 [(81, 1)] (S p)) (fun x7 => Option.bind (xN p8.1 [(89, 2)] 108) (fun a8 => Option.bind (aI p8.1 [0, 12] a8 (Int32.ofNat q)) (fun x9 => (if isK p8.1 [84] a6 = true then Option.bind (c_1004 a6 x7 x9 (Int32.ofNat m) (Int32.ofNat bc) p8.1) (fun x10 => (if x10.1 = 0 then some (.inl (x10.2, p8.2 + 1)) else some (.inr (.inl x10.2)))) else none)))))) else none)) else some (.inr (.inr (.inl p8.1))))) else none))) (a := (s, 0)) (Q := fun (x : Sum CS (Sum CS (Int32 × CS))) => ∃ n, n ≤ 16 ∧ ((hasB4 t RT (min bc nT) (t.2.2.1 22 p) (Int32.ofNat (bN (t.2.2.1 64 q) % 10)) m nR = true ∧ x = .inl (chg s n n)) ∨ (hasB4 t RT (min bc nT) (t.2.2.1 22 p) (Int32.ofNat (bN (t.2.2.1 64 q) % 10)) m nR = false ∧ x = .inr (.inl (chg s n n)))))
      nR (fun k a => a.2 = Int32.ofNat k ∧ ∃ n, n ≤ k ∧ a.1 = chg s n n ∧ hasB4 t RT (min bc nT) (t.2.2.1 22 p) (Int32.ofNat (bN (t.2.2.1 64 q) % 10)) m k = false) ?_ ?_ ⟨rfl, 0, Nat.le_refl _, rfl, rfl⟩) ?_
    · rintro k ⟨S1, k2⟩ hk ⟨rfl, n, hn, rfl, hf⟩
      have h1 : (chg s n n).1 108 = _ := g
      have h2 : (chg s n n).1 113 = _ := r1
      have h3 : (chg s n n).1 (S p) = _ := hS
      have h4 : (chg s n n).1 (E k) = _ := (r4 k hk).1
      obtain ⟨n', hn', e⟩ := c_hol (s := chg s n n) hK r hk hb hm (t.2.2.1 22 p) (Int32.ofNat (bN (t.2.2.1 64 q) % 10))
      have ec : chg (chg s n n) n' n' = chg s (n + n') (n + n') := by
        unfold chg
        exact Prod.ext rfl (Prod.ext rfl (Prod.ext (Nat.add_assoc ..) (Nat.add_assoc ..)))
      dsimp only
      rw [xN_o (b := 113) h1 rfl rfl, Option.bind_some, if_pos (isK_t h2 rfl), alSize_r h2, Option.bind_some, if_pos ((i_lt (by omega) (by omega)).mpr hk), Option.bind_some, if_pos (isK_t h2 rfl), alGet_r h2 hk (by omega), Option.bind_some, toN_o h4 rfl, Option.bind_some, xI_o (x := t.2.2.1 22 p) h3 rfl rfl, Option.bind_some, (hz n).1, Option.bind_some, (hz n).2, Option.bind_some, if_pos (isK_t h4 rfl), e, Option.bind_some, ec]
      cases hh : holB t RT (min bc nT) (t.2.2.1 22 p) (Int32.ofNat (bN (t.2.2.1 64 q) % 10)) m k with
      | true => exact Or.inl ⟨_, by rw [if_pos rfl, if_neg (show ¬ (1 : Int32) = 0 by decide)], n + n', by omega, Or.inl ⟨any_t hk hh, rfl⟩⟩
      | false => exact Or.inr ⟨(chg s (n + n') (n + n'), Int32.ofNat (k + 1)), by rw [if_neg (show ¬ false = true by decide), if_pos rfl, i_suc], rfl, n + n', by omega, rfl, by rw [hasB4_s, hf, hh]; rfl⟩
    · rintro ⟨S1, k2⟩ ⟨rfl, n, hn, rfl, hf⟩
      have h1 : (chg s n n).1 108 = _ := g
      have h2 : (chg s n n).1 113 = _ := r1
      refine ⟨_, ?_, n, by omega, Or.inr ⟨hf, rfl⟩⟩
      dsimp only
      rw [xN_o (b := 113) h1 rfl rfl, Option.bind_some, if_pos (isK_t h2 rfl), alSize_r h2, Option.bind_some, if_neg (by rw [i_lt (by omega) (by omega)]; omega)]
    · rintro x ⟨h1, n, hn, h2⟩
      rw [h1]
      refine ⟨n, hn, ?_⟩
      rcases h2 with ⟨h2, rfl⟩ | ⟨h2, rfl⟩
      · rw [h2]; simp
      · rw [h2]; simp [y]
end
