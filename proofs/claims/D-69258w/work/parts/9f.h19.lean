/-! the gate: a portal joins -/
/-- the rows of a portal after k of n -/
def vir (p k n : Nat) (t : TS) : TS := (t.1, t.2.1, fun c j => if c = 16 ∧ j = p then Int32.ofNat (n - k) else if 17 ≤ c ∧ c ≤ 19 ∧ 20 * p ≤ j ∧ j < 20 * p + (n - k) then t.2.2.1 c (j + k) else t.2.2.1 c j, t.2.2.2)
theorem vir_o {p k n : Nat} {t : TS} {c : Nat} (h : ¬ (16 ≤ c ∧ c ≤ 19)) : (vir p k n t).2.2.1 c = t.2.2.1 c := funext (fun j => by
  show (if c = 16 ∧ j = p then Int32.ofNat (n - k) else if 17 ≤ c ∧ c ≤ 19 ∧ 20 * p ≤ j ∧ j < 20 * p + (n - k) then t.2.2.1 c (j + k) else t.2.2.1 c j) = _
  rw [if_neg (by omega), if_neg (by omega)])
theorem R4_vir {h h' : lHeap} {t : TS} {K zn nr nS nT nC nR nP nL a p n k : Nat} {rel : Int32} {S C CS' CM CT E RS RM' RT P G D L F : Nat → Nat} {RW : Nat → Nat → Nat} (r : R4x h t K zn nr nS nT nC nR nP nL a rel S C CS' CM CT E RS RM' RT P G D L F RW) (hp : p < nP) (h15 : ¬ t.2.2.1 15 p = 1000000) (h16 : t.2.2.1 16 p = Int32.ofNat n) (hk : k ≤ n) (hn : n ≤ 20) (hh : ∀ q c, q ≠ D p → h q = some c → h' q = some c) (hD : h' (D p) = some (true, false, 1004, rowC (fun j => .ref (RW p (j + k))) (n - k))) : R4x h' (vir p k n t) K zn nr nS nT nC nR nP nL a rel S C CS' CM CT E RS RM' RT P G D L F (fun p' i => if p' = p then RW p (i + k) else RW p' i) := by
  obtain ⟨v0, v1, v2t, v2c, v2r, v2d, v3, v4, v5, v6⟩ := r
  obtain ⟨⟨mc, x1⟩, x2, x3, x4, x5, x6, x7, x8, x9⟩ := v3
  have hp0 := (x4 p hp).2.2
  obtain ⟨_, _, ⟨_, dp, _⟩, _, _, _, _, _, ⟨n0, n1, n2, n3, n4⟩, _⟩ := hp0
  have en : n0 = n := by rw [h16] at n2; exact ((i_inj (by omega) (by omega)).mp n2).symm
  subst en
  have hH : ∀ X : Nat → lCell → Prop, (∀ c, X (D p) c → c.2.2.1 = 1004 → False) → hS h h' X := fun X hx => hS_mk n3 hh hx
  have T3 : ∀ d, ¬ (16 ≤ d ∧ d ≤ 19) → (vir p k n0 t).2.2.1 d = t.2.2.1 d := fun d hd => vir_o hd
  have eq : ∀ l : List Nat, (∀ c ∈ l, ¬ (16 ≤ c ∧ c ≤ 19)) → eqR t (vir p k n0 t) l := fun l hl c hc => T3 c (hl c hc)
  have e16 : ∀ p', p' ≠ p → (vir p k n0 t).2.2.1 16 p' = t.2.2.1 16 p' := fun p' hne => by
    show (if (16 : Nat) = 16 ∧ p' = p then Int32.ofNat (n0 - k) else if (17 : Nat) ≤ 16 ∧ (16 : Nat) ≤ 19 ∧ 20 * p ≤ p' ∧ p' < 20 * p + (n0 - k) then t.2.2.1 16 (p' + k) else t.2.2.1 16 p') = _
    rw [if_neg (by omega), if_neg (by omega)]
  refine ⟨V0_cg v0 (hH _ (fun c z1 z2 => by omega)) rfl rfl rfl rfl (T3 64 (by omega)), V1_cg v1 (hH _ (fun c z1 z2 => by omega)) rfl rfl (eq _ (by decide)), ⟨v2t.1, by rw [T3 39 (by omega)]; exact v2t.2⟩, V2c_cg v2c (hH _ (fun c z1 z2 => by omega)) rfl (eq _ (by decide)), V2r_cg v2r (hH _ (fun c z1 z2 => by omega)) rfl (eq _ (by decide)), v2d, ?_, V4_cg v4 (hH _ (fun c z1 z2 => by omega)) rfl (eq _ (by decide)), v5, v6⟩
  refine ⟨⟨mc, hh _ _ (by omega) x1⟩, x2, x3, fun p' hp' => ?_, x5, x6, x7, x8, by rw [T3 20 (by omega), T3 21 (by omega)]; exact x9⟩
  obtain ⟨y1, y2, y3⟩ := x4 p' hp'
  refine ⟨?_, y2, ?_⟩
  · have : porC (vir p k n0 t) G D L p' = porC t G D L p' := by
      unfold porC cxP cyP flB
      rw [T3 7 (by omega), T3 8 (by omega), T3 9 (by omega), T3 11 (by omega), T3 12 (by omega), T3 13 (by omega), T3 14 (by omega), T3 15 (by omega), T3 50 (by omega), T3 51 (by omega), T3 52 (by omega)]
    rw [this]
    exact hh _ _ (apart y1 n3 (by show (80 : Nat) ≠ 1004; decide)) y1
  · have hg : hS h h' (fun _ c => c.2.2.1 = 79 ∨ c.2.2.1 = 86 ∨ c.2.2.1 = 1003) := hH _ (fun c z1 z2 => by rcases z1 with z | z | z <;> omega)
    obtain ⟨a1, ⟨xx, yy, a2⟩, a3, a4, a5, a6, a7, a8, ⟨n', a9, a10, a11, a12⟩, xs, a13, a14⟩ := y3
    have q2 := hg _ _ (Or.inl rfl) a2
    unfold V3p okPor xIn yIn cxP cyP flB lok at *
    rw [T3 7 (by omega), T3 8 (by omega), T3 9 (by omega), T3 10 (by omega), T3 11 (by omega), T3 12 (by omega), T3 13 (by omega), T3 14 (by omega), T3 15 (by omega), T3 20 (by omega), T3 21 (by omega), T3 50 (by omega), T3 51 (by omega), T3 52 (by omega)]
    refine ⟨by rw [q2]; simp, ⟨xx, yy, q2⟩, a3, a4, a5, a6, a7, ?_, ?_, xs, hg _ _ (Or.inr (Or.inr rfl)) a13, a14⟩
    · rcases a8 with ⟨z1, z2⟩ | z
      · by_cases w : p' = p
        · rw [w] at z1; exact absurd z1 h15
        · exact Or.inl ⟨z1, by rw [e16 p' w]; exact z2⟩
      · exact Or.inr z
    · by_cases z : p' = p
      · subst z
        dsimp only
        refine ⟨n0 - k, by omega, if_pos ⟨rfl, rfl⟩, ?_, fun i hi => ?_⟩
        · rw [hD]
          refine congrArg (fun l => some (true, false, 1004, l)) (rowC_congr (fun j hj => by rw [if_pos rfl]))
        · rw [if_pos rfl]
          obtain ⟨b1, b2, b3, b4, b5⟩ := n4 (i + k) (by omega)
          have e : ∀ d, 17 ≤ d → d ≤ 19 → (vir p' k n0 t).2.2.1 d (20 * p' + i) = t.2.2.1 d (20 * p' + (i + k)) := fun d d1 d2 => by
            show (if d = 16 ∧ 20 * p' + i = p' then Int32.ofNat (n0 - k) else if 17 ≤ d ∧ d ≤ 19 ∧ 20 * p' ≤ 20 * p' + i ∧ 20 * p' + i < 20 * p' + (n0 - k) then t.2.2.1 d (20 * p' + i + k) else t.2.2.1 d (20 * p' + i)) = _
            rw [if_neg (by omega), if_pos (by omega), Nat.add_assoc]
          unfold rowG at *
          rw [e 17 (by omega) (by omega), e 18 (by omega) (by omega), e 19 (by omega) (by omega)]
          exact ⟨hg _ _ (Or.inr (Or.inl rfl)) b1, b2, b3, b4, b5⟩
      · dsimp only
        refine ⟨n', a9, ?_, ?_, fun i hi => ?_⟩
        · rw [e16 p' z]; exact a10
        · have : rowC (fun i => Value.ref (if p' = p then RW p (i + k) else RW p' i)) n' = rowC (fun i => .ref (RW p' i)) n' := rowC_congr (fun j hj => by rw [if_neg z])
          rw [this]
          exact hh _ _ (fun w => z (x6 p' p hp' hp w)) a11
        · rw [if_neg z]
          obtain ⟨b1, b2, b3, b4, b5⟩ := a12 i hi
          have e : ∀ d, 17 ≤ d → d ≤ 19 → (vir p k n0 t).2.2.1 d (20 * p' + i) = t.2.2.1 d (20 * p' + i) := fun d d1 d2 => by
            show (if d = 16 ∧ 20 * p' + i = p then Int32.ofNat (n0 - k) else if 17 ≤ d ∧ d ≤ 19 ∧ 20 * p ≤ 20 * p' + i ∧ 20 * p' + i < 20 * p + (n0 - k) then t.2.2.1 d (20 * p' + i + k) else t.2.2.1 d (20 * p' + i)) = _
            rw [if_neg (by omega), if_neg (by omega)]
          unfold rowG at *
          rw [e 17 (by omega) (by omega), e 18 (by omega) (by omega), e 19 (by omega) (by omega)]
          exact ⟨hg _ _ (Or.inr (Or.inl rfl)) b1, b2, b3, b4, b5⟩
/-- found against somebody -/
def agT (t : TS) (a p c m : Nat) (w : Int32) : TS := ptI (if a < 100 then wrI (wrI (wrI (wrI t 40 a (Int32.ofNat p)) 41 a (Int32.ofNat c)) 42 a (Int32.ofNat m)) 43 a w else t) 49 (Int32.ofNat (a + 1))
theorem agT_1 {t : TS} {a p c m : Nat} {w : Int32} {d : Nat} (h : d ≠ 49) : (agT t a p c m w).1 d = t.1 d := by
  unfold agT
  rw [pt_1, if_neg h]
  split <;> rfl
theorem agT_2 {t : TS} {a p c m : Nat} {w : Int32} : (agT t a p c m w).2.1 = t.2.1 ∧ (agT t a p c m w).2.2.2 = t.2.2.2 := by
  unfold agT
  split <;> exact ⟨rfl, rfl⟩
theorem agT_3 {t : TS} {a p c m : Nat} {w : Int32} {d j : Nat} : (agT t a p c m w).2.2.1 d j = if a < 100 ∧ j = a then (if d = 43 then w else if d = 42 then Int32.ofNat m else if d = 41 then Int32.ofNat c else if d = 40 then Int32.ofNat p else t.2.2.1 d j) else t.2.2.1 d j := by
  unfold agT
  rw [pt_2]
  by_cases h : a < 100
  · rw [if_pos h]
    show (if d = 43 ∧ j = a then w else if d = 42 ∧ j = a then Int32.ofNat m else if d = 41 ∧ j = a then Int32.ofNat c else if d = 40 ∧ j = a then Int32.ofNat p else t.2.2.1 d j) = _
    by_cases y : j = a
    · rw [if_pos (show a < 100 ∧ j = a from ⟨h, y⟩)]
      simp [y]
    · rw [if_neg (show ¬ (a < 100 ∧ j = a) from fun z => y z.2)]
      simp [y]
  · rw [if_neg h, if_neg (show ¬ (a < 100 ∧ j = a) from fun z => h z.1)]
theorem R4_ag {h h' : lHeap} {t : TS} {K zn nr nS nT nC nR nP nL a p c m x : Nat} {rel w : Int32} {S C CS' CM CT E RS RM' RT P G D L F : Nat → Nat} {RW : Nat → Nat → Nat} (r : R4x h t K zn nr nS nT nC nR nP nL a rel S C CS' CM CT E RS RM' RT P G D L F RW) (hbu : ¬ t.1 1 = 0) (ha : a + 1 ≤ 20 * K) (hh : ∀ q c, q ≠ 108 → q ≠ 114 → h q = some c → h' q = some c) (h108 : h' 108 = some (true, false, 89, [.ref 101, .int (if t.1 1 = 0 then -1 else t.1 9), .ref zn, .ref 110, .ref 111, .ref 112, .ref 113, .ref 114, .int (Int32.ofNat (a + 1)), .int (t.1 45), .int rel])) (h114 : ∃ mc : Int32, h' 114 = some (true, false, 1013, .int mc :: rowC (fun j => .ref (if j = a then x else F j)) (min (a + 1) 100))) (hx : a < 100 → 179 ≤ x ∧ h' x = some (true, false, 85, [.int (Int32.ofNat p), .int (Int32.ofNat c), .int (Int32.ofNat m), .int w])) : R4x h' (agT t a p c m w) K zn nr nS nT nC nR nP nL (a + 1) rel S C CS' CM CT E RS RM' RT P G D L (fun j => if j = a then x else F j) RW := by
  obtain ⟨v0, v1, v2t, v2c, v2r, v2d, v3, v4, v5, v6⟩ := r
  obtain ⟨⟨mc, w1⟩, w2, w3⟩ := v4
  have hH : ∀ X : Nat → lCell → Prop, (∀ c, X 108 c → c.2.2.1 = 89 → False) → (∀ c, X 114 c → c.2.2.1 = 1013 → False) → hS h h' X := fun X h1 h2 => hS_mk2 v0.1 w1 hh h1 h2
  have T1 : ∀ d, d ≠ 49 → (agT t a p c m w).1 d = t.1 d := fun d h => agT_1 h
  have T3 : ∀ d, ¬ (40 ≤ d ∧ d ≤ 43) → (agT t a p c m w).2.2.1 d = t.2.2.1 d := fun d hd => funext (fun j => by
    rw [agT_3]
    split
    · rw [if_neg (by omega), if_neg (by omega), if_neg (by omega), if_neg (by omega)]
    · rfl)
  have eq : ∀ l : List Nat, (∀ c ∈ l, ¬ (40 ≤ c ∧ c ≤ 43)) → eqR t (agT t a p c m w) l := fun l hl c hc => T3 c (hl c hc)
  refine ⟨?_, V1_cg v1 (hH _ (fun c z1 z2 => by omega) (fun c z1 z2 => by omega)) (T1 27 (by omega)) (T1 9 (by omega)) (eq _ (by decide)), ⟨by rw [T1 45 (by omega)]; exact v2t.1, by rw [T3 39 (by omega)]; exact v2t.2⟩, V2c_cg v2c (hH _ (fun c z1 z2 => by omega) (fun c z1 z2 => by omega)) (T1 36 (by omega)) (eq _ (by decide)), V2r_cg v2r (hH _ (fun c z1 z2 => by omega) (fun c z1 z2 => by omega)) (T1 39 (by omega)) (eq _ (by decide)), v2d, V3_cg v3 (hH _ (fun c z1 z2 => by omega) (fun c z1 z2 => by omega)) (T1 9 (by omega)) (T1 10 (by omega)) (T1 24 (by omega)) (eq _ (by decide)), ⟨h114, ?_, fun k h1 h2 => ?_⟩, ⟨v5.1, v5.2.1, ha⟩, fun z => absurd ((T1 1 (by omega)).symm.trans z) hbu⟩
  · obtain ⟨r1, r2, r3, r4, r5, r6⟩ := v0
    unfold V0
    rw [T1 1 (by omega), T1 9 (by omega), T1 45 (by omega), T3 64 (by omega), show (agT t a p c m w).1 49 = Int32.ofNat (a + 1) from by unfold agT; rw [pt_1, if_pos rfl]]
    refine ⟨h108, r2, r3, r4, r5, fun z => ⟨(r6 z).1, ?_⟩⟩
    obtain ⟨f, z1, z2⟩ := (r6 z).2
    exact ⟨f, hh _ _ (fun z => by rw [z, r1] at z1; cases z1) (fun z => by rw [z, w1] at z1; cases z1) z1, z2⟩
  · unfold agT; rw [pt_1, if_pos rfl]
  · by_cases y : k = a
    · subst y
      dsimp only
      rw [if_pos rfl]
      obtain ⟨u1, u2⟩ := hx h2
      refine ⟨u2.trans ?_, u1⟩
      unfold agaC
      simp [agT_3, h2]
    · dsimp only
      rw [if_neg y]
      obtain ⟨u1, u2⟩ := w3 k (by omega) h2
      have e : ∀ d, (agT t a p c m w).2.2.1 d k = t.2.2.1 d k := fun d => by rw [agT_3, if_neg (fun z => y z.2)]
      unfold agaC at *
      rw [e 40, e 41, e 42, e 43]
      exact ⟨hh _ _ (by omega) (by omega) u1, u2⟩
/-- the portal is as it was before it was off -/
theorem R4_end {h h' : lHeap} {t T : TS} {K zn nr nS nT nC nR nP nL a p : Nat} {rel : Int32} {S C CS' CM CT E RS RM' RT P G D L F : Nat → Nat} {RW : Nat → Nat → Nat} (r : R4x h t K zn nr nS nT nC nR nP nL a rel S C CS' CM CT E RS RM' RT P G D L F RW) (hp : p < nP) (hh : ∀ q c, q ≠ D p → q ≠ P p → h q = some c → h' q = some c) (h1 : T.1 = t.1) (h3 : ∀ c j, ¬ (15 ≤ c ∧ c ≤ 16 ∧ j = p) → T.2.2.1 c j = t.2.2.1 c j) (k15 : T.2.2.1 15 p = 1000000) (k16 : T.2.2.1 16 p = 0) (hD : h' (D p) = some (true, false, 1004, [])) (hc : h' (P p) = some (porC T G D L p)) : R4x h' T K zn nr nS nT nC nR nP nL a rel S C CS' CM CT E RS RM' RT P G D L F RW := by
  obtain ⟨v0, v1, v2t, v2c, v2r, v2d, v3, v4, v5, v6⟩ := r
  obtain ⟨⟨mc, x1⟩, x2, x3, x4, x5, x6, x7, x8, x9⟩ := v3
  have hP := (x4 p hp).1
  obtain ⟨_, _, ⟨_, dp, _⟩, _, _, _, _, _, ⟨n0, n1, n2, n3, n4⟩, _⟩ := (x4 p hp).2.2
  have pp := (x4 p hp).2.1
  have hH : ∀ X : Nat → lCell → Prop, (∀ c, X (D p) c → c.2.2.1 = 1004 → False) → (∀ c, X (P p) c → c.2.2.1 = 80 → False) → hS h h' X := fun X hx hy => hS_mk2 n3 hP hh hx hy
  have T3 : ∀ c, ¬ (15 ≤ c ∧ c ≤ 16) → T.2.2.1 c = t.2.2.1 c := fun c hc => funext (fun j => h3 c j (by omega))
  have eq : ∀ l : List Nat, (∀ c ∈ l, ¬ (15 ≤ c ∧ c ≤ 16)) → eqR t T l := fun l hl c hc => T3 c (hl c hc)
  have h1' : ∀ c, T.1 c = t.1 c := fun c => by rw [h1]
  refine ⟨V0_cg v0 (hH _ (fun c z1 z2 => by omega) (fun c z1 z2 => by omega)) (h1' 1) (h1' 9) (h1' 49) (h1' 45) (T3 64 (by omega)), V1_cg v1 (hH _ (fun c z1 z2 => by omega) (fun c z1 z2 => by omega)) (h1' 27) (h1' 9) (eq _ (by decide)), ⟨by rw [h1' 45]; exact v2t.1, by rw [T3 39 (by omega)]; exact v2t.2⟩, V2c_cg v2c (hH _ (fun c z1 z2 => by omega) (fun c z1 z2 => by omega)) (h1' 36) (eq _ (by decide)), V2r_cg v2r (hH _ (fun c z1 z2 => by omega) (fun c z1 z2 => by omega)) (h1' 39) (eq _ (by decide)), v2d, ?_, V4_cg v4 (hH _ (fun c z1 z2 => by omega) (fun c z1 z2 => by omega)) (h1' 49) (eq _ (by decide)), v5, by rw [h1' 1]; exact v6⟩
  refine ⟨⟨mc, hh _ _ (by omega) (by omega) x1⟩, by rw [h1' 10]; exact x2, x3, fun p' hp' => ?_, x5, x6, x7, by rw [h1' 24]; exact x8, by rw [T3 20 (by omega), T3 21 (by omega)]; exact x9⟩
  obtain ⟨y1, y2, y3⟩ := x4 p' hp'
  refine ⟨?_, y2, ?_⟩
  · by_cases z : p' = p
    · rw [z]; exact hc
    · have : porC T G D L p' = porC t G D L p' := by
        unfold porC cxP cyP flB
        rw [T3 7 (by omega), T3 8 (by omega), T3 9 (by omega), T3 11 (by omega), T3 12 (by omega), T3 13 (by omega), T3 14 (by omega), h3 15 p' (by omega), T3 50 (by omega), T3 51 (by omega), T3 52 (by omega)]
      rw [this]
      exact hh _ _ (apart y1 n3 (by show (80 : Nat) ≠ 1004; decide)) (fun w => z (x5 p' p hp' hp w)) y1
  · have hg : hS h h' (fun _ c => c.2.2.1 = 79 ∨ c.2.2.1 = 86 ∨ c.2.2.1 = 1003) := hH _ (fun c z1 z2 => by rcases z1 with z | z | z <;> omega) (fun c z1 z2 => by rcases z1 with z | z | z <;> omega)
    obtain ⟨a1, ⟨xx, yy, a2⟩, a3, a4, a5, a6, a7, a8, ⟨n', a9, a10, a11, a12⟩, xs, a13, a14⟩ := y3
    have q2 := hg _ _ (Or.inl rfl) a2
    unfold V3p okPor xIn yIn cxP cyP flB rowG lok at *
    rw [h1' 9, T3 7 (by omega), T3 8 (by omega), T3 9 (by omega), T3 10 (by omega), T3 11 (by omega), T3 12 (by omega), T3 13 (by omega), T3 14 (by omega), T3 17 (by omega), T3 18 (by omega), T3 19 (by omega), T3 20 (by omega), T3 21 (by omega), T3 50 (by omega), T3 51 (by omega), T3 52 (by omega)]
    by_cases z : p' = p
    · subst z
      exact ⟨by rw [q2]; simp, ⟨xx, yy, q2⟩, a3, a4, a5, a6, a7, Or.inl ⟨k15, k16⟩, ⟨0, by omega, k16, hD, fun i hi => absurd hi (by omega)⟩, xs, hg _ _ (Or.inr (Or.inr rfl)) a13, a14⟩
    · rw [h3 15 p' (by omega), h3 16 p' (by omega)]
      exact ⟨by rw [q2]; simp, ⟨xx, yy, q2⟩, a3, a4, a5, a6, a7, a8, ⟨n', a9, a10, hh _ _ (fun w => z (x6 p' p hp' hp w)) (apart a11 hP (by simp [porC])) a11, fun i hi => ⟨hg _ _ (Or.inr (Or.inl rfl)) (a12 i hi).1, (a12 i hi).2⟩⟩, xs, hg _ _ (Or.inr (Or.inr rfl)) a13, a14⟩
