/-! the gate: somebody comes into a room -/
def entX (t : TS) (nr p q : Nat) : Int32 := if q = nr then -1 else xIn t p (Int32.ofNat q)
def entY (t : TS) (nr p q : Nat) : Int32 := if q = nr then -1 else yIn t p (Int32.ofNat q)
def entT (t : TS) (nr pn p q : Nat) : TS := wrI (wrI (wrI (wrI t 24 pn (Int32.ofNat q)) 25 pn (entX t nr p q)) 26 pn (entY t nr p q)) 29 pn (t.1 2)
theorem entT_at (t : TS) (nr pn p q c j : Nat) : (entT t nr pn p q).2.2.1 c j = if c = 29 ∧ j = pn then t.1 2 else if c = 26 ∧ j = pn then entY t nr p q else if c = 25 ∧ j = pn then entX t nr p q else if c = 24 ∧ j = pn then Int32.ofNat q else t.2.2.1 c j := rfl
theorem entT_o {t : TS} {nr pn p q c j : Nat} (h : ¬ ((c = 24 ∨ c = 25 ∨ c = 26 ∨ c = 29) ∧ j = pn)) : (entT t nr pn p q).2.2.1 c j = t.2.2.1 c j := by
  rw [entT_at, if_neg (by omega), if_neg (by omega), if_neg (by omega), if_neg (by omega)]
/-- a person's numbers change -/
theorem R4_per {h h' : lHeap} {t T : TS} {K zn nr nS nT nC nR nP nL a pn : Nat} {rel : Int32} {S C CS' CM CT E RS RM' RT P G D L F : Nat → Nat} {RW : Nat → Nat → Nat} (r : R4x h t K zn nr nS nT nC nR nP nL a rel S C CS' CM CT E RS RM' RT P G D L F RW) (hp : pn < nS) (hh : ∀ q c, q ≠ S pn → h q = some c → h' q = some c) (h1 : ∀ c, c ≠ 0 → T.1 c = t.1 c) (h3 : ∀ c j, ¬ ((24 ≤ c ∧ c ≤ 29) ∧ j = pn) → T.2.2.1 c j = t.2.2.1 c j) (hok : okPer T pn) (hc : h' (S pn) = some (perC T pn)) : R4x h' T K zn nr nS nT nC nR nP nL a rel S C CS' CM CT E RS RM' RT P G D L F RW := by
  obtain ⟨v0, v1, v2t, v2c, v2r, v2d, v3, v4, v5, v6⟩ := r
  obtain ⟨⟨mc, x1⟩, x2, x3, x4, x5, x6⟩ := v1
  have hP := (x4 pn hp).1
  have hH : ∀ X : Nat → lCell → Prop, (∀ c, X (S pn) c → c.2.2.1 = 81 → False) → hS h h' X := fun X hx => hS_mk hP hh hx
  have nP : ∀ q, q = 108 ∨ q = 110 ∨ q = 111 ∨ q = 112 ∨ q = 113 ∨ q = 114 → S pn ≠ q := fun q hq z => by have := (x4 pn hp).2.2; omega
  have T3 : ∀ c, ¬ (24 ≤ c ∧ c ≤ 29) → T.2.2.1 c = t.2.2.1 c := fun c hc => funext (fun j => h3 c j (by omega))
  have eq : ∀ l : List Nat, (∀ c ∈ l, ¬ (24 ≤ c ∧ c ≤ 29)) → eqR t T l := fun l hl c hc => T3 c (hl c hc)
  refine ⟨V0_cg v0 (hH _ (fun c z1 z2 => by rcases z1 with z | z; exact nP 108 (by omega) z; omega)) (h1 1 (by omega)) (h1 9 (by omega)) (h1 49 (by omega)) (h1 45 (by omega)) (T3 64 (by omega)), ⟨⟨mc, hh _ _ (nP 111 (by omega)).symm x1⟩, by rw [h1 27 (by omega)]; exact x2, x3, fun k hk => ?_, x5, fun k z1 z2 => by rw [h3 28 k (by omega), h3 29 k (by omega)]; exact x6 k z1 z2⟩, ⟨by rw [h1 45 (by omega)]; exact v2t.1, by rw [T3 39 (by omega)]; exact v2t.2⟩, V2c_cg v2c (hH _ (fun c z1 z2 => by rcases z1 with z | z | z | z; exact nP 112 (by omega) z; all_goals omega)) (h1 36 (by omega)) (eq _ (by decide)), V2r_cg v2r (hH _ (fun c z1 z2 => by rcases z1 with z | z | z | z; exact nP 113 (by omega) z; all_goals omega)) (h1 39 (by omega)) (eq _ (by decide)), v2d, V3_cg v3 (hH _ (fun c z1 z2 => by rcases z1 with z | z | z | z | z | z; exact nP 110 (by omega) z; all_goals omega)) (h1 9 (by omega)) (h1 10 (by omega)) (h1 24 (by omega)) (eq _ (by decide)), V4_cg v4 (hH _ (fun c z1 z2 => by rcases z1 with z | z; exact nP 114 (by omega) z; omega)) (h1 49 (by omega)) (eq _ (by decide)), v5, by rw [h1 1 (by omega)]; exact v6⟩
  by_cases z : k = pn
  · subst z
    exact ⟨hc, hok, (x4 k hk).2.2⟩
  · obtain ⟨y1, y2, y3⟩ := x4 k hk
    unfold perC okPer at *
    rw [h1 9 (by omega), h3 22 k (by omega), h3 23 k (by omega), h3 24 k (by omega), h3 25 k (by omega), h3 26 k (by omega), h3 27 k (by omega), h3 28 k (by omega), h3 29 k (by omega)]
    exact ⟨hh _ _ (fun w => z (x5 k pn hk hp w)) y1, y2, y3⟩
section
variable {s : CS} {t : TS} {K zn nr nS nT nC nR nP nL a : Nat} {rel : Int32} {S C CS' CM CT E RS RM' RT P G D L F : Nat → Nat} {RW : Nat → Nat → Nat}
theorem c_ent (r : R4x s.1 t K zn nr nS nT nC nR nP nL a rel S C CS' CM CT E RS RM' RT P G D L F RW) (hbu : ¬ t.1 1 = 0) (h101 : s.1 101 = some (true, false, 56, [.int (t.1 2)])) {pn p q : Nat} (hpn : pn < nS) (hp : p < nP) (hqn : q ≤ nr) : c_1039 108 (S pn) (P p) (Int32.ofNat q) s = some (cup s (S pn) (perC (entT t nr pn p q) pn)) := by
  obtain ⟨⟨g, g2, g3, g4, g5, g6⟩, v1, _, _, _, _, ⟨_, q10, qn, q4, _⟩, _⟩ := r
  obtain ⟨dS, okS, _⟩ := v1.2.2.2.1 pn hpn
  obtain ⟨h1, _, h3⟩ := q4 p hp
  unfold c_1039
  rw [xI_o (x := if t.1 1 = 0 then -1 else t.1 9) g rfl rfl, if_neg hbu, g4]; repeat (first | rw [Option.bind_some] | rw [Sum.elim_inl] | rw [Sum.elim_inr])
  have e7 : (if Int32.ofNat q = Int32.ofNat nr then some (1 : Int32) else some 0) = some (if q = nr then 1 else 0) := by
    by_cases z : q = nr
    · rw [if_pos (by rw [z]), if_pos z]
    · rw [if_neg (fun w => z ((i_inj (by omega) (by omega)).mp w)), if_neg z]
  have eX : (if (if q = nr then (1 : Int32) else 0) = 0 then (if isK s [80] (P p) = true then Option.bind (c_990 (P p) (Int32.ofNat q) s) (fun x2 => some x2) else none) else some (-1)) = some (entX t nr p q) := by
    unfold entX
    by_cases z : q = nr
    · rw [if_pos z, if_pos z, if_neg (show ¬ (1 : Int32) = 0 by decide)]
    · rw [if_neg z, if_neg z, if_pos rfl, if_pos (isK_t h1 rfl), c_xIn h1]; rfl
  have eY : (if (if q = nr then (1 : Int32) else 0) = 0 then (if isK s [80] (P p) = true then Option.bind (c_991 (P p) (Int32.ofNat q) s) (fun x2 => some x2) else none) else some (-1)) = some (entY t nr p q) := by
    unfold entY
    by_cases z : q = nr
    · rw [if_pos z, if_pos z, if_neg (show ¬ (1 : Int32) = 0 by decide)]
    · rw [if_neg z, if_neg z, if_pos rfl, if_pos (isK_t h1 rfl), c_yIn h1]; rfl
  rw [e7]; repeat (first | rw [Option.bind_some] | rw [Sum.elim_inl] | rw [Sum.elim_inr])
  rw [eX, eY]; repeat (first | rw [Option.bind_some] | rw [Sum.elim_inl] | rw [Sum.elim_inr])
  rw [xN_o (b := 101) g rfl rfl]; repeat (first | rw [Option.bind_some] | rw [Sum.elim_inl] | rw [Sum.elim_inr])
  rw [xI_o (x := t.1 2) h101 rfl rfl]; repeat (first | rw [Option.bind_some] | rw [Sum.elim_inl] | rw [Sum.elim_inr])
  rw [if_pos (isK_t dS rfl)]
  unfold c_996
  rw [xP_c dS rfl (by simp) rfl]; repeat (first | rw [Option.bind_some] | rw [Sum.elim_inl] | rw [Sum.elim_inr])
  rw [xP_c (cup_eq ..) rfl (by simp) rfl, cupU]; repeat (first | rw [Option.bind_some] | rw [Sum.elim_inl] | rw [Sum.elim_inr])
  rw [xP_c (cup_eq ..) rfl (by simp) rfl, cupU]; repeat (first | rw [Option.bind_some] | rw [Sum.elim_inl] | rw [Sum.elim_inr])
  rw [xP_c (fs' := [.int (Int32.ofNat pn), .int (t.2.2.1 22 pn), .int (t.2.2.1 23 pn), .int (Int32.ofNat q), .int (entX t nr p q), .int (entY t nr p q), .int (t.2.2.1 27 pn), .int (t.2.2.1 28 pn), .int (t.1 2)]) (cup_eq ..) rfl (by simp) rfl, cupU]; repeat (first | rw [Option.bind_some] | rw [Sum.elim_inl] | rw [Sum.elim_inr])
  have : perC (entT t nr pn p q) pn = (true, false, 81, [.int (Int32.ofNat pn), .int (t.2.2.1 22 pn), .int (t.2.2.1 23 pn), .int (Int32.ofNat q), .int (entX t nr p q), .int (entY t nr p q), .int (t.2.2.1 27 pn), .int (t.2.2.1 28 pn), .int (t.1 2)]) := by
    unfold perC
    simp [entT_at]
  rw [this]
theorem t_ent (r : R4x s.1 t K zn nr nS nT nC nR nP nL a rel S C CS' CM CT E RS RM' RT P G D L F RW) {pn p q : Nat} (hpn : pn < nS) (hp : p < nP) (hqn : q ≤ nr) (hq : Int32.ofNat q = t.2.2.1 7 p ∨ Int32.ofNat q = t.2.2.1 8 p) : t_613 (Int32.ofNat pn) (Int32.ofNat p) (Int32.ofNat q) t = some (entT t nr pn p q) := by
  obtain ⟨⟨g, g2, g3, g4, g5, g6⟩, v1, _, _, _, _, ⟨_, q10, qn, q4, _⟩, _⟩ := r
  have nS40 := v1.2.2.1
  obtain ⟨h1, _, h3⟩ := q4 p hp
  obtain ⟨_, _, _, ok, _⟩ := h3
  have hlf : v01 (if Int32.ofNat q = t.2.2.1 7 p then (1 : Int32) else 0) ∧ ((if Int32.ofNat q = t.2.2.1 7 p then (1 : Int32) else 0) = 1 ↔ Int32.ofNat q = t.2.2.1 7 p) := by
    by_cases z : Int32.ofNat q = t.2.2.1 7 p
    · rw [if_pos z]; exact ⟨Or.inr rfl, fun _ => z, fun _ => rfl⟩
    · rw [if_neg z]; exact ⟨Or.inl rfl, fun w => absurd w (by decide), fun w => absurd w z⟩
  obtain ⟨cX, cY⟩ := t_cell ok hq hlf
  unfold t_613
  rw [stI_n (by omega) (by omega)]; repeat (first | rw [Option.bind_some] | rw [Sum.elim_inl] | rw [Sum.elim_inr])
  rw [rdI_n (by omega) (by omega)]; repeat (first | rw [Option.bind_some] | rw [Sum.elim_inl] | rw [Sum.elim_inr])
  have e14 : (if Int32.ofNat q = (wrI t 24 pn (Int32.ofNat q)).2.2.1 7 p then some (1 : Int32) else some 0) = some (if Int32.ofNat q = t.2.2.1 7 p then 1 else 0) := by
    show (if Int32.ofNat q = t.2.2.1 7 p then some (1 : Int32) else some 0) = _
    split <;> rfl
  rw [e14]; repeat (first | rw [Option.bind_some] | rw [Sum.elim_inl] | rw [Sum.elim_inr])
  rw [rdI_n (by omega) (by omega), rdI_n (by omega) (by omega)]; repeat (first | rw [Option.bind_some] | rw [Sum.elim_inl] | rw [Sum.elim_inr])
  have hx : ∀ V : TS, V.2.2.1 9 = t.2.2.1 9 → V.2.2.1 11 = t.2.2.1 11 → V.2.2.1 50 = t.2.2.1 50 → V.2.2.1 51 = t.2.2.1 51 → V.2.2.1 52 = t.2.2.1 52 → V.1 9 = t.1 9 → ∀ v : Int32, t_728 (V.2.2.1 9 p) (V.2.2.1 11 p) (if Int32.ofNat q = t.2.2.1 7 p then 1 else 0) v V = t_728 (t.2.2.1 9 p) (t.2.2.1 11 p) (if Int32.ofNat q = t.2.2.1 7 p then 1 else 0) v t := by
    intro V e1 e2 e3 e4 e5 e6 v
    unfold t_728 rdI
    rw [e1, e2, e3, e4, e5]
  have eX : (if Int32.ofNat q = (wrI t 24 pn (Int32.ofNat q)).1 9 then some (-1 : Int32) else Option.bind (t_728 ((wrI t 24 pn (Int32.ofNat q)).2.2.1 9 p) ((wrI t 24 pn (Int32.ofNat q)).2.2.1 11 p) (if Int32.ofNat q = t.2.2.1 7 p then 1 else 0) 1 (wrI t 24 pn (Int32.ofNat q))) (fun x5 => some x5)) = some (entX t nr p q) := by
    unfold entX
    rw [hx (wrI t 24 pn (Int32.ofNat q)) rfl rfl rfl rfl rfl rfl, cX, show (wrI t 24 pn (Int32.ofNat q)).1 9 = t.1 9 from rfl, g4]
    by_cases z : q = nr
    · rw [if_pos (by rw [z]), if_pos z]
    · rw [if_neg (fun w => z ((i_inj (by omega) (by omega)).mp w)), if_neg z]; rfl
  rw [eX]; repeat (first | rw [Option.bind_some] | rw [Sum.elim_inl] | rw [Sum.elim_inr])
  rw [stI_n (by omega) (by omega)]; repeat (first | rw [Option.bind_some] | rw [Sum.elim_inl] | rw [Sum.elim_inr])
  rw [rdI_n (by omega) (by omega), rdI_n (by omega) (by omega)]; repeat (first | rw [Option.bind_some] | rw [Sum.elim_inl] | rw [Sum.elim_inr])
  have eY : (if Int32.ofNat q = (wrI (wrI t 24 pn (Int32.ofNat q)) 25 pn (entX t nr p q)).1 9 then some (-1 : Int32) else Option.bind (t_728 ((wrI (wrI t 24 pn (Int32.ofNat q)) 25 pn (entX t nr p q)).2.2.1 9 p) ((wrI (wrI t 24 pn (Int32.ofNat q)) 25 pn (entX t nr p q)).2.2.1 11 p) (if Int32.ofNat q = t.2.2.1 7 p then 1 else 0) 0 (wrI (wrI t 24 pn (Int32.ofNat q)) 25 pn (entX t nr p q))) (fun x5 => some x5)) = some (entY t nr p q) := by
    unfold entY
    rw [hx (wrI (wrI t 24 pn (Int32.ofNat q)) 25 pn (entX t nr p q)) rfl rfl rfl rfl rfl rfl, cY, show (wrI (wrI t 24 pn (Int32.ofNat q)) 25 pn (entX t nr p q)).1 9 = t.1 9 from rfl, g4]
    by_cases z : q = nr
    · rw [if_pos (by rw [z]), if_pos z]
    · rw [if_neg (fun w => z ((i_inj (by omega) (by omega)).mp w)), if_neg z]; rfl
  rw [eY]; repeat (first | rw [Option.bind_some] | rw [Sum.elim_inl] | rw [Sum.elim_inr])
  rw [stI_n (by omega) (by omega)]; repeat (first | rw [Option.bind_some] | rw [Sum.elim_inl] | rw [Sum.elim_inr])
  rw [stI_n (by omega) (by omega)]; rfl
theorem ok_ent (r : R4x s.1 t K zn nr nS nT nC nR nP nL a rel S C CS' CM CT E RS RM' RT P G D L F RW) {nw : Nat} (hnw : nw ≤ 6000) (h2 : t.1 2 = Int32.ofNat nw) {pn p q : Nat} (hpn : pn < nS) (hp : p < nP) (hqn : q ≤ nr) (hq : Int32.ofNat q = t.2.2.1 7 p ∨ Int32.ofNat q = t.2.2.1 8 p) : okPer (entT t nr pn p q) pn := by
  obtain ⟨⟨g, g2, g3, g4, g5, g6⟩, v1, _, _, _, _, ⟨_, q10, qn, q4, _⟩, _⟩ := r
  obtain ⟨dS, okS, _⟩ := v1.2.2.2.1 pn hpn
  obtain ⟨_, _, _, _, _, ok, _⟩ := q4 p hp
  obtain ⟨_, h27, _, h22, h23⟩ := okS
  have e : ∀ c, (c ≠ 24 ∧ c ≠ 25 ∧ c ≠ 26 ∧ c ≠ 29) → (entT t nr pn p q).2.2.1 c pn = t.2.2.1 c pn := fun c hc => entT_o (by omega)
  have e24 : (entT t nr pn p q).2.2.1 24 pn = Int32.ofNat q := by simp [entT_at]
  have e25 : (entT t nr pn p q).2.2.1 25 pn = entX t nr p q := by simp [entT_at]
  have e26 : (entT t nr pn p q).2.2.1 26 pn = entY t nr p q := by simp [entT_at]
  have e29 : (entT t nr pn p q).2.2.1 29 pn = t.1 2 := by simp [entT_at]
  unfold okPer
  rw [e24, e25, e26, e29, e 27 (by omega), e 22 (by omega), e 23 (by omega), show (entT t nr pn p q).1 9 = t.1 9 from rfl]
  refine ⟨?_, h27, ⟨nw, by omega, h2⟩, h22, h23⟩
  unfold entX entY
  by_cases z : q = nr
  · rw [if_pos z, if_pos z, g4, z]
    exact Or.inl ⟨rfl, rfl, rfl⟩
  · rw [if_neg z, if_neg z]
    obtain ⟨hx, hy⟩ := ok.2.2.2.2.2 (Int32.ofNat q) hq (fun w => z (by rw [g4] at w; exact (i_inj (by omega) (by omega)).mp w))
    exact Or.inr ⟨⟨q, by rw [g4, bN_of (by omega)]; omega, rfl⟩, hx, hy⟩
end
