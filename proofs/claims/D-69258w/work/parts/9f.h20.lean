/-! the gate: who passed while a portal was off -/
theorem lU_eq0 (h : lHeap) (a : Nat) (c : lCell) : lUpd h a c a = some c := if_pos rfl
theorem lU_ne0 (h : lHeap) {a q : Nat} (c : lCell) (e : q ≠ a) : lUpd h a c q = h q := if_neg e
theorem soB_cg {t T : TS} (e : eqR t T [37, 38, 39]) (k w n m : Nat) : soB T k w n m = soB t k w n m := by
  unfold soB; rw [ltd_cg e]
theorem barV_cg {t T : TS} (e : eqR t T [31, 37, 38, 39]) (CT : Nat → Nat) (c m n : Nat) : barV T CT c m n = barV t CT c m n := by
  unfold barV
  rw [e 31 (by simp), soB_cg (fun c hc => e c (by simp at hc ⊢; omega))]
theorem rgtB_cg {t T : TS} (e : eqR t T [22, 32, 33, 34, 35, 36, 37, 38, 39, 64]) (RT : Nat → Nat) (nR nr n p q m : Nat) : rgtB T RT nR nr n p q m = rgtB t RT nR nr n p q m := by
  have h : ∀ g z k, holB T RT n g z m k = holB t RT n g z m k := fun g z k => by
    unfold holB covB
    rw [soB_cg (fun c hc => e c (by simp at hc ⊢; omega)), e 32 (by simp), e 33 (by simp), e 34 (by simp), e 35 (by simp), e 36 (by simp)]
  unfold rgtB hasB4
  rw [e 22 (by simp), e 64 (by simp)]
  have : holB T RT n (t.2.2.1 22 p) (Int32.ofNat (bN (t.2.2.1 64 q) % 10)) m = holB t RT n (t.2.2.1 22 p) (Int32.ofNat (bN (t.2.2.1 64 q) % 10)) m := funext (fun k => h _ _ k)
  rw [this]
theorem vir_ent {p k n nr pn p' q : Nat} {t : TS} : perC (entT (vir p k n t) nr pn p' q) pn = perC (entT t nr pn p' q) pn := by
  have h : ∀ c, ¬ (16 ≤ c ∧ c ≤ 19) → (vir p k n t).2.2.1 c = t.2.2.1 c := fun c hc => vir_o hc
  unfold perC
  simp only [entT_at]
  unfold entX entY xIn yIn cxP cyP flB
  rw [h 7 (by omega), h 8 (by omega), h 9 (by omega), h 11 (by omega), h 22 (by omega), h 23 (by omega), h 24 (by omega), h 25 (by omega), h 26 (by omega), h 27 (by omega), h 28 (by omega), h 29 (by omega), h 50 (by omega), h 51 (by omega), h 52 (by omega)]
  rfl
theorem lU_keep {s s' : CS} {own own' : Nat → Nat} {X q d : Nat} {x c : lCell} (hw : wfS s) (ho : ∀ q, q < s.2.1 → own' q = own q) (h : lUpd (rs s.1 own X) d x q = some c) (e : q ≠ d → q < s.2.1 → s'.1 q = s.1 q) : lUpd (rs s'.1 own' X) d x q = some c := by
  by_cases z : q = d
  · rw [z, lU_eq0] at h ⊢; exact h
  · rw [lU_ne0 _ _ z] at h ⊢
    exact rs_keep hw ho h (e z (wf_lt hw (rs_in h).1))
theorem lU_in {s : CS} {own : Nat → Nat} {X q d : Nat} {x c : lCell} (h : lUpd (rs s.1 own X) d x q = some c) (e : q ≠ d) : s.1 q = some c ∧ own q = X := by
  rw [lU_ne0 _ _ e] at h; exact rs_in h
theorem lU_ne {h : lHeap} {d q : Nat} {x c : lCell} (e : lUpd h d x q = some c) (hc : c.2.2.1 ≠ x.2.2.1) : q ≠ d := fun z => by
  rw [z, lU_eq0] at e
  exact hc (by rw [Option.some.inj e])
noncomputable def joT (p : Nat) : TS × Int32 → Option (Sum (TS × Int32) TS) := (fun p34 => Option.bind (rdI p34.1 16 1400 (Int32.ofNat p)) (fun x3 => (if p34.2 < x3 then Option.bind (rdI p34.1 17 28000 ((20 * (Int32.ofNat p)) + p34.2)) (fun x4 => Option.bind (rdI p34.1 30 60 x4) (fun x5 => Option.bind (rdI p34.1 27 40 x5) (fun x6 => Option.bind ((if x6 < 0 then Option.bind (rdI p34.1 30 60 x4) (fun x7 => Option.bind (rdI p34.1 18 28000 ((20 * (Int32.ofNat p)) + p34.2)) (fun x8 => Option.bind (t_613 x7 (Int32.ofNat p) x8 p34.1) (fun x9 => some x9))) else some p34.1)) (fun v70 => Option.bind (rdI v70 18 28000 ((20 * (Int32.ofNat p)) + p34.2)) (fun x10 => Option.bind (rdI v70 19 28000 ((20 * (Int32.ofNat p)) + p34.2)) (fun x11 => Option.bind (t_609 x4 x10 x11 1000000 (-1) v70) (fun x12 => Option.bind ((if 0 < x12 then (if (v70.1 49) < 100 then Option.bind (stI v70 40 100 (v70.1 49) (Int32.ofNat p)) (fun s13 => Option.bind (stI s13 41 100 (s13.1 49) x4) (fun s14 => Option.bind (rdI s14 19 28000 ((20 * (Int32.ofNat p)) + p34.2)) (fun x15 => Option.bind (stI s14 42 100 (s14.1 49) x15) (fun s16 => Option.bind (stI s16 43 100 (s16.1 49) x12) (fun s17 => some s17))))) else some v70) else some v70)) (fun v117 => Option.bind ((if 0 < x12 then some 1 else some 0)) (fun v125 => Option.bind (some (ptI v117 49 ((v117.1 49) + v125))) (fun s18 => some (.inl (s18, p34.2 + 1)))))))))))) else some (.inr p34.1))))
section
variable {own : Nat → Nat} {s : CS} {t : TS} {K zn nr nS nT nC nR nP nL a : Nat} {rel : Int32} {S C CS' CM CT E RS RM' RT P G D L F : Nat → Nat} {RW : Nat → Nat → Nat}
/-- somebody comes in if he never did -/
theorem jo_ent {n k pn q p : Nat} {v1c v2c v3c v4c : Value} {m x4 x5 : Int32} (hw : wfS s) (r : R4x (lUpd (rs s.1 own 4) (D p) (true, false, 1004, rowC (fun i => .ref (RW p i)) n)) t K zn nr nS nT nC nR nP nL a rel S C CS' CM CT E RS RM' RT P G D L F RW) (rq : R4x s.1 (vir p k n t) K zn nr nS nT nC nR nP nL a rel S C CS' CM CT E RS RM' RT P G D L F (fun p' i => if p' = p then RW p (i + k) else RW p' i)) (hbu : ¬ t.1 1 = 0) {nw : Nat} (hnw : nw ≤ 6000) (h101 : s.1 101 = some (true, false, 56, [.int (t.1 2)])) (h2 : t.1 2 = Int32.ofNat nw) (hp : p < nP) (hpn : pn < nS) (hqn : q ≤ nr) (hq : Int32.ofNat q = t.2.2.1 7 p ∨ Int32.ofNat q = t.2.2.1 8 p) {c v2 : Nat} (hc : s.1 c = some (true, false, 82, [v1c, .ref (S pn), v2c, v3c, v4c])) (hv2 : s.1 v2 = some (true, false, 86, [.ref c, .int (Int32.ofNat q), .int m])) (e30 : rdI t 30 60 x4 = some (Int32.ofNat pn)) (e18 : rdI t 18 28000 x5 = some (Int32.ofNat q)) : ∃ s1 T, (if t.2.2.1 27 pn = (-1) then Option.bind (xN s [(82, 1)] c) (fun a5 => Option.bind (xI s [(86, 1)] v2) (fun x6 => (if isK s [89] 108 = true then Option.bind (c_1039 108 a5 (P p) x6 s) (fun x7 => some x7) else none))) else some s) = some s1 ∧ (if t.2.2.1 27 pn < 0 then Option.bind (rdI t 30 60 x4) (fun x7 => Option.bind (rdI t 18 28000 x5) (fun x8 => Option.bind (t_613 x7 (Int32.ofNat p) x8 t) (fun x9 => some x9))) else some t) = some T ∧ R4x (lUpd (rs s1.1 own 4) (D p) (true, false, 1004, rowC (fun i => .ref (RW p i)) n)) T K zn nr nS nT nC nR nP nL a rel S C CS' CM CT E RS RM' RT P G D L F RW ∧ wfS s1 ∧ own (S pn) = 4 ∧ s.1 (S pn) ≠ none ∧ (∀ q, q ≠ S pn → s1.1 q = s.1 q) ∧ s1.2 = s.2 ∧ T.1 = t.1 ∧ (∀ c, ¬ (24 ≤ c ∧ c ≤ 29) → T.2.2.1 c = t.2.2.1 c) ∧ (∀ Z, Z ≠ 4 → Z ≠ 99 → rt T Z = rt t Z) := by
  have g := rq.1.1
  obtain ⟨dS, okS, _⟩ := r.2.1.2.2.2.1 pn hpn
  have nS' : S pn ≠ D p := lU_ne dS (by show (81 : Nat) ≠ 1004; decide)
  obtain ⟨dS1, oS⟩ := lU_in dS nS'
  have lS := wf_lt hw dS1
  obtain ⟨_, h27, _⟩ := okS
  by_cases z : t.2.2.1 27 pn = -1
  · refine ⟨cup s (S pn) (perC (entT t nr pn p q) pn), entT t nr pn p q, ?_, ?_, R4_per r hpn (fun q c hq hqc => lU_keep hw (fun _ _ => rfl) hqc (fun _ _ => cup_ne hq)) (fun _ _ => rfl) (fun c j hh => entT_o (by omega)) (ok_ent (s := (lUpd (rs s.1 own 4) (D p) (true, false, 1004, rowC (fun i => .ref (RW p i)) n), s.2)) r hnw h2 hpn hp hqn hq) (by rw [lU_ne0 _ _ nS']; exact rs_some.mpr ⟨oS, cup_eq ..⟩), wf_cup hw lS, oS, by rw [dS1]; simp, fun q hq => cup_ne hq, rfl, rfl, fun c hc => funext (fun j => entT_o (by omega)), fun Z h4 h9 => ?_⟩
    · rw [if_pos z, xN_o (b := S pn) hc rfl rfl]; repeat (first | rw [Option.bind_some] | rw [Sum.elim_inl] | rw [Sum.elim_inr])
      rw [xI_o (x := Int32.ofNat q) hv2 rfl rfl]; repeat (first | rw [Option.bind_some] | rw [Sum.elim_inl] | rw [Sum.elim_inr])
      rw [if_pos (isK_t g rfl), c_ent rq hbu h101 hpn hp hqn, vir_ent]; rfl
    · rw [if_pos (by rw [z]; decide), e30, e18]; repeat (first | rw [Option.bind_some] | rw [Sum.elim_inl] | rw [Sum.elim_inr])
      rw [t_ent (s := (lUpd (rs s.1 own 4) (D p) (true, false, 1004, rowC (fun i => .ref (RW p i)) n), s.2)) r hpn hp hqn hq]; rfl
    · unfold entT
      rw [rt_wrI (by show (4 : Nat) ≠ Z; omega), rt_wrI (by show (4 : Nat) ≠ Z; omega), rt_wrI (by show (4 : Nat) ≠ Z; omega), rt_wrI (by show (4 : Nat) ≠ Z; omega)]
  · have z' : ¬ t.2.2.1 27 pn < 0 := by
      rcases h27 with w | w
      · exact absurd w z
      · exact w
    exact ⟨s, t, by rw [if_neg z], by rw [if_neg z'], r, hw, oS, by rw [dS1]; simp, fun _ _ => rfl, rfl, rfl, fun _ _ => rfl, fun _ _ _ => rfl⟩
/-- why he should not have -/
theorem jo_why {n k q p c m pn : Nat} {v1c v2c v3c v4c : Value} (hK : K < 1000) (r : R4x (lUpd (rs s.1 own 4) (D p) (true, false, 1004, rowC (fun i => .ref (RW p i)) n)) t K zn nr nS nT nC nR nP nL a rel S C CS' CM CT E RS RM' RT P G D L F RW) (rq : R4x s.1 (vir p k n t) K zn nr nS nT nC nR nP nL a rel S C CS' CM CT E RS RM' RT P G D L F (fun p' i => if p' = p then RW p (i + k) else RW p' i)) (hbu : ¬ t.1 1 = 0) (hc : c < nC) (hqn : q ≤ nr) (hm : m < 101) (hpn : pn < nS) (e30 : t.2.2.1 30 c = Int32.ofNat pn) {v2 : Nat} (hcc : s.1 (C c) = some (true, false, 82, [v1c, .ref (S pn), v2c, v3c, v4c])) (hv2 : s.1 v2 = some (true, false, 86, [.ref (C c), .int (Int32.ofNat q), .int (Int32.ofNat m)])) : ∃ w n', n' ≤ 17 ∧ (w = 0 ∨ (0 : Int32) < w) ∧ t_609 (Int32.ofNat c) (Int32.ofNat q) (Int32.ofNat m) 1000000 (-1) t = some w ∧ ∀ {A : Type} (f : CS × Int32 → Option A), Option.bind (c_1040 108 (C c) (Int32.ofNat m) 2147483647 s) (fun x9 => Option.bind (Option.bind ((if x9.1 = 0 then Option.bind (xN x9.2 [(82, 1)] (C c)) (fun a10 => Option.bind (xI x9.2 [(86, 1)] v2) (fun x11 => Option.bind (xI x9.2 [(86, 2)] v2) (fun x12 => (if isK x9.2 [89] 108 = true then Option.bind (c_1041 108 a10 x11 x12 2147483647 x9.2) (fun x13 => (if x13.1 = 0 then some (Sum.inr (α := CS) (x13.2, (5 : Int32))) else some (.inl x13.2))) else none)))) else some (.inl x9.2))) (Sum.elim (fun v36 => some (v36, x9.1)) (fun z => some z))) f) = f (chg s n' n', w) := by
  have hnT : nT ≤ K := r.2.2.2.2.2.2.2.2.1.1
  have g := rq.1.1
  have hS40 := r.2.1.2.2.1
  have hbp : bN (t.2.2.1 30 c) = pn := by rw [e30, bN_of (by omega)]
  obtain ⟨n1, hn1, e1⟩ := c_bar (m := m) (bc := 2147483647) hK rq hc (by omega) (by omega)
  obtain ⟨n2, hn2, e2⟩ := c_rgt (s := chg s n1 n1) (q := q) (m := m) (bc := 2147483647) hK rq hbu hpn hqn (by omega) (by omega)
  have hm1 : min 2147483647 nT = nT := by omega
  have hm2 : min 1000000 nT = nT := by omega
  have ev : eqR t (vir p k n t) [31, 37, 38, 39] := fun c hc => vir_o (by simp at hc; omega)
  have ev2 : eqR t (vir p k n t) [22, 32, 33, 34, 35, 36, 37, 38, 39, 64] := fun c hc => vir_o (by simp at hc; omega)
  rw [hm1, barV_cg ev] at e1
  rw [hm1, rgtB_cg ev2] at e2
  have hw := t_why (s := (lUpd (rs s.1 own 4) (D p) (true, false, 1004, rowC (fun i => .ref (RW p i)) n), s.2)) (m := m) (bt := 1000000) hK r hbu hc hqn (by omega) (by omega) none (-1) (Or.inl ⟨rfl, by decide⟩)
  rw [hm2] at hw
  have g1 : (chg s n1 n1).1 108 = _ := g
  have h1 : (chg s n1 n1).1 (C c) = _ := hcc
  have h2 : (chg s n1 n1).1 v2 = _ := hv2
  have ec : chg (chg s n1 n1) n2 n2 = chg s (n1 + n2) (n1 + n2) := by
    unfold chg
    exact Prod.ext rfl (Prod.ext rfl (Prod.ext (Nat.add_assoc ..) (Nat.add_assoc ..)))
  have hv : rgV t CT RT nR nr c q m nT none = if barV t CT c m nT = 0 then (if rgtB t RT nR nr nT pn q m = true then 0 else 5) else barV t CT c m nT := by
    unfold rgV barV elsB
    rw [hbp]
    by_cases y1 : CT c < nT
    · by_cases y2 : t.2.2.1 31 c < Int32.ofNat m
      · simp [y1, y2]
      · cases soB t 3 c nT m <;> simp [y1, y2]
    · simp [y1]
  have hb : barV t CT c m nT = 0 ∨ (0 : Int32) < barV t CT c m nT := by
    unfold barV
    by_cases y1 : CT c < nT
    · by_cases y2 : t.2.2.1 31 c < Int32.ofNat m
      · simp [y1, y2]
      · cases soB t 3 c nT m <;> simp [y1, y2]
    · simp [y1]
  generalize barV t CT c m nT = bv at *
  generalize rgtB t RT nR nr nT pn q m = rb at *
  by_cases y : bv = 0
  · refine ⟨if rb = true then 0 else 5, n1 + n2, by omega, ?_, hw.trans (congrArg some (hv.trans (if_pos y))), fun f => ?_⟩
    · cases rb
      · exact Or.inr (by decide)
      · exact Or.inl rfl
    · rw [show (2147483647 : Int32) = Int32.ofNat 2147483647 from rfl, e1]; repeat (first | rw [Option.bind_some] | rw [Sum.elim_inl] | rw [Sum.elim_inr])
      dsimp only
      rw [if_pos y, xN_o (b := S pn) h1 rfl rfl]; repeat (first | rw [Option.bind_some] | rw [Sum.elim_inl] | rw [Sum.elim_inr])
      rw [xI_o (x := Int32.ofNat q) h2 rfl rfl, xI_o (x := Int32.ofNat m) h2 rfl rfl]; repeat (first | rw [Option.bind_some] | rw [Sum.elim_inl] | rw [Sum.elim_inr])
      rw [if_pos (isK_t g1 rfl), e2, ec]; repeat (first | rw [Option.bind_some] | rw [Sum.elim_inl] | rw [Sum.elim_inr])
      cases rb
      · simp
      · simp [y]
  · refine ⟨bv, n1, by omega, hb, hw.trans (congrArg some (hv.trans (if_neg y))), fun f => ?_⟩
    rw [show (2147483647 : Int32) = Int32.ofNat 2147483647 from rfl, e1]; repeat (first | rw [Option.bind_some] | rw [Sum.elim_inl] | rw [Sum.elim_inr])
    dsimp only
    rw [if_neg y]; repeat (first | rw [Option.bind_some] | rw [Sum.elim_inl] | rw [Sum.elim_inr])
end
