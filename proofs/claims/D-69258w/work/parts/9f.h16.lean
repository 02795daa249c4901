/-! the gate: somebody is let in -/
def rowT (t : TS) (p n c q m : Nat) : TS := wrI (wrI (wrI (wrI t 17 (20 * p + n) (Int32.ofNat c)) 18 (20 * p + n) (Int32.ofNat q)) 19 (20 * p + n) (Int32.ofNat m)) 16 p (Int32.ofNat (n + 1))
theorem rowT_at (t : TS) (p n c q m d j : Nat) : (rowT t p n c q m).2.2.1 d j = if d = 16 ∧ j = p then Int32.ofNat (n + 1) else if d = 19 ∧ j = 20 * p + n then Int32.ofNat m else if d = 18 ∧ j = 20 * p + n then Int32.ofNat q else if d = 17 ∧ j = 20 * p + n then Int32.ofNat c else t.2.2.1 d j := rfl
theorem R4_rowA {h h' : lHeap} {t : TS} {K zn nr nS nT nC nR nP nL a p n c q m x : Nat} {rel : Int32} {S C CS' CM CT E RS RM' RT P G D L F : Nat → Nat} {RW : Nat → Nat → Nat} (r : R4x h t K zn nr nS nT nC nR nP nL a rel S C CS' CM CT E RS RM' RT P G D L F RW) (hp : p < nP) (hn : n < 20) (h16 : t.2.2.1 16 p = Int32.ofNat n) (h15 : ¬ t.2.2.1 15 p = 1000000) (hx : 179 ≤ x) (hc : c < nC) (hm : m < 101) (hq : Int32.ofNat q = t.2.2.1 7 p ∨ Int32.ofNat q = t.2.2.1 8 p) (hh : ∀ q c, q ≠ D p → h q = some c → h' q = some c) (hD : h' (D p) = some (true, false, 1004, rowC (fun j => if j = n then .ref x else .ref (RW p j)) (n + 1))) (hxc : h' x = some (true, false, 86, [.ref (C c), .int (Int32.ofNat q), .int (Int32.ofNat m)])) : R4x h' (rowT t p n c q m) K zn nr nS nT nC nR nP nL a rel S C CS' CM CT E RS RM' RT P G D L F (fun p' i => if p' = p ∧ i = n then x else RW p' i) := by
  obtain ⟨v0, v1, v2t, v2c, v2r, v2d, v3, v4, v5, v6⟩ := r
  obtain ⟨⟨mc, x1⟩, x2, x3, x4, x5, x6, x7, x8, x9⟩ := v3
  have hp0 := (x4 p hp).2.2
  obtain ⟨_, _, ⟨_, dp, _⟩, _, _, _, _, _, ⟨n0, n1, n2, n3, n4⟩, _⟩ := hp0
  have en : n0 = n := by rw [h16] at n2; exact ((i_inj (by omega) (by omega)).mp n2).symm
  subst en
  have hH : ∀ X : Nat → lCell → Prop, (∀ c, X (D p) c → c.2.2.1 = 1004 → False) → hS h h' X := fun X hx => hS_mk n3 hh hx
  have T3 : ∀ d, ¬ (16 ≤ d ∧ d ≤ 19) → (rowT t p n0 c q m).2.2.1 d = t.2.2.1 d := fun d hd => funext (fun j => by
    rw [rowT_at, if_neg (by omega), if_neg (by omega), if_neg (by omega), if_neg (by omega)])
  have eq : ∀ l : List Nat, (∀ c ∈ l, ¬ (16 ≤ c ∧ c ≤ 19)) → eqR t (rowT t p n0 c q m) l := fun l hl c hc => T3 c (hl c hc)
  refine ⟨V0_cg v0 (hH _ (fun c z1 z2 => by omega)) rfl rfl rfl rfl (T3 64 (by omega)), V1_cg v1 (hH _ (fun c z1 z2 => by omega)) rfl rfl (eq _ (by decide)), ⟨v2t.1, by rw [T3 39 (by omega)]; exact v2t.2⟩, V2c_cg v2c (hH _ (fun c z1 z2 => by omega)) rfl (eq _ (by decide)), V2r_cg v2r (hH _ (fun c z1 z2 => by omega)) rfl (eq _ (by decide)), v2d, ?_, V4_cg v4 (hH _ (fun c z1 z2 => by omega)) rfl (eq _ (by decide)), v5, v6⟩
  refine ⟨⟨mc, hh _ _ (by omega) x1⟩, x2, x3, fun p' hp' => ?_, x5, x6, x7, x8, by rw [T3 20 (by omega), T3 21 (by omega)]; exact x9⟩
  obtain ⟨y1, y2, y3⟩ := x4 p' hp'
  refine ⟨?_, y2, ?_⟩
  · have : porC (rowT t p n0 c q m) G D L p' = porC t G D L p' := by
      unfold porC cxP cyP flB
      rw [T3 7 (by omega), T3 8 (by omega), T3 9 (by omega), T3 11 (by omega), T3 12 (by omega), T3 13 (by omega), T3 14 (by omega), T3 15 (by omega), T3 50 (by omega), T3 51 (by omega), T3 52 (by omega)]
    rw [this]
    exact hh _ _ (apart y1 n3 (by show (80 : Nat) ≠ 1004; decide)) y1
  · have hg : hS h h' (fun _ c => c.2.2.1 = 79 ∨ c.2.2.1 = 86 ∨ c.2.2.1 = 1003) := hH _ (fun c z1 z2 => by rcases z1 with z | z | z <;> omega)
    obtain ⟨a1, ⟨xx, yy, a2⟩, a3, a4, a5, a6, a7, a8, ⟨n', a9, a10, a11, a12⟩, xs, a13, a14⟩ := y3
    have q2 := hg _ _ (Or.inl rfl) a2
    unfold V3p okPor xIn yIn cxP cyP flB lok at *
    rw [T3 7 (by omega), T3 8 (by omega), T3 9 (by omega), T3 10 (by omega), T3 11 (by omega), T3 12 (by omega), T3 13 (by omega), T3 14 (by omega), T3 15 (by omega), T3 20 (by omega), T3 21 (by omega), T3 50 (by omega), T3 51 (by omega), T3 52 (by omega)]
    refine ⟨by rw [q2]; simp, ⟨xx, yy, q2⟩, a3, a4, a5, a6, a7, ?_, ?_, xs, hg _ _ (Or.inr (Or.inr rfl)) a13, a14⟩
    · rcases a8 with ⟨z1, z2⟩ | z
      · by_cases w : p' = p
        · rw [w] at z1; exact absurd z1 h15
        · refine Or.inl ⟨z1, ?_⟩
          rw [rowT_at, if_neg (by omega), if_neg (by omega), if_neg (by omega), if_neg (by omega)]; exact z2
      · exact Or.inr z
    by_cases z : p' = p
    · subst z
      refine ⟨n0 + 1, by omega, ?_, ?_, fun i hi => ?_⟩
      · rw [rowT_at, if_pos ⟨rfl, rfl⟩]
      · rw [hD]
        refine congrArg (fun l => some (true, false, 1004, l)) (rowC_congr (fun j hj => ?_))
        dsimp only
        by_cases w : j = n0
        · rw [if_pos w, if_pos (show p' = p' ∧ j = n0 from ⟨rfl, w⟩)]
        · rw [if_neg w, if_neg (show ¬ (p' = p' ∧ j = n0) from fun u => w u.2)]
      · by_cases w : i = n0
        · subst w
          dsimp only
          rw [if_pos ⟨rfl, rfl⟩]
          have e17 : (rowT t p' i c q m).2.2.1 17 (20 * p' + i) = Int32.ofNat c := by rw [rowT_at, if_neg (by omega), if_neg (by omega), if_neg (by omega), if_pos ⟨rfl, rfl⟩]
          have e18 : (rowT t p' i c q m).2.2.1 18 (20 * p' + i) = Int32.ofNat q := by rw [rowT_at, if_neg (by omega), if_neg (by omega), if_pos ⟨rfl, rfl⟩]
          have e19 : (rowT t p' i c q m).2.2.1 19 (20 * p' + i) = Int32.ofNat m := by rw [rowT_at, if_neg (by omega), if_pos ⟨rfl, rfl⟩]
          unfold rowG
          rw [e17, e18, e19, bN_of (by have := v2c.2.2.1; omega)]
          exact ⟨hxc, hx, ⟨c, hc, rfl⟩, hq, ⟨m, hm, rfl⟩⟩
        · dsimp only
          rw [if_neg (fun u => w u.2)]
          obtain ⟨b1, b2, b3, b4, b5⟩ := n4 i (by omega)
          have e : ∀ d, 17 ≤ d → d ≤ 19 → (rowT t p' n0 c q m).2.2.1 d (20 * p' + i) = t.2.2.1 d (20 * p' + i) := fun d d1 d2 => by
            rw [rowT_at, if_neg (by omega), if_neg (by omega), if_neg (by omega), if_neg (by omega)]
          unfold rowG at *
          rw [e 17 (by omega) (by omega), e 18 (by omega) (by omega), e 19 (by omega) (by omega)]
          exact ⟨hg _ _ (Or.inr (Or.inl rfl)) b1, b2, b3, b4, b5⟩
    · refine ⟨n', a9, ?_, ?_, fun i hi => ?_⟩
      · rw [rowT_at, if_neg (by omega), if_neg (by omega), if_neg (by omega), if_neg (by omega)]; exact a10
      · have : rowC (fun i => Value.ref ((fun p' i => if p' = p ∧ i = n0 then x else RW p' i) p' i)) n' = rowC (fun i => .ref (RW p' i)) n' := rowC_congr (fun j hj => by
          dsimp only
          rw [if_neg (fun u => z u.1)])
        rw [this]
        exact hh _ _ (fun w => z (x6 p' p hp' hp w)) a11
      · obtain ⟨b1, b2, b3, b4, b5⟩ := a12 i hi
        have e : ∀ d, 17 ≤ d → d ≤ 19 → (rowT t p n0 c q m).2.2.1 d (20 * p' + i) = t.2.2.1 d (20 * p' + i) := fun d d1 d2 => by
          rw [rowT_at, if_neg (by omega), if_neg (by omega), if_neg (by omega), if_neg (by omega)]
        dsimp only
        rw [if_neg (fun u => z u.1)]
        unfold rowG at *
        rw [e 17 (by omega) (by omega), e 18 (by omega) (by omega), e 19 (by omega) (by omega)]
        exact ⟨hg _ _ (Or.inr (Or.inl rfl)) b1, b2, b3, b4, b5⟩
section
variable {own : Nat → Nat} {s : CS} {t : TS} {K zn nr nS nT nC nR nP nL a : Nat} {rel : Int32} {S C CS' CM CT E RS RM' RT P G D L F : Nat → Nat} {RW : Nat → Nat → Nat}
theorem ga_let (hw : wfS s) (hs : 179 ≤ s.2.1) (hK : K < 1000) (r : R4x (rs s.1 own 4) t K zn nr nS nT nC nR nP nL a rel S C CS' CM CT E RS RM' RT P G D L F RW) (hbu : ¬ t.1 1 = 0) {nw : Nat} (hnw : nw ≤ 6000) (h101 : s.1 101 = some (true, false, 56, [.int (t.1 2)])) (h2 : t.1 2 = Int32.ofNat nw) (hrel : t_608 t = some rel) {c p q n : Nat} (hc : c < nC) (hp : p < nP) (hq : Int32.ofNat q = t.2.2.1 7 p ∨ Int32.ofNat q = t.2.2.1 8 p) (hqn : q ≤ nr) (h16 : t.2.2.1 16 p = Int32.ofNat n) (hn : n < 20) : ∃ s' T own' RW', c_1045 108 (C c) (P p) (Int32.ofNat q) s = some s' ∧ t_612 (Int32.ofNat c) (Int32.ofNat p) (Int32.ofNat q) t = some T ∧ R4x (rs s'.1 own' 4) T K zn nr nS nT nC nR nP nL a rel S C CS' CM CT E RS RM' RT P G D L F RW' ∧ Frm (fun X => X = 4) own own' s s' ∧ (∀ Z, Z ≠ 4 → Z ≠ 99 → rt T Z = rt t Z) ∧ T.1 = t.1 ∧ (∀ c, c < 16 → T.2.2.1 c = t.2.2.1 c) ∧ (∃ n', n' ≤ n + 1 ∧ T.2.2.1 16 p = Int32.ofNat n') ∧ s'.2.2.1 ≤ s.2.2.1 + 2 ∧ s'.2.2.2 ≤ s.2.2.2 + 90 := by
  have qq := R4_raw r
  have qq' := qq
  obtain ⟨⟨g, g2, g3, g4, g5, g6⟩, v1, _, v2c, _, _, ⟨_, q10, qn, q4, _⟩, _⟩ := qq'
  obtain ⟨d1, _, _, _, ⟨pn, hpn, e30⟩, _⟩ := v2c.2.2.2.1 c hc
  have hS40 := v1.2.2.1
  have hC60 := v2c.2.2.1
  have hbp : bN (t.2.2.1 30 c) = pn := by rw [e30, bN_of (by omega)]
  have d1 : s.1 (C c) = some (true, false, 82, [.int (Int32.ofNat c), .ref (S pn), .int (t.2.2.1 31 c), .int (Int32.ofNat (CT c)), .ref (CS' c)]) := by rw [d1]; unfold carD; rw [hbp]
  obtain ⟨h1, _, h3⟩ := q4 p hp
  obtain ⟨_, _, _, ok, _, _, _, h15, ⟨n0, n1, n2, n3, n4⟩, _⟩ := h3
  have en : n0 = n := by rw [h16] at n2; exact ((i_inj (by omega) (by omega)).mp n2).symm
  subst en
  have k89 : isK s [89] 108 = true := isK_t g rfl
  have e992 : c_992 (P p) s = some (if t.2.2.1 15 p = 1000000 then 0 else 1) := by
    unfold c_992
    rw [xI_o (x := knw (t.2.2.1 15 p)) h1 rfl rfl, Option.bind_some]
    have eoff : knw (t.2.2.1 15 p) = 2147483647 ↔ t.2.2.1 15 p = 1000000 := by
      rcases h15 with ⟨z, _⟩ | ⟨b, hb, z⟩
      · rw [z]; exact ⟨fun _ => rfl, fun _ => rfl⟩
      · have hnT : nT ≤ K := r.2.2.2.2.2.2.2.2.1.1
        have nb : ¬ Int32.ofNat b = 1000000 := by rw [i_eqL (by omega) (by omega)]; omega
        rw [z]; unfold knw; rw [if_neg nb]
        exact ⟨fun w => by rw [i_eqL (by omega) (by omega)] at w; omega, fun w => absurd w nb⟩
    by_cases z : t.2.2.1 15 p = 1000000
    · rw [if_pos (eoff.mpr z), if_pos z]
    · rw [if_neg (fun w => z (eoff.mp w)), if_neg z]
  have hent : ∃ s' T own' RW', Option.bind (xN s [(82, 1)] (C c)) (fun a9 => (if isK s [89] 108 = true then Option.bind (c_1039 108 a9 (P p) (Int32.ofNat q) s) (fun x10 => some x10) else none)) = some s' ∧ Option.bind (rdI t 30 60 (Int32.ofNat c)) (fun x9 => Option.bind (t_613 x9 (Int32.ofNat p) (Int32.ofNat q) t) (fun x10 => some x10)) = some T ∧ R4x (rs s'.1 own' 4) T K zn nr nS nT nC nR nP nL a rel S C CS' CM CT E RS RM' RT P G D L F RW' ∧ Frm (fun X => X = 4) own own' s s' ∧ (∀ Z, Z ≠ 4 → Z ≠ 99 → rt T Z = rt t Z) ∧ T.1 = t.1 ∧ (∀ c, c < 16 → T.2.2.1 c = t.2.2.1 c) ∧ (∃ n', n' ≤ n0 + 1 ∧ T.2.2.1 16 p = Int32.ofNat n') ∧ s'.2.2.1 ≤ s.2.2.1 + 2 ∧ s'.2.2.2 ≤ s.2.2.2 + 90 := by
    have oS := rs_in (r.2.1.2.2.2.1 pn hpn).1
    have lS := wf_lt hw oS.1
    refine ⟨_, entT t nr pn p q, own, RW, ?_, ?_, R4_per r hpn (fun q c hq hqc => rs_keep hw (fun _ _ => rfl) hqc (cup_ne hq)) (fun _ _ => rfl) (fun c j hh => entT_o (by omega)) (ok_ent qq hnw h2 hpn hp hqn hq) (rs_some.mpr ⟨oS.2, cup_eq ..⟩), frm_cup hw lS oS.2, fun Z h4 h9 => ?_, rfl, fun c hc => funext (fun j => entT_o (by omega)), ⟨n0, by omega, by rw [entT_o (by omega)]; exact h16⟩, Nat.le_add_right _ _, Nat.le_add_right _ _⟩
    · rw [xN_o (b := S pn) d1 rfl rfl, Option.bind_some, if_pos k89, c_ent qq hbu h101 hpn hp hqn]; rfl
    · rw [rdI_n (by omega) (by omega), Option.bind_some, e30, t_ent qq hpn hp hqn hq]; rfl
    · unfold entT
      rw [rt_wrI (by show (4 : Nat) ≠ Z; omega), rt_wrI (by show (4 : Nat) ≠ Z; omega), rt_wrI (by show (4 : Nat) ≠ Z; omega), rt_wrI (by show (4 : Nat) ≠ Z; omega)]
  unfold c_1045 t_612
  rw [if_pos (isK_t h1 rfl), e992, rdI_n (by omega) (by omega)]; repeat (first | rw [Option.bind_some] | rw [Sum.elim_inl] | rw [Sum.elim_inr])
  by_cases z : t.2.2.1 15 p = 1000000
  · rw [if_pos z, if_pos z, if_pos rfl]; repeat (first | rw [Option.bind_some] | rw [Sum.elim_inl] | rw [Sum.elim_inr])
    exact hent
  · rw [if_neg z, if_neg z, if_neg (show ¬ (1 : Int32) = 0 by decide), xI_o (x := rel) g rfl rfl, hrel]; repeat (first | rw [Option.bind_some] | rw [Sum.elim_inl] | rw [Sum.elim_inr])
    rcases g3 with hr | hr
    · rw [hr, if_pos rfl, if_pos rfl, xN_o (b := D p) h1 rfl rfl]; repeat (first | rw [Option.bind_some] | rw [Sum.elim_inl] | rw [Sum.elim_inr])
      obtain ⟨S1, e1, a1, a2, a3, a4, a5, a6⟩ := nw_o (s := s) 86 [.null, .int 0, .int 0] hw
      have a6' : S1.2.2.2 = s.2.2.2 + 3 := a6
      have l108 := wf_lt hw g
      have l101 := wf_lt hw h101
      have lD := wf_lt hw n3
      have x108 : S1.1 108 = _ := (a2 108 (by omega)).trans g
      have x101 : S1.1 101 = _ := (a2 101 (by omega)).trans h101
      rw [e1]; repeat (first | rw [Option.bind_some] | rw [Sum.elim_inl] | rw [Sum.elim_inr] | rw [if_neg (show ¬ (1 : Int32) = 0 by decide)] | rw [if_pos (show (0 : Int32) = 0 from rfl)] | rw [if_pos (show true = true from rfl)] | rw [if_neg (show ¬ false = true by decide)] | dsimp only)
      rw [xN_o (b := 101) x108 rfl rfl]; repeat (first | rw [Option.bind_some] | rw [Sum.elim_inl] | rw [Sum.elim_inr])
      rw [if_pos (isK_t x101 rfl)]
      unfold c_823
      rw [xI_o (x := t.1 2) x101 rfl rfl]; repeat (first | rw [Option.bind_some] | rw [Sum.elim_inl] | rw [Sum.elim_inr])
      rw [h2, show Int32.ofNat nw / 60 = Int32.ofNat (nw / 60) from i_divL (by omega) (by omega), if_pos (isK_t a1 rfl)]
      unfold c_1007
      rw [if_pos (isK_t a1 rfl), xP_c a1 rfl (by simp) rfl]; repeat (first | rw [Option.bind_some] | rw [Sum.elim_inl] | rw [Sum.elim_inr])
      rw [xP_c (cup_eq ..) rfl (by simp) rfl, cupU]; repeat (first | rw [Option.bind_some] | rw [Sum.elim_inl] | rw [Sum.elim_inr])
      rw [xP_c (fs' := [.ref (C c), .int (Int32.ofNat q), .int (Int32.ofNat (nw / 60))]) (cup_eq ..) rfl (by simp) rfl, cupU]; repeat (first | rw [Option.bind_some] | rw [Sum.elim_inl] | rw [Sum.elim_inr])
      have yD : (cup S1 s.2.1 (true, false, 86, [.ref (C c), .int (Int32.ofNat q), .int (Int32.ofNat (nw / 60))])).1 (D p) = _ := (cup_ne (by omega)).trans ((a2 (D p) (by omega)).trans n3)
      rw [if_pos (isK_t yD rfl), adAdd_r (v := .ref s.2.1) yD (by omega) (by simp) (elO_o (cup_eq ..))]; repeat (first | rw [Option.bind_some] | rw [Sum.elim_inl] | rw [Sum.elim_inr])
      have hT : Option.bind (rdI t 16 1400 (Int32.ofNat p)) (fun x3 => Option.bind (stI t 17 28000 ((20 * Int32.ofNat p) + x3) (Int32.ofNat c)) (fun s4 => Option.bind (stI s4 18 28000 ((20 * Int32.ofNat p) + x3) (Int32.ofNat q)) (fun s5 => Option.bind (stI s5 19 28000 ((20 * Int32.ofNat p) + x3) ((s5.1 2) / 60)) (fun s6 => Option.bind (rdI s6 16 1400 (Int32.ofNat p)) (fun x7 => Option.bind (stI s6 16 1400 (Int32.ofNat p) (x7 + 1)) (fun s8 => some (Sum.inr (α := Unit) s8))))))) = some (.inr (rowT t p n0 c q (nw / 60))) := by
        have c1 : (20 : Int32) * Int32.ofNat p = Int32.ofNat (20 * p) := i_mul 20 p
        rw [rdI_n (by omega) (by omega), Option.bind_some, h16, c1, i_add, stI_n (by omega) (by omega), Option.bind_some, stI_n (by omega) (by omega), Option.bind_some, show (wrI (wrI t 17 (20 * p + n0) (Int32.ofNat c)) 18 (20 * p + n0) (Int32.ofNat q)).1 2 = Int32.ofNat nw from h2, show Int32.ofNat nw / 60 = Int32.ofNat (nw / 60) from i_divL (by omega) (by omega), stI_n (by omega) (by omega), Option.bind_some, rdI_n (by omega) (by omega), Option.bind_some]
        rw [show (wrI (wrI (wrI t 17 (20 * p + n0) (Int32.ofNat c)) 18 (20 * p + n0) (Int32.ofNat q)) 19 (20 * p + n0) (Int32.ofNat (nw / 60))).2.2.1 16 p = Int32.ofNat n0 from h16, i_suc, stI_n (by omega) (by omega)]; rfl
      rw [hT]; repeat (first | rw [Option.bind_some] | rw [Sum.elim_inl] | rw [Sum.elim_inr])
      have oD := rs_in (r.2.2.2.2.2.2.1.2.2.2.1 p hp).2.2.2.2.2.2.2.2.2.2.1.choose_spec.2.2.1
      generalize hSS : cput (cup S1 s.2.1 (true, false, 86, [.ref (C c), .int (Int32.ofNat q), .int (Int32.ofNat (nw / 60))])) 1004 (D p) (adG n0) (adG n0 * (2 * n0 + 40)) (rowC (fun j => if j = n0 then .ref s.2.1 else .ref (RW p j)) (n0 + 1)) = S'
      have m1 : ∀ q, q < s.2.1 → q ≠ D p → S'.1 q = s.1 q := fun q h1 h2 => by rw [← hSS, cput_ne h2, cup_ne (by omega), a2 q (by omega)]
      have m2 : S'.1 s.2.1 = some (true, false, 86, [.ref (C c), .int (Int32.ofNat q), .int (Int32.ofNat (nw / 60))]) := by rw [← hSS, cput_ne (by omega), cup_eq]
      have m3 : S'.1 (D p) = some (true, false, 1004, rowC (fun j => if j = n0 then .ref s.2.1 else .ref (RW p j)) (n0 + 1)) := by rw [← hSS, cput_eq]
      have m4 : S'.2.1 = s.2.1 + 1 := by rw [← hSS]; exact a3
      have m5 : wfS S' := by rw [← hSS]; exact wf_cup (wf_cup a4 (by omega)) (by show D p < S1.2.1; omega)
      have gl := adG_le n0
      have m6 : S'.2.2.1 ≤ s.2.2.1 + 2 := by rw [← hSS]; show S1.2.2.1 + adG n0 ≤ _; omega
      have m7 : S'.2.2.2 ≤ s.2.2.2 + 90 := by rw [← hSS]; show S1.2.2.2 + adG n0 * (2 * n0 + 40) ≤ _; omega
      have ho : ∀ q, q < s.2.1 → givs own s.2.1 1 4 q = own q := fun q hq => if_neg (by omega)
      refine ⟨S', _, givs own s.2.1 1 4, _, rfl, rfl, by rw [← hr]; exact R4_rowA (x := s.2.1) r hp hn h16 z hs hc (by omega) hq (fun q c h1 h2 => rs_keep hw ho h2 (m1 q (wf_lt hw (rs_in h2).1) h1)) (rs_some.mpr ⟨by rw [ho _ lD]; exact oD.2, m3⟩) (rs_some.mpr ⟨if_pos ⟨Nat.le_refl _, by omega⟩, m2⟩), ⟨by omega, ho, fun q hq hx => m1 q hq (fun z => hx (by rw [z]; exact oD.2)), fun q h1 h2 => if_pos (by omega), m5⟩, fun Z h4 h9 => ?_, rfl, fun d hd => funext (fun j => ?_), ⟨n0 + 1, Nat.le_refl _, ?_⟩, by omega, m7⟩
      · unfold rowT
        rw [rt_wrI (by show (4 : Nat) ≠ Z; omega), rt_wrI (by show (4 : Nat) ≠ Z; omega), rt_wrI (by show (4 : Nat) ≠ Z; omega), rt_wrI (by show (4 : Nat) ≠ Z; omega)]
      · rw [rowT_at, if_neg (by omega), if_neg (by omega), if_neg (by omega), if_neg (by omega)]
      · rw [rowT_at, if_pos ⟨rfl, rfl⟩]
    · rw [hr, if_neg (show ¬ (1 : Int32) = 0 by decide), if_neg (show ¬ (1 : Int32) = 0 by decide)]; repeat (first | rw [Option.bind_some] | rw [Sum.elim_inl] | rw [Sum.elim_inr])
      rw [← hr]; exact hent
end
