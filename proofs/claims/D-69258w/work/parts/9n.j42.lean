/-! the library: PriorityQueue, the raw walks -/
section
variable {E : lE} {ky : Value → Int32} {M : lMem}
/-- a box of the number that ky tells -/
def qE (ky : Value → Int32) (M : lMem) (v : Value) : Prop := ∃ (b : Nat) (w : Bool), v = .ref b ∧ M.1 b = some (w, false, 19, [.int (ky v)])
theorem qE.ok {v : Value} (h : qE ky M v) : okV M v := by
  obtain ⟨b, w, rfl, e⟩ := h
  exact Or.inr ⟨b, w, 19, _, rfl, e, rfl⟩
theorem qE.upd {v : Value} {q n m : Nat} {c : lCell} (h : qE ky M v) (hq : ∀ w fs, M.1 q ≠ some (w, false, 19, fs)) : qE ky (lUpd M.1 q c, n, m) v := by
  obtain ⟨b, w, rfl, e⟩ := h
  exact ⟨b, w, rfl, (lUpd_ne _ _ (fun z => hq w _ (z ▸ e))).trans e⟩
theorem drop_set' {L : List Value} {k n : Nat} {x : Value} (h : k < n) : (L.set k x).drop n = L.drop n := by
  rw [List.drop_set, if_pos h]
theorem gD_get {L : List Value} {i : Nat} (h : i < L.length) : L[i]? = some (L.getD i .null) := by
  rw [List.getD_eq_getElem?_getD, List.getElem?_eq_getElem h]
  rfl
/-- siftUpComparable's loop -/
theorem up_lp {e n xb : Nat} (hn : n ≤ 300000) : ∀ (d k : Nat), k ≤ d → ∀ (L : List Value) (M : lMem) (lv : lL), k < n → n ≤ L.length → L.length ≤ 300000 → M.1 e = some (true, true, 6, L) → qE ky M (.ref xb) → (∀ i, i < n → i ≠ k → qE ky M (L.getD i .null)) → lGet lv 0 = some (.int (Int32.ofNat k)) → lGet lv 2 = some (.ref e) → lGet lv 3 = some (.ref xb) → ∃ L', L'.length = L.length ∧ L'.Perm (L.set k (.ref xb)) ∧ L'.drop n = L.drop n ∧ (HU (fun i => ky ((L.set k (.ref xb)).getD i .null)) k n → HpF (fun i => ky (L'.getD i .null)) n) ∧ ∀ D, lGo E prog (D + 3) cd_219 3 (lv, [], M) (.inl none, (lUpd M.1 e (true, true, 6, L'), M.2.1, M.2.2)) := by
  intro d
  induction d with
  | zero =>
    intro k hkd L M lv hk hL hc he hx hq l0 l2 l3
    have hk0 : k = 0 := by omega
    subst hk0
    refine ⟨L.set 0 (.ref xb), List.length_set .., List.Perm.refl _, drop_set' hk, fun h => HU_end h (Or.inl rfl), fun D => ?_⟩
    refine lGo.loadI rfl l0 ?_
    refine lGo.step rfl (fun _ => rfl) ?_; dsimp only
    refine lGo.brT (by decide) ?_
    refine lGo.loadA rfl l2 ?_
    refine lGo.loadI rfl l0 ?_
    refine lGo.loadA rfl l3 ?_
    refine lGo.rsv rfl he hx.ok (by decide) (by rw [clampN (by decide)]; omega) ?_
    rw [clampN (by decide)]
    exact lGo.done rfl (fun _ => rfl)
  | succ d ih =>
    intro k hkd L M lv hk hL hc he hx hq l0 l2 l3
    by_cases hk0 : k = 0
    · exact ih k (by omega) L M lv hk hL hc he hx hq l0 l2 l3
    have hne : ∀ w fs, M.1 e ≠ some (w, false, 19, fs) := fun w fs z => by
      rw [he] at z
      cases z
    obtain ⟨p, hp⟩ : ∃ p, p = (k - 1) / 2 := ⟨_, rfl⟩
    have hpL : L[p]? = some (L.getD p .null) := gD_get (by omega)
    have qp := hq p (by omega) (by omega)
    obtain ⟨pb, pw, pe, pg⟩ := id qp
    obtain ⟨xb', xw, xe, xg⟩ := id hx
    cases xe
    have us : uSh (Int32.ofNat k - 1) 1 = Int32.ofNat p := by
      rw [show Int32.ofNat k - 1 = Int32.ofNat (k - 1) from i_sub (k := 1) (by omega), uSh1 (by omega), hp]
    unfold uSh at us
    have l0' : ∀ v, lGet (st1 5 v (st1 4 (.int (Int32.ofNat p)) lv)) 0 = some (.int (Int32.ofNat k)) := fun v => by repeat (first | assumption | exact lGet_s1 | refine lGet_sn ?_ (by decide) (by first | exact Or.inl (by decide) | exact Or.inr rfl))
    have l2' : ∀ v, lGet (st1 5 v (st1 4 (.int (Int32.ofNat p)) lv)) 2 = some (.ref e) := fun v => by repeat (first | assumption | exact lGet_s1 | refine lGet_sn ?_ (by decide) (by first | exact Or.inl (by decide) | exact Or.inr rfl))
    have l3' : ∀ v, lGet (st1 5 v (st1 4 (.int (Int32.ofNat p)) lv)) 3 = some (.ref xb) := fun v => by repeat (first | assumption | exact lGet_s1 | refine lGet_sn ?_ (by decide) (by first | exact Or.inl (by decide) | exact Or.inr rfl))
    have l4' : ∀ b, lGet (st1 5 (.ref b) (st1 4 (.int (Int32.ofNat p)) lv)) 4 = some (.int (Int32.ofNat p)) := fun b => by repeat (first | assumption | exact lGet_s1 | refine lGet_sn ?_ (by decide) (by first | exact Or.inl (by decide) | exact Or.inr rfl))
    -- up to the comparison
    have walk : ∀ {D : Nat} {fin : lF}, lGo E prog (D + 3) cd_219 18 (st1 5 (.ref pb) (st1 4 (.int (Int32.ofNat p)) lv), [.int (cmpI (ky (.ref xb)) (ky (L.getD p .null)))], M) fin → lGo E prog (D + 3) cd_219 3 (lv, [], M) fin := by
      intro D fin h
      refine lGo.loadI rfl l0 ?_
      refine lGo.step rfl (fun _ => rfl) ?_; dsimp only
      refine lGo.brF (decide_eq_false (fun w => by have := (i_le (by omega) (by decide)).mp (show Int32.ofNat k ≤ Int32.ofNat 0 from w); omega)) ?_
      refine lGo.loadI rfl l0 ?_
      refine lGo.step rfl (fun _ => rfl) ?_; dsimp only
      refine lGo.step rfl (fun _ => rfl) ?_; dsimp only
      refine lGo.step rfl (fun _ => rfl) ?_; dsimp only
      refine lGo.step rfl (fun _ => rfl) ?_; dsimp only
      rw [us]
      refine lGo.step rfl (fun _ => rfl) ?_; dsimp only
      refine lGo.loadA rfl (x := e) (by repeat (first | assumption | exact lGet_s1 | refine lGet_sn ?_ (by decide) (by first | exact Or.inl (by decide) | exact Or.inr rfl))) ?_
      refine lGo.loadI rfl lGet_s1 ?_
      refine lGo.ald rfl he rfl (i_nlt0 (by omega)) (by rw [clampN (by omega)]; exact hpL) ?_
      rw [pe]
      refine lGo.step rfl (fun _ => rfl) ?_; dsimp only
      refine lGo.loadA rfl (l3' _) ?_
      refine lGo.loadA rfl lGet_s1 ?_
      rw [pe] at pg h
      refine lGo.callV rfl rfl xg rfl ⟨Nat.le_of_ble_eq_true rfl, Nat.le_of_ble_eq_true rfl⟩ ((sp_103 xg pg).mono (Nat.le_add_left _ _)) ?_
      exact h
    by_cases z : ky (.ref xb) < ky (L.getD p .null)
    · obtain ⟨L', q1, q2, q3, q4, q5⟩ := ih p (by omega) (L.set k (L.getD p .null)) (lUpd M.1 e (true, true, 6, L.set k (L.getD p .null)), M.2.1, M.2.2) (st1 0 (.int (Int32.ofNat p)) (st1 5 (.ref pb) (st1 4 (.int (Int32.ofNat p)) lv))) (by omega) (by rw [List.length_set]; exact hL) (by rw [List.length_set]; exact hc) (lUpd_eq ..) (hx.upd hne) (fun i hi hip => by
        rw [set_gD (by omega)]
        by_cases w : i = k
        · rw [if_pos w]
          exact qp.upd hne
        · rw [if_neg w]
          exact (hq i hi w).upd hne) lGet_s1 (lGet_sn (l2' _) (by decide) (Or.inl (by decide))) (lGet_sn (l3' _) (by decide) (Or.inl (by decide)))
      rw [List.length_set] at q1
      rw [drop_set' hk] at q3
      refine ⟨L', q1, q2.trans (set_sw (by omega) (by omega) (by omega)), q3, fun h => ?_, fun D => walk ?_⟩
      · refine q4 ?_
        rw [sw_fn ky (by omega) (by omega) (by omega)]
        have hz := HU_st h (by omega) hk ?_
        · rw [← hp] at hz
          exact hz
        · rw [set_gD (by omega), if_pos rfl, set_gD (by omega), if_neg (by omega), ← hp]
          exact z
      · refine lGo.step rfl (fun _ => rfl) ?_; dsimp only
        refine lGo.brT (decide_eq_true (cmp_lt0.mpr z)) ?_
        refine lGo.loadA rfl (l2' _) ?_
        refine lGo.loadI rfl (l0' _) ?_
        refine lGo.loadA rfl lGet_s1 ?_
        refine lGo.rsv rfl he (pe ▸ qp.ok) (i_nlt0 (by omega)) (by rw [clampN (by omega)]; omega) ?_
        rw [clampN (by omega)]
        refine lGo.loadI rfl (l4' _) ?_
        refine lGo.step rfl (fun _ => rfl) ?_; dsimp only
        refine lGo.step rfl (fun _ => rfl) ?_; dsimp only
        have := q5 D
        dsimp only at this
        rw [lUpdU] at this
        rw [pe] at this
        exact this
    · refine ⟨L.set k (.ref xb), List.length_set .., List.Perm.refl _, drop_set' hk, fun h => HU_end h (Or.inr ?_), fun D => walk ?_⟩
      · rw [set_gD (by omega), if_neg (by omega), set_gD (by omega), if_pos rfl, ← hp]
        exact Int32.not_lt.mp z
      · refine lGo.step rfl (fun _ => rfl) ?_; dsimp only
        refine lGo.brF (decide_eq_false (fun w => z (cmp_lt0.mp w))) ?_
        refine lGo.step rfl (fun _ => rfl) ?_; dsimp only
        refine lGo.loadA rfl (l2' _) ?_
        refine lGo.loadI rfl (l0' _) ?_
        refine lGo.loadA rfl (l3' _) ?_
        refine lGo.rsv rfl he hx.ok (i_nlt0 (by omega)) (by rw [clampN (by omega)]; omega) ?_
        rw [clampN (by omega)]
        exact lGo.done rfl (fun _ => rfl)
theorem sp_219 {e n xb k : Nat} {L : List Value} (hn : n ≤ 300000) (hk : k < n) (hL : n ≤ L.length) (hc : L.length ≤ 300000) (he : M.1 e = some (true, true, 6, L)) (hx : qE ky M (.ref xb)) (hq : ∀ i, i < n → i ≠ k → qE ky M (L.getD i .null)) : ∃ L', L'.length = L.length ∧ L'.Perm (L.set k (.ref xb)) ∧ L'.drop n = L.drop n ∧ (HU (fun i => ky ((L.set k (.ref xb)).getD i .null)) k n → HpF (fun i => ky (L'.getD i .null)) n) ∧ lSp E prog 4 219 [.int (Int32.ofNat k), .ref xb, .ref e] M (.inl none, (lUpd M.1 e (true, true, 6, L'), M.2.1, M.2.2)) := by
  obtain ⟨L', q1, q2, q3, q4, q5⟩ := up_lp (E := E) hn k k (Nat.le_refl _) L M (st1 3 (.ref xb) (lv_args 0 [.int (Int32.ofNat k), .ref xb, .ref e])) hk hL hc he hx hq rfl rfl rfl
  refine ⟨L', q1, q2, q3, q4, ?_⟩
  obtain ⟨xb', xw, xe, xg⟩ := id hx
  cases xe
  refine lGo.sp (D := 3) pg_219 (Nat.le_of_ble_eq_true rfl) ?_
  refine lGo.step rfl (fun _ => rfl) ?_; dsimp only
  refine lGo.cast rfl xg rfl ?_
  refine lGo.step rfl (fun _ => rfl) ?_; dsimp only
  exact q5 0
theorem sp_217 {a e n xb k : Nat} {L : List Value} {x y : Value} {wa : Bool} (ga : M.1 a = some (wa, false, 37, [.ref e, x, .null, y])) (hn : n ≤ 300000) (hk : k < n) (hL : n ≤ L.length) (hc : L.length ≤ 300000) (he : M.1 e = some (true, true, 6, L)) (hx : qE ky M (.ref xb)) (hq : ∀ i, i < n → i ≠ k → qE ky M (L.getD i .null)) : ∃ L', L'.length = L.length ∧ L'.Perm (L.set k (.ref xb)) ∧ L'.drop n = L.drop n ∧ (HU (fun i => ky ((L.set k (.ref xb)).getD i .null)) k n → HpF (fun i => ky (L'.getD i .null)) n) ∧ lSp E prog 5 217 [.ref a, .int (Int32.ofNat k), .ref xb] M (.inl none, (lUpd M.1 e (true, true, 6, L'), M.2.1, M.2.2)) := by
  obtain ⟨L', q1, q2, q3, q4, q5⟩ := sp_219 (E := E) hn hk hL hc he hx hq
  refine ⟨L', q1, q2, q3, q4, ?_⟩
  refine lGo.sp (D := 4) pg_217 (Nat.le_of_ble_eq_true rfl) ?_
  refine lGo.step rfl (fun _ => rfl) ?_; dsimp only
  refine lGo.get rfl ga rfl rfl ?_
  refine lGo.step rfl (fun _ => rfl) ?_; dsimp only
  refine lGo.step rfl (fun _ => rfl) ?_; dsimp only
  refine lGo.step rfl (fun _ => rfl) ?_; dsimp only
  refine lGo.step rfl (fun _ => rfl) ?_; dsimp only
  refine lGo.get rfl ga rfl rfl ?_
  refine lGo.call (n := 3) rfl ⟨Nat.le_of_ble_eq_true rfl, Nat.le_of_ble_eq_true rfl⟩ q5 ?_
  exact lGo.done rfl (fun _ => rfl)
/-- siftDownComparable's loop -/
theorem dn_lp {e n xb h : Nat} (hn : n ≤ 300000) (hh : h = n / 2) : ∀ (d k : Nat), n ≤ k + d → ∀ (L : List Value) (M : lMem) (lv : lL), k < n → n ≤ L.length → L.length ≤ 300000 → M.1 e = some (true, true, 6, L) → qE ky M (.ref xb) → (∀ i, i < n → i ≠ k → qE ky M (L.getD i .null)) → lGet lv 0 = some (.int (Int32.ofNat k)) → lGet lv 2 = some (.ref e) → lGet lv 3 = some (.int (Int32.ofNat n)) → lGet lv 4 = some (.ref xb) → lGet lv 5 = some (.int (Int32.ofNat h)) → ∃ L', L'.length = L.length ∧ L'.Perm (L.set k (.ref xb)) ∧ L'.drop n = L.drop n ∧ (HDn (fun i => ky ((L.set k (.ref xb)).getD i .null)) k n → HpF (fun i => ky (L'.getD i .null)) n) ∧ ∀ D, lGo E prog (D + 3) cd_221 7 (lv, [], M) (.inl none, (lUpd M.1 e (true, true, 6, L'), M.2.1, M.2.2)) := by
  intro d
  induction d with
  | zero =>
    intro k hkd L M lv hk
    omega
  | succ d ih =>
    intro k hkd L M lv hk hL hc he hx hq l0 l2 l3 l4 l5
    have hne : ∀ w fs, M.1 e ≠ some (w, false, 19, fs) := fun w fs z => by
      rw [he] at z
      cases z
    by_cases hkh : k < h
    case neg =>
      refine ⟨L.set k (.ref xb), List.length_set .., List.Perm.refl _, drop_set' hk, fun z => HD_end z (fun d hd hdn hdk => by omega), fun D => ?_⟩
      refine lGo.loadI rfl l0 ?_
      refine lGo.loadI rfl l5 ?_
      refine lGo.step rfl (fun _ => rfl) ?_; dsimp only
      refine lGo.brT (decide_eq_true ((i_le (by omega) (by omega)).mpr (by omega))) ?_
      refine lGo.loadA rfl l2 ?_
      refine lGo.loadI rfl l0 ?_
      refine lGo.loadA rfl l4 ?_
      refine lGo.rsv rfl he hx.ok (i_nlt0 (by omega)) (by rw [clampN (by omega)]; omega) ?_
      rw [clampN (by omega)]
      exact lGo.done rfl (fun _ => rfl)
    obtain ⟨xb', xw, xe, xg⟩ := id hx
    cases xe
    -- the lesser child, read
    obtain ⟨c, cb, lv', hc1, hc2, hc3, hc4, m0, m2, m3, m4, m5, m6, m7, walk⟩ : ∃ (c cb : Nat) (lv' : lL), (c - 1) / 2 = k ∧ 0 < c ∧ c < n ∧ (∀ d, 0 < d → d < n → (d - 1) / 2 = k → ky (L.getD c .null) ≤ ky (L.getD d .null)) ∧ lGet lv' 0 = some (.int (Int32.ofNat k)) ∧ lGet lv' 2 = some (.ref e) ∧ lGet lv' 3 = some (.int (Int32.ofNat n)) ∧ lGet lv' 4 = some (.ref xb) ∧ lGet lv' 5 = some (.int (Int32.ofNat h)) ∧ lGet lv' 6 = some (.int (Int32.ofNat c)) ∧ (lGet lv' 7 = some (.ref cb) ∧ L.getD c .null = .ref cb) ∧ ∀ {D : Nat} {fin : lF}, lGo E prog (D + 3) cd_221 40 (lv', [], M) fin → lGo E prog (D + 3) cd_221 7 (lv, [], M) fin := by
      have q1 := hq (2 * k + 1) (by omega) (by omega)
      obtain ⟨b1, w1, e1, g1⟩ := id q1
      have sl : Int32.ofNat k <<< ((1 : Int32) &&& 31) + 1 = Int32.ofNat (2 * k + 1) := by
        rw [show ((1 : Int32) &&& 31) = Int32.ofNat 1 from by decide, i_shl (by decide), i_suc, Nat.pow_one, Nat.mul_comm]
      have s2 : Int32.ofNat (2 * k + 1) + 1 = Int32.ofNat (2 * k + 2) := i_suc _
      have walk0 : ∀ {D : Nat} {fin : lF}, lGo E prog (D + 3) cd_221 24 (st1 8 (.int (Int32.ofNat (2 * k + 2))) (st1 7 (.ref b1) (st1 6 (.int (Int32.ofNat (2 * k + 1))) lv)), [], M) fin → lGo E prog (D + 3) cd_221 7 (lv, [], M) fin := by
        intro D fin hw
        refine lGo.loadI rfl l0 ?_
        refine lGo.loadI rfl l5 ?_
        refine lGo.step rfl (fun _ => rfl) ?_; dsimp only
        refine lGo.brF (decide_eq_false (fun w => by have := (i_le (by omega) (by omega)).mp w; omega)) ?_
        refine lGo.loadI rfl l0 ?_
        refine lGo.step rfl (fun _ => rfl) ?_; dsimp only
        refine lGo.step rfl (fun _ => rfl) ?_; dsimp only
        refine lGo.step rfl (fun _ => rfl) ?_; dsimp only
        refine lGo.step rfl (fun _ => rfl) ?_; dsimp only
        rw [sl]
        refine lGo.step rfl (fun _ => rfl) ?_; dsimp only
        refine lGo.loadA rfl (x := e) (by repeat (first | assumption | exact lGet_s1 | refine lGet_sn ?_ (by decide) (by first | exact Or.inl (by decide) | exact Or.inr rfl))) ?_
        refine lGo.loadI rfl lGet_s1 ?_
        refine lGo.ald rfl he rfl (i_nlt0 (by omega)) (by rw [clampN (by omega)]; exact gD_get (by omega)) ?_
        rw [e1]
        refine lGo.step rfl (fun _ => rfl) ?_; dsimp only
        refine lGo.loadI rfl (x := Int32.ofNat (2 * k + 1)) (by repeat (first | assumption | exact lGet_s1 | refine lGet_sn ?_ (by decide) (by first | exact Or.inl (by decide) | exact Or.inr rfl))) ?_
        refine lGo.step rfl (fun _ => rfl) ?_; dsimp only
        refine lGo.step rfl (fun _ => rfl) ?_; dsimp only
        rw [s2]
        refine lGo.step rfl (fun _ => rfl) ?_; dsimp only
        exact hw
      obtain ⟨lw, hlw⟩ : ∃ lw, lw = st1 8 (.int (Int32.ofNat (2 * k + 2))) (st1 7 (.ref b1) (st1 6 (.int (Int32.ofNat (2 * k + 1))) lv)) := ⟨_, rfl⟩
      rw [← hlw] at walk0
      have w0 : lGet lw 0 = some (.int (Int32.ofNat k)) := by
        rw [hlw]
        repeat (first | assumption | exact lGet_s1 | refine lGet_sn ?_ (by decide) (by first | exact Or.inl (by decide) | exact Or.inr rfl))
      have w2 : lGet lw 2 = some (.ref e) := by
        rw [hlw]
        repeat (first | assumption | exact lGet_s1 | refine lGet_sn ?_ (by decide) (by first | exact Or.inl (by decide) | exact Or.inr rfl))
      have w3 : lGet lw 3 = some (.int (Int32.ofNat n)) := by
        rw [hlw]
        repeat (first | assumption | exact lGet_s1 | refine lGet_sn ?_ (by decide) (by first | exact Or.inl (by decide) | exact Or.inr rfl))
      have w4 : lGet lw 4 = some (.ref xb) := by
        rw [hlw]
        repeat (first | assumption | exact lGet_s1 | refine lGet_sn ?_ (by decide) (by first | exact Or.inl (by decide) | exact Or.inr rfl))
      have w5 : lGet lw 5 = some (.int (Int32.ofNat h)) := by
        rw [hlw]
        repeat (first | assumption | exact lGet_s1 | refine lGet_sn ?_ (by decide) (by first | exact Or.inl (by decide) | exact Or.inr rfl))
      have w6 : lGet lw 6 = some (.int (Int32.ofNat (2 * k + 1))) := by
        rw [hlw]
        repeat (first | assumption | exact lGet_s1 | refine lGet_sn ?_ (by decide) (by first | exact Or.inl (by decide) | exact Or.inr rfl))
      have w7 : lGet lw 7 = some (.ref b1) := by
        rw [hlw]
        repeat (first | assumption | exact lGet_s1 | refine lGet_sn ?_ (by decide) (by first | exact Or.inl (by decide) | exact Or.inr rfl))
      have w8 : lGet lw 8 = some (.int (Int32.ofNat (2 * k + 2))) := by
        rw [hlw]
        repeat (first | assumption | exact lGet_s1 | refine lGet_sn ?_ (by decide) (by first | exact Or.inl (by decide) | exact Or.inr rfl))
      by_cases hr : 2 * k + 2 < n
      · have q2 := hq (2 * k + 2) (by omega) (by omega)
        obtain ⟨b2, v2, e2, g2⟩ := id q2
        have walk1 : ∀ {D : Nat} {fin : lF}, lGo E prog (D + 3) cd_221 33 (lw, [.int (cmpI (ky (L.getD (2 * k + 1) .null)) (ky (L.getD (2 * k + 2) .null)))], M) fin → lGo E prog (D + 3) cd_221 7 (lv, [], M) fin := by
          intro D fin hw
          refine walk0 ?_
          refine lGo.loadI rfl w8 ?_
          refine lGo.loadI rfl w3 ?_
          refine lGo.step rfl (fun _ => rfl) ?_; dsimp only
          refine lGo.brF (decide_eq_false (fun w => by have := (i_le (by omega) (by omega)).mp w; omega)) ?_
          refine lGo.loadA rfl w7 ?_
          refine lGo.cast rfl g1 rfl ?_
          refine lGo.loadA rfl w2 ?_
          refine lGo.loadI rfl w8 ?_
          refine lGo.ald rfl he rfl (i_nlt0 (by omega)) (by rw [clampN (by omega)]; exact gD_get (by omega)) ?_
          rw [e2]
          refine lGo.callV rfl rfl g1 rfl ⟨Nat.le_of_ble_eq_true rfl, Nat.le_of_ble_eq_true rfl⟩ ((sp_103 g1 g2).mono (Nat.le_add_left _ _)) ?_
          exact hw
        by_cases z : ky (L.getD (2 * k + 2) .null) < ky (L.getD (2 * k + 1) .null)
        · refine ⟨2 * k + 2, b2, st1 7 (.ref b2) (st1 6 (.int (Int32.ofNat (2 * k + 2))) lw), by omega, by omega, hr, fun d hd hdn hdk => ?_, by repeat (first | assumption | exact lGet_s1 | refine lGet_sn ?_ (by decide) (by first | exact Or.inl (by decide) | exact Or.inr rfl)), by repeat (first | assumption | exact lGet_s1 | refine lGet_sn ?_ (by decide) (by first | exact Or.inl (by decide) | exact Or.inr rfl)), by repeat (first | assumption | exact lGet_s1 | refine lGet_sn ?_ (by decide) (by first | exact Or.inl (by decide) | exact Or.inr rfl)), by repeat (first | assumption | exact lGet_s1 | refine lGet_sn ?_ (by decide) (by first | exact Or.inl (by decide) | exact Or.inr rfl)), by repeat (first | assumption | exact lGet_s1 | refine lGet_sn ?_ (by decide) (by first | exact Or.inl (by decide) | exact Or.inr rfl)), by repeat (first | assumption | exact lGet_s1 | refine lGet_sn ?_ (by decide) (by first | exact Or.inl (by decide) | exact Or.inr rfl)), ⟨lGet_s1, e2⟩, fun hw => walk1 ?_⟩
          · rcases (show d = 2 * k + 1 ∨ d = 2 * k + 2 by omega) with q | q
            · rw [q]
              exact Int32.le_of_lt z
            · rw [q]
              exact Int32.le_refl _
          · refine lGo.step rfl (fun _ => rfl) ?_; dsimp only
            refine lGo.brF (decide_eq_false (fun w => Int32.not_lt.mpr (cmp_le0.mp w) z)) ?_
            refine lGo.loadA rfl w2 ?_
            refine lGo.loadI rfl w8 ?_
            refine lGo.step rfl (fun _ => rfl) ?_; dsimp only
            refine lGo.step rfl (fun _ => rfl) ?_; dsimp only
            refine lGo.ald rfl he rfl (i_nlt0 (by omega)) (by rw [clampN (by omega)]; exact gD_get (by omega)) ?_
            rw [e2]
            refine lGo.step rfl (fun _ => rfl) ?_; dsimp only
            exact hw
        · refine ⟨2 * k + 1, b1, lw, by omega, by omega, by omega, fun d hd hdn hdk => ?_, w0, w2, w3, w4, w5, w6, ⟨w7, e1⟩, fun hw => walk1 ?_⟩
          · rcases (show d = 2 * k + 1 ∨ d = 2 * k + 2 by omega) with q | q
            · rw [q]
              exact Int32.le_refl _
            · rw [q]
              exact Int32.not_lt.mp z
          · refine lGo.step rfl (fun _ => rfl) ?_; dsimp only
            refine lGo.brT (decide_eq_true (cmp_le0.mpr (Int32.not_lt.mp z))) ?_
            exact hw
      · refine ⟨2 * k + 1, b1, lw, by omega, by omega, by omega, fun d hd hdn hdk => ?_, w0, w2, w3, w4, w5, w6, ⟨w7, e1⟩, fun hw => walk0 ?_⟩
        · rw [show d = 2 * k + 1 by omega]
          exact Int32.le_refl _
        · refine lGo.loadI rfl w8 ?_
          refine lGo.loadI rfl w3 ?_
          refine lGo.step rfl (fun _ => rfl) ?_; dsimp only
          refine lGo.brT (decide_eq_true ((i_le (by omega) (by omega)).mpr (by omega))) ?_
          exact hw
    obtain ⟨m7, ec⟩ := m7
    have qc := hq c hc3 (by omega)
    have gc : ∃ w, M.1 cb = some (w, false, 19, [.int (ky (L.getD c .null))]) := by
      obtain ⟨b, w, e', g⟩ := id qc
      have e'' := ec.symm.trans e'
      cases e''
      exact ⟨w, g⟩
    obtain ⟨wc, gc⟩ := gc
    have walk2 : ∀ {D : Nat} {fin : lF}, lGo E prog (D + 3) cd_221 43 (lv', [.int (cmpI (ky (.ref xb)) (ky (L.getD c .null)))], M) fin → lGo E prog (D + 3) cd_221 7 (lv, [], M) fin := by
      intro D fin hw
      refine walk ?_
      refine lGo.loadA rfl m4 ?_
      refine lGo.loadA rfl m7 ?_
      refine lGo.callV rfl rfl xg rfl ⟨Nat.le_of_ble_eq_true rfl, Nat.le_of_ble_eq_true rfl⟩ ((sp_103 xg gc).mono (Nat.le_add_left _ _)) ?_
      exact hw
    by_cases z : ky (L.getD c .null) < ky (.ref xb)
    · obtain ⟨L', q1, q2, q3, q4, q5⟩ := ih c (by omega) (L.set k (L.getD c .null)) (lUpd M.1 e (true, true, 6, L.set k (L.getD c .null)), M.2.1, M.2.2) (st1 0 (.int (Int32.ofNat c)) lv') hc3 (by rw [List.length_set]; exact hL) (by rw [List.length_set]; exact hc) (lUpd_eq ..) (hx.upd hne) (fun i hi hip => by
        rw [set_gD (by omega)]
        by_cases w : i = k
        · rw [if_pos w]
          exact qc.upd hne
        · rw [if_neg w]
          exact (hq i hi w).upd hne) lGet_s1 (by repeat (first | assumption | exact lGet_s1 | refine lGet_sn ?_ (by decide) (by first | exact Or.inl (by decide) | exact Or.inr rfl))) (by repeat (first | assumption | exact lGet_s1 | refine lGet_sn ?_ (by decide) (by first | exact Or.inl (by decide) | exact Or.inr rfl))) (by repeat (first | assumption | exact lGet_s1 | refine lGet_sn ?_ (by decide) (by first | exact Or.inl (by decide) | exact Or.inr rfl))) (by repeat (first | assumption | exact lGet_s1 | refine lGet_sn ?_ (by decide) (by first | exact Or.inl (by decide) | exact Or.inr rfl)))
      rw [List.length_set] at q1
      rw [drop_set' hk] at q3
      refine ⟨L', q1, q2.trans (set_sw (by omega) (by omega) (by omega)), q3, fun hu => ?_, fun D => walk2 ?_⟩
      · refine q4 ?_
        rw [sw_fn ky (by omega) (by omega) (by omega)]
        refine HD_st hu hc2 hc3 hc1 ?_ (fun d hd hdn hdk => ?_)
        · rw [set_gD (by omega), if_neg (by omega), set_gD (by omega), if_pos rfl]
          exact z
        · rw [set_gD (by omega), if_neg (by omega), set_gD (by omega), if_neg (by omega)]
          exact hc4 d hd hdn hdk
      · refine lGo.step rfl (fun _ => rfl) ?_; dsimp only
        refine lGo.brT (decide_eq_true (cmp_gt0.mpr z)) ?_
        refine lGo.loadA rfl m2 ?_
        refine lGo.loadI rfl m0 ?_
        refine lGo.loadA rfl m7 ?_
        refine lGo.rsv rfl he (ec ▸ qc.ok) (i_nlt0 (by omega)) (by rw [clampN (by omega)]; omega) ?_
        rw [clampN (by omega)]
        refine lGo.loadI rfl m6 ?_
        refine lGo.step rfl (fun _ => rfl) ?_; dsimp only
        refine lGo.step rfl (fun _ => rfl) ?_; dsimp only
        have := q5 D
        dsimp only at this
        rw [lUpdU, ec] at this
        exact this
    · refine ⟨L.set k (.ref xb), List.length_set .., List.Perm.refl _, drop_set' hk, fun hu => HD_end hu (fun d hd hdn hdk => ?_), fun D => walk2 ?_⟩
      · rw [set_gD (by omega), if_pos rfl, set_gD (by omega), if_neg (by omega)]
        exact Int32.le_trans (Int32.not_lt.mp z) (hc4 d hd hdn hdk)
      · refine lGo.step rfl (fun _ => rfl) ?_; dsimp only
        refine lGo.brF (decide_eq_false (fun w => z (cmp_gt0.mp w))) ?_
        refine lGo.step rfl (fun _ => rfl) ?_; dsimp only
        refine lGo.loadA rfl m2 ?_
        refine lGo.loadI rfl m0 ?_
        refine lGo.loadA rfl m4 ?_
        refine lGo.rsv rfl he hx.ok (i_nlt0 (by omega)) (by rw [clampN (by omega)]; omega) ?_
        rw [clampN (by omega)]
        exact lGo.done rfl (fun _ => rfl)
theorem sp_221 {e n xb : Nat} {L : List Value} (hn : n ≤ 300000) (hk : 0 < n) (hL : n ≤ L.length) (hc : L.length ≤ 300000) (he : M.1 e = some (true, true, 6, L)) (hx : qE ky M (.ref xb)) (hq : ∀ i, i < n → i ≠ 0 → qE ky M (L.getD i .null)) : ∃ L', L'.length = L.length ∧ L'.Perm (L.set 0 (.ref xb)) ∧ L'.drop n = L.drop n ∧ (HDn (fun i => ky ((L.set 0 (.ref xb)).getD i .null)) 0 n → HpF (fun i => ky (L'.getD i .null)) n) ∧ lSp E prog 4 221 [.int 0, .ref xb, .ref e, .int (Int32.ofNat n)] M (.inl none, (lUpd M.1 e (true, true, 6, L'), M.2.1, M.2.2)) := by
  obtain ⟨L', q1, q2, q3, q4, q5⟩ := dn_lp (E := E) hn rfl n 0 (by omega) L M (st1 5 (.int (Int32.ofNat (n / 2))) (st1 4 (.ref xb) (lv_args 0 [.int 0, .ref xb, .ref e, .int (Int32.ofNat n)]))) hk hL hc he hx hq rfl rfl rfl rfl rfl
  refine ⟨L', q1, q2, q3, q4, ?_⟩
  obtain ⟨xb', xw, xe, xg⟩ := id hx
  cases xe
  have us := uSh1 (n := n) (by omega)
  unfold uSh at us
  refine lGo.sp (D := 3) pg_221 (Nat.le_of_ble_eq_true rfl) ?_
  refine lGo.step rfl (fun _ => rfl) ?_; dsimp only
  refine lGo.cast rfl xg rfl ?_
  refine lGo.step rfl (fun _ => rfl) ?_; dsimp only
  refine lGo.step rfl (fun _ => rfl) ?_; dsimp only
  refine lGo.step rfl (fun _ => rfl) ?_; dsimp only
  refine lGo.step rfl (fun _ => rfl) ?_; dsimp only
  rw [us]
  refine lGo.step rfl (fun _ => rfl) ?_; dsimp only
  exact q5 0
end
