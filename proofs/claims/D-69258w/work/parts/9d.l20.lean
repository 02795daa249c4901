/-! the lifts: the component looks for a car's best row of a set -/
/-- what stands while rows grow -/
def GE (s : CS) (t : TS) (n : Nat) (f : Nat → Nat) (k : Nat) (C D : Nat → Nat) (bk : Option Nat) (TR RL T : Nat) : Prop :=
  s.1 TR = some (true, false, 97, [.ref (C k), .ref RL, .ref T, .ref 162]) ∧ (∃ (hm : Int32) (lst : Int64), s.1 162 = some (true, false, 49, [.ref 163, .ref 164, .int (t.1 606), .int (t.1 612), .int hm, .int (t.1 1), .ref 165, .ref 166, .ref 167, .ref 168, .long lst, .ref 169])) ∧ (∃ mc : Int32, s.1 165 = some (true, false, 1013, .int mc :: rowC (fun i => .ref (D (f i))) n)) ∧ s.1 (C k) = some (carC t C D bk k) ∧ ∀ i, i < n → s.1 (D (f i)) = some (calC t C (f i))
def rwK (A n c : Nat) : lCell := (true, false, 98, [.ref A, .int (Int32.ofNat n), .long (Int64.ofNat c)])
def arK (s : CS) (A : Nat) (f : Nat → Nat) (p : List Nat) : Prop := ∃ g : Nat → Int32, s.1 A = some (true, true, 0, rowC (fun i => .int (g i)) 6) ∧ ∀ i, i < p.length → g i = Int32.ofNat (f (p.getD i 0))
/-- the row that is tried (pt, its cost), the best one so far -/
def GS (s0 s : CS) (T TA B BA : Nat) (f : Nat → Nat) (pt : List Nat) (ct : Nat) (b : Nat × List Nat) : Prop :=
  s.1 T = some (rwK TA pt.length ct) ∧ arK s TA f pt ∧ s.1 B = some (rwK BA b.2.length b.1) ∧ arK s BA f b.2 ∧ (∀ q, q ≠ T → q ≠ TA → q ≠ B → q ≠ BA → s.1 q = s0.1 q) ∧ s.2 = s0.2
theorem ge_st {s0 s : CS} {t : TS} {n k : Nat} {f C D : Nat → Nat} {bk : Option Nat} {TR RL T TA B BA : Nat} {p0 : List Nat} {c0 : Nat} {b0 : Nat × List Nat} {p1 : List Nat} {c1 : Nat} {b1 : Nat × List Nat} (e : GE s0 t n f k C D bk TR RL T) (z : GS s0 s0 T TA B BA f p0 c0 b0) (w : GS s0 s T TA B BA f p1 c1 b1) : GE s t n f k C D bk TR RL T := by
  obtain ⟨e1, ⟨hm, lst, e2⟩, ⟨mc, e3⟩, e4, e5⟩ := e
  obtain ⟨z1, ⟨g, z2, _⟩, z3, ⟨g', z4, _⟩, _⟩ := z
  have key : ∀ q c, s0.1 q = some c → c.2.2.1 ≠ 98 → c.2.2.1 ≠ 0 → s.1 q = some c := by
    intro q c h h1 h2
    rw [w.2.2.2.2.1 q (apart h z1 h1) (apart h z2 h2) (apart h z3 h1) (apart h z4 h2)]; exact h
  exact ⟨key _ _ e1 (by show (97 : Nat) ≠ 98; omega) (by show (97 : Nat) ≠ 0; omega), ⟨hm, lst, key _ _ e2 (by show (49 : Nat) ≠ 98; omega) (by show (49 : Nat) ≠ 0; omega)⟩, ⟨mc, key _ _ e3 (by show (1013 : Nat) ≠ 98; omega) (by show (1013 : Nat) ≠ 0; omega)⟩, key _ _ e4 (by show (95 : Nat) ≠ 98; omega) (by show (95 : Nat) ≠ 0; omega), fun i hi => key _ _ (e5 i hi) (by show (96 : Nat) ≠ 98; omega) (by show (96 : Nat) ≠ 0; omega)⟩
theorem i_abs {a b : Nat} (ha : a < 1000) (hb : b < 1000) (s : CS) : c_49 (Int32.ofNat a - Int32.ofNat b) s = some (Int32.ofNat (if a < b then b - a else a - b)) := by
  unfold c_49
  by_cases h : a < b
  · have e : Int32.ofNat a - Int32.ofNat b < 0 := by
      have : Int32.ofNat a - Int32.ofNat b = -(Int32.ofNat (b - a)) := by
        rw [← i_sub (by omega), Int32.neg_sub]
      rw [this, Int32.lt_iff_toInt_lt, Int32.toInt_neg, i_toInt (by omega)]
      show ((-((b - a : Nat) : Int)).bmod (2 ^ 32) : Int) < 0
      rw [Int.bmod_eq_of_le (by omega) (by omega)]
      omega
    rw [if_pos e, if_pos h, Int32.neg_sub, i_sub (by omega)]
  · rw [i_sub (by omega), if_neg (i_nlt0 (by omega)), if_neg h]
theorem c_way {s : CS} {t : TS} {nc n k a b : Nat} {f C D : Nat → Nat} {bk : Option Nat} (v : Lv t nc n f) (hk : k < nc) (h : s.1 (C k) = some (carC t C D bk k)) (ha : a < 60) (hb : b < 60) : c_1074 (C k) (Int32.ofNat a) (Int32.ofNat b) s = some (Int32.ofNat (wyN t k a b)) := by
  unfold c_1074 wyN
  rw [xI_o (x := t.2.2.1 158 k) h rfl rfl, Option.bind_some, i_abs (by omega) (by omega), Option.bind_some]
  conv => lhs; rw [(v.2.2.2.2.1 k hk).1.1]
  rw [i_mul]
theorem c_weight {s : CS} {t : TS} {nc n i : Nat} {f C D : Nat → Nat} (v : Lv t nc n f) (hi : i < n) (h : s.1 (D (f i)) = some (calC t C (f i))) : c_1076 (D (f i)) (t.1 612) s = some (Int32.ofNat (wtN t (f i))) := by
  obtain ⟨_, hn, _, ⟨h1, h2⟩, hc, hf, _⟩ := v
  obtain ⟨h3, ⟨_, _, h4, h5⟩, _⟩ := hf i hi
  unfold c_1076 wtN
  rw [xI_o (x := t.2.2.1 165 (f i)) h rfl rfl, Option.bind_some]
  conv => lhs; rw [h1, h4]
  rw [i_sub h5, i_divL (by omega) (by omega), i_Ladd]
/-- the best one becomes the row that is tried -/
theorem c_take {s0 s : CS} {T TA B BA : Nat} {f : Nat → Nat} {pt : List Nat} {ct : Nat} {b : Nat × List Nat} (w : GS s0 s T TA B BA f pt ct b) (hTB : T ≠ B) (hAA : TA ≠ BA) (hp : pt.length ≤ 6) : Tr (c_1083 B T s) (fun s' => GS s0 s' T TA B BA f pt ct (ct, pt)) := by
  obtain ⟨w1, ⟨g, w2, w2'⟩, w3, ⟨g', w4, w4'⟩, w5, w6⟩ := w
  have n1 : T ≠ TA := apart w1 w2 (by show (98 : Nat) ≠ 0; omega)
  have n2 : T ≠ BA := apart w1 w4 (by show (98 : Nat) ≠ 0; omega)
  have n3 : B ≠ TA := apart w3 w2 (by show (98 : Nat) ≠ 0; omega)
  have n4 : B ≠ BA := apart w3 w4 (by show (98 : Nat) ≠ 0; omega)
  unfold c_1083
  refine Tr.bd (P := fun S => S.1 T = some (rwK TA pt.length ct) ∧ S.1 TA = some (true, true, 0, rowC (fun i => .int (g i)) 6) ∧ S.1 B = some (rwK BA b.2.length b.1) ∧ S.1 BA = some (true, true, 0, rowC (fun i => .int (g i)) 6) ∧ (∀ q, q ≠ T → q ≠ TA → q ≠ B → q ≠ BA → S.1 q = s0.1 q) ∧ S.2 = s0.2) (wh_cnt 6 (fun i a => a.2 = Int32.ofNat i ∧ a.1.1 T = some (rwK TA pt.length ct) ∧ a.1.1 TA = some (true, true, 0, rowC (fun i => .int (g i)) 6) ∧ a.1.1 B = some (rwK BA b.2.length b.1) ∧ a.1.1 BA = some (true, true, 0, rowC (fun j => .int (if j < i then g j else g' j)) 6) ∧ (∀ q, q ≠ T → q ≠ TA → q ≠ B → q ≠ BA → a.1.1 q = s0.1 q) ∧ a.1.2 = s0.2) ?_ ?_ ⟨rfl, w1, w2, w3, by rw [w4]; rfl, w5, w6⟩) ?_
  · rintro i ⟨S, a⟩ hi ⟨ha, k1, k2, k3, k4, k5, k6⟩
    dsimp only at ha k1 k2 k3 k4 k5 k6 ⊢
    subst ha
    refine Or.inr ⟨(cup S BA (true, true, 0, rowC (fun j => if j = i then .int (g i) else .int (if j < i then g j else g' j)) 6), Int32.ofNat (i + 1)), ?_, rfl, (cup_ne n2).trans k1, (cup_ne hAA).trans k2, (cup_ne n4).trans k3, ?_, fun q h1 h2 h3 h4 => (cup_ne h4).trans (k5 q h1 h2 h3 h4), k6⟩
    · rw [if_pos ((i_ltL (by omega) (by omega)).mpr hi), xN_o k3 rfl rfl, Option.bind_some, xN_o k1 rfl rfl, Option.bind_some, aI_r (x := g i) k2 (by omega) rfl hi (by omega) rfl, Option.bind_some, aPut_r k4 hi (by omega), Option.bind_some, i_suc]
    · dsimp only
      rw [cup_eq]
      congr 4
      refine rowC_congr (fun j hj => ?_)
      by_cases y : j = i
      · rw [if_pos y, if_pos (by omega), y]
      · rw [if_neg y]
        by_cases y2 : j < i
        · rw [if_pos y2, if_pos (by omega)]
        · rw [if_neg y2, if_neg (by omega)]
  · rintro ⟨S, a⟩ ⟨ha, k1, k2, k3, k4, k5, k6⟩
    dsimp only at ha k1 k2 k3 k4 k5 k6 ⊢
    subst ha
    refine ⟨S, by rw [if_neg (by rw [i_ltL (by omega) (by omega)]; omega)], k1, k2, k3, ?_, k5, k6⟩
    have hrow : rowC (fun j => Value.int (if j < 6 then g j else g' j)) 6 = rowC (fun i => Value.int (g i)) 6 := rowC_congr (fun j hj => by rw [if_pos hj])
    rw [k4, hrow]
  · rintro S ⟨k1, k2, k3, k4, k5, k6⟩
    rw [xI_o k1 rfl rfl, Option.bind_some, xP_c (fs' := [.ref BA, .int (Int32.ofNat pt.length), .long (Int64.ofNat b.1)]) k3 rfl (by simp) rfl, Option.bind_some, xL_o ((cup_ne hTB).trans k1) rfl rfl, Option.bind_some, xP_c (fs' := [.ref BA, .int (Int32.ofNat pt.length), .long (Int64.ofNat ct)]) (cup_eq ..) rfl (by simp) rfl, Option.bind_some, cupU]
    refine ⟨_, rfl, (cup_ne hTB).trans k1, ⟨g, (cup_ne n3.symm).trans k2, w2'⟩, cup_eq .., ⟨g, (cup_ne n4.symm).trans k4, w2'⟩, fun q h1 h2 h3 h4 => (cup_ne h3).trans (k5 q h1 h2 h3 h4), k6⟩
/-! sets as numbers below 64 -/
theorem clr6 : ∀ σ : Fin 64, ∀ k : Fin 6, bt σ.val k.val = 1 → Int32.ofNat σ.val &&& (((1 : Int32) <<< (Int32.ofNat k.val &&& 31)) ^^^ (-1)) = Int32.ofNat (σ.val - 2 ^ k.val) ∧ 2 ^ k.val ≤ σ.val ∧ ∀ j : Fin 6, bt (σ.val - 2 ^ k.val) j.val = if j = k then 0 else bt σ.val j.val := by decide +kernel
theorem plL_clr {n σ k : Nat} (hn : n ≤ 6) (hσ : σ < 64) (hk : k < n) (hb : bt σ k = 1) : plL n (σ - 2 ^ k) = (plL n σ).erase k := by
  have hnd : (plL n σ).Nodup := (plL_pw n σ).imp (fun h => Nat.ne_of_lt h)
  rw [hnd.erase_eq_filter]
  unfold plL
  rw [List.filter_filter]
  refine List.filter_congr (fun j hj => ?_)
  rw [List.mem_range] at hj
  have := (clr6 ⟨σ, hσ⟩ ⟨k, by omega⟩ hb).2.2 ⟨j, by omega⟩
  simp only [Fin.mk.injEq] at this
  rw [this]
  by_cases y : j = k
  · subst y; simp
  · simp [y]
theorem plL_0 {n σ : Nat} (hn : n ≤ 6) (hσ : σ < 2 ^ n) : plL n σ = [] ↔ σ = 0 := by
  constructor
  · intro h
    have hz : ∀ k, k < n → bt σ k = 0 := by
      intro k hk
      have := bt_2 σ k
      rcases this with e | e
      · exact e
      · have := plL_mem.mpr ⟨hk, e⟩
        rw [h] at this; cases this
    have h64 := pow_n6 hn
    have : ∀ σ : Fin 64, (∀ k : Fin 6, bt σ.val k.val = 0) → σ.val = 0 := by decide +kernel
    refine this ⟨σ, by omega⟩ (fun k => ?_)
    by_cases y : k.val < n
    · exact hz _ y
    · exact bt_hi hσ (by omega)
  · rintro rfl
    rw [List.eq_nil_iff_forall_not_mem]
    intro k hk
    have := (plL_mem.mp hk).2
    unfold bt at this
    simp at this
/-- whether what the car has begun is in the set -/
theorem c_has {s : CS} {t : TS} {nc n k σ c0 : Nat} {f C D : Nat → Nat} {bk : Option Nat} {TR RL T : Nat} (v : Lv t nc n f) (e : GE s t n f k C D bk TR RL T) (hσ : σ < 64) (hbk : bk = some c0) (hB : ∀ i, i < n → (begB t f k i = true ↔ bk = some (f i))) (hD : ∀ c, bk = some c → ∀ i, i < n → D (f i) = D c → f i = c) (hu : ∀ x y, x < n → y < n → begB t f k x = true → begB t f k y = true → x = y) : c_1080 TR (Int32.ofNat σ) (D c0) s = some (if (plL n σ).any (begB t f k) = true then 1 else 0) := by
  suffices q : Tr (c_1080 TR (Int32.ofNat σ) (D c0) s) (fun x => x = if (plL n σ).any (begB t f k) = true then 1 else 0) by
    obtain ⟨x, h1, h2⟩ := q
    rw [h1, h2]
  obtain ⟨e1, ⟨hm, lst, e2⟩, ⟨mc, e3⟩, e4, e5⟩ := e
  have hn6 := v.2.2.1
  have hbeg : ∀ i, i < n → (begB t f k i = true ↔ f i = c0) := by
    intro i hi
    rw [hB i hi, hbk]
    constructor
    · intro h; exact (Option.some.inj h).symm
    · intro h; rw [h]
  unfold c_1080
  simp only [xN_o (tab := [(97, 3)]) e1 rfl rfl, xN_o (tab := [(49, 6)]) e2 rfl rfl, Option.bind_some, isK_t (tab := [13]) e3 rfl, if_true, alSize_r e3]
  refine Tr.bd (P := fun x => (x = -1 ∧ ∀ i, i < n → begB t f k i = false) ∨ ∃ i, i < n ∧ x = Int32.ofNat i ∧ begB t f k i = true) (wh_cnt n (fun i a => a = (if i < n then Int32.ofNat (n - 1 - i) else -1) ∧ ∀ j, n - i ≤ j → j < n → begB t f k j = false) ?_ ?_ ⟨?_, fun j h1 h2 => by omega⟩) ?_
  · rintro i _ hi ⟨rfl, h⟩
    rw [if_pos hi, if_neg (i_nlt0 (by omega)), alGet_r e3 (by omega) (by omega), Option.bind_some]
    by_cases y : f (n - 1 - i) = c0
    · rw [if_pos (by rw [y])]
      exact Or.inl ⟨_, rfl, Or.inr ⟨n - 1 - i, by omega, rfl, (hbeg _ (by omega)).mpr y⟩⟩
    · have y2 : ¬ Value.ref (D (f (n - 1 - i))) = .ref (D c0) := fun z => y (hD c0 hbk _ (by omega) (Value.ref.inj z))
      rw [if_neg y2, if_pos (by unfold nst; simp only [e5 (n - 1 - i) (by omega)]; rfl)]
      refine Or.inr ⟨_, rfl, ?_, fun j h1 h2 => ?_⟩
      · by_cases y3 : i + 1 < n
        · rw [if_pos y3, i_subL (by omega), show n - 1 - i - 1 = n - 1 - (i + 1) by omega]
        · rw [if_neg y3, show n - 1 - i = 0 by omega]; rfl
      · by_cases y3 : j = n - 1 - i
        · rw [Bool.eq_false_iff, y3]
          exact fun z => y ((hbeg _ (by omega)).mp z)
        · exact h j (by omega) h2
  · rintro _ ⟨rfl, h⟩
    rw [if_neg (Nat.lt_irrefl n)]
    exact ⟨-1, if_pos (by decide), Or.inl ⟨rfl, fun i hi => h i (by omega) hi⟩⟩
  · by_cases y : 0 < n
    · rw [if_pos y, i_subL (by omega)]; rfl
    · rw [if_neg y, show n = 0 by omega]; rfl
  · rintro x (⟨rfl, h⟩ | ⟨i, hi, rfl, h⟩)
    · refine ⟨_, if_pos (by decide), ?_⟩
      rw [if_neg]
      intro z
      obtain ⟨y, hy, hb⟩ := List.any_eq_true.mp z
      rw [h y (plL_mem.mp hy).1] at hb; cases hb
    · rw [if_neg (i_nlt0 (by omega))]
      by_cases y : bt σ i = 1
      · rw [if_pos ((i_bt1 (by omega) (by omega)).mpr y), if_pos (List.any_eq_true.mpr ⟨i, plL_mem.mpr ⟨hi, y⟩, h⟩)]
        exact ⟨_, rfl, rfl⟩
      · rw [if_neg (fun z => y ((i_bt1 (by omega) (by omega)).mp z)), if_neg]
        · exact ⟨_, rfl, rfl⟩
        · intro z
          obtain ⟨j, hj, hb⟩ := List.any_eq_true.mp z
          have := hu j i (plL_mem.mp hj).1 hi hb h
          subst this
          exact y (plL_mem.mp hj).2
