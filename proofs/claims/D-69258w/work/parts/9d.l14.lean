/-! the lifts: what a row costs -/
def wyN (t : TS) (k a b : Nat) : Nat := bN (t.2.2.1 158 k) * (if a < b then b - a else a - b)
def pkN (t : TS) (k sec a c : Nat) : Nat := sec + wyN t k a (bN (t.2.2.1 163 c))
def dnN (t : TS) (k sec a c : Nat) : Nat := pkN t k sec a c + 3 + wyN t k (bN (t.2.2.1 163 c)) (bN (t.2.2.1 164 c))
def wtN (t : TS) (c : Nat) : Nat := 1 + (bN (t.1 612) - bN (t.2.2.1 165 c)) / 30
def cwN (t : TS) (k : Nat) (f : Nat → Nat) : Cw := (fun sec a p => wtN t (f p) * pkN t k sec a (f p) + dnN t k sec a (f p), fun sec a p => dnN t k sec a (f p) + 3, fun p => bN (t.2.2.1 164 (f p)))
def bgN (t : TS) (k : Nat) : Nat := bN (t.2.2.1 160 k) - bN (t.1 612)
theorem bN_of {k : Nat} (h : k < 2147483648) : bN (Int32.ofNat k) = k := i_clamp h
theorem flr_n {x : Int32} (h : flr x) : x = Int32.ofNat (bN x) ∧ bN x < 60 := by
  obtain ⟨f, h1, rfl⟩ := h
  rw [bN_of (by omega)]; exact ⟨rfl, h1⟩
/-- a car's numbers, a call's numbers as they are needed for costs -/
def nCar (t : TS) (k : Nat) : Prop := (t.2.2.1 158 k = Int32.ofNat (bN (t.2.2.1 158 k)) ∧ bN (t.2.2.1 158 k) ≤ 5) ∧ (t.2.2.1 159 k = Int32.ofNat (bN (t.2.2.1 159 k)) ∧ bN (t.2.2.1 159 k) < 60) ∧ (t.2.2.1 160 k = Int32.ofNat (bN (t.2.2.1 160 k)) ∧ bN (t.2.2.1 160 k) ≤ 100000)
theorem okCar_n {t : TS} {k : Nat} (h : okCar t k) : nCar t k := by
  obtain ⟨⟨v, _, h1, h2⟩, h3, ⟨u, h4, h5⟩, _⟩ := h
  refine ⟨?_, flr_n h3, ?_⟩
  · rw [h2, bN_of (by omega)]; exact ⟨rfl, h1⟩
  · rw [h5, bN_of (by omega)]; exact ⟨rfl, h4⟩
def nCal (t : TS) (c : Nat) : Prop := (t.2.2.1 163 c = Int32.ofNat (bN (t.2.2.1 163 c)) ∧ bN (t.2.2.1 163 c) < 60) ∧ (t.2.2.1 164 c = Int32.ofNat (bN (t.2.2.1 164 c)) ∧ bN (t.2.2.1 164 c) < 60) ∧ (t.2.2.1 165 c = Int32.ofNat (bN (t.2.2.1 165 c)) ∧ bN (t.2.2.1 165 c) ≤ bN (t.1 612))
/-- what stands while rows are looked for: nc cars, n chosen calls f 0, f 1 .. -/
def Lv (t : TS) (nc n : Nat) (f : Nat → Nat) : Prop :=
  t.1 600 = Int32.ofNat nc ∧ nc ≤ 4 ∧ n ≤ 6 ∧ (t.1 612 = Int32.ofNat (bN (t.1 612)) ∧ bN (t.1 612) ≤ 6000) ∧ (∀ k, k < nc → nCar t k) ∧ (∀ i, i < n → f i < 400 ∧ nCal t (f i) ∧ (t.2.2.1 167 (f i) = -1 ∨ ∃ k, k < nc ∧ t.2.2.1 167 (f i) = Int32.ofNat k)) ∧ (∀ i j, i < j → j < n → f i < f j) ∧ t.1 614 = Int32.ofNat n ∧ ∀ i, i < n → t.2.2.1 168 i = Int32.ofNat (f i)
/-- what may change while rows are looked for -/
def Sr (t T : TS) : Prop := (∀ c, c ≠ 616 → T.1 c = t.1 c) ∧ T.2.1 = t.2.1 ∧ (∀ c, c ≠ 169 → c ≠ 171 → T.2.2.1 c = t.2.2.1 c) ∧ ∀ c, c ≠ 170 → T.2.2.2 c = t.2.2.2 c
theorem Sr.refl (t : TS) : Sr t t := ⟨fun _ _ => rfl, rfl, fun _ _ _ => rfl, fun _ _ => rfl⟩
theorem Sr.trans {t T U : TS} (h : Sr t T) (k : Sr T U) : Sr t U := ⟨fun c hc => (k.1 c hc).trans (h.1 c hc), k.2.1.trans h.2.1, fun c h1 h2 => (k.2.2.1 c h1 h2).trans (h.2.2.1 c h1 h2), fun c hc => (k.2.2.2 c hc).trans (h.2.2.2 c hc)⟩
theorem wyN_le {t : TS} {k a b : Nat} (h : bN (t.2.2.1 158 k) ≤ 5) (ha : a < 60) (hb : b < 60) : wyN t k a b ≤ 295 := by
  unfold wyN
  have : (if a < b then b - a else a - b) ≤ 59 := by split <;> omega
  exact Nat.mul_le_mul h this
theorem t_way {t T : TS} {nc n k a b : Nat} {f : Nat → Nat} (v : Lv t nc n f) (h : Sr t T) (hk : k < nc) (ha : a < 60) (hb : b < 60) : t_857 (Int32.ofNat k) (Int32.ofNat a) (Int32.ofNat b) T = some (Int32.ofNat (wyN t k a b)) := by
  obtain ⟨_, hn, _, _, hc, _⟩ := v
  obtain ⟨⟨h1, _⟩, _, _⟩ := hc k hk
  unfold t_857 wyN
  rw [rdI_n (by omega) (by omega), h.2.2.1 158 (by omega) (by omega), Option.bind_some]
  by_cases hab : a < b
  · rw [if_pos ((i_lt (by omega) (by omega)).mpr hab), if_pos hab, i_sub (by omega)]
    conv => lhs; rw [h1]
    rw [i_mul]
  · rw [if_neg (by rw [i_lt (by omega) (by omega)]; exact hab), if_neg hab, i_sub (by omega)]
    conv => lhs; rw [h1]
    rw [i_mul]
theorem t_weight {t T : TS} {nc n i : Nat} {f : Nat → Nat} (v : Lv t nc n f) (h : Sr t T) (hi : i < n) : t_858 (Int32.ofNat (f i)) T = some (Int32.ofNat (wtN t (f i))) := by
  obtain ⟨_, hn, _, ⟨h1, h2⟩, hc, hf, _⟩ := v
  obtain ⟨h3, ⟨_, _, h4, h5⟩, _⟩ := hf i hi
  unfold t_858 wtN
  rw [rdI_n (by omega) (by omega), h.2.2.1 165 (by omega) (by omega), Option.bind_some, h.1 612 (by omega)]
  conv => lhs; rw [h1, h4]
  rw [i_sub h5, i_divL (by omega) (by omega), i_Ladd]
theorem t_begins {t T : TS} {nc n k : Nat} {f : Nat → Nat} (v : Lv t nc n f) (h : Sr t T) (hk : k < nc) : t_856 (Int32.ofNat k) T = some (Int32.ofNat (bgN t k)) := by
  obtain ⟨_, hn, _, ⟨h1, h2⟩, hc, _⟩ := v
  obtain ⟨_, _, h3, h4⟩ := hc k hk
  unfold t_856 bgN
  rw [rdI_n (by omega) (by omega), h.2.2.1 160 (by omega) (by omega), Option.bind_some, h.1 612 (by omega), Option.bind_some]
  by_cases hq : bN (t.1 612) < bN (t.2.2.1 160 k)
  · have e : t.1 612 < t.2.2.1 160 k := by
      rw [h1, h3]; exact (i_lt (by omega) (by omega)).mpr hq
    rw [if_pos e]
    conv => lhs; rw [h1, h3]
    rw [i_sub (by omega)]
  · have e : ¬ t.1 612 < t.2.2.1 160 k := by
      rw [h1, h3, i_lt (by omega) (by omega)]; exact hq
    rw [if_neg e, Nat.sub_eq_zero_of_le (by omega)]; rfl
/-! long numbers that are natural ones -/
theorem l_toInt {k : Nat} (h : k < 9223372036854775808) : (Int64.ofNat k).toInt = k := Int64.toInt_ofNat_of_lt (by omega)
theorem l_32 {k : Nat} (h : k < 2147483648) : (Int32.ofNat k).toInt64 = Int64.ofNat k := by
  rw [← Int64.toInt_inj, Int32.toInt_toInt64, i_toInt h, l_toInt (by omega)]
theorem l_add (j k : Nat) : Int64.ofNat j + Int64.ofNat k = Int64.ofNat (j + k) := (Int64.ofNat_add ..).symm
theorem l_mul (j k : Nat) : Int64.ofNat j * Int64.ofNat k = Int64.ofNat (j * k) := (Int64.ofNat_mul ..).symm
theorem l_lt {j k : Nat} (hj : j < 9223372036854775808) (hk : k < 9223372036854775808) : Int64.ofNat j < Int64.ofNat k ↔ j < k := by
  rw [Int64.lt_iff_toInt_lt, l_toInt hj, l_toInt hk]
  omega
theorem l_inj {j k : Nat} (hj : j < 9223372036854775808) (hk : k < 9223372036854775808) : Int64.ofNat j = Int64.ofNat k ↔ j = k := by
  rw [← Int64.toInt_inj, l_toInt hj, l_toInt hk]
  omega
theorem l_sub {j k : Nat} (h : k ≤ j) : Int64.ofNat j - Int64.ofNat k = Int64.ofNat (j - k) := by
  have e : j = (j - k) + k := by omega
  conv => lhs; rw [e, ← l_add]
  rw [Int64.add_sub_cancel]
theorem l_cmp {j k : Nat} (hj : j < 9223372036854775808) (hk : k < 9223372036854775808) : lg_cmp (Int64.ofNat j) (Int64.ofNat k) < 0 ↔ j < k := by
  rw [lc_neg, l_lt hj hk]
/-! bounds -/
theorem lv_pk {t : TS} {nc n k sec a i : Nat} {f : Nat → Nat} (v : Lv t nc n f) (hk : k < nc) (hi : i < n) (ha : a < 60) : pkN t k sec a (f i) ≤ sec + 295 := by
  obtain ⟨_, hn, _, _, hc, hf, _⟩ := v
  have := wyN_le (t := t) (hc k hk).1.2 ha (hf i hi).2.1.1.2
  unfold pkN; omega
theorem lv_dn {t : TS} {nc n k sec a i : Nat} {f : Nat → Nat} (v : Lv t nc n f) (hk : k < nc) (hi : i < n) (ha : a < 60) : dnN t k sec a (f i) ≤ sec + 593 := by
  have h1 := lv_pk (sec := sec) v hk hi ha
  obtain ⟨_, hn, _, _, hc, hf, _⟩ := v
  have := wyN_le (t := t) (hc k hk).1.2 (hf i hi).2.1.1.2 (hf i hi).2.1.2.1.2
  unfold dnN; omega
theorem lv_wt {t : TS} {nc n i : Nat} {f : Nat → Nat} (v : Lv t nc n f) (hi : i < n) : wtN t (f i) ≤ 201 := by
  obtain ⟨_, hn, _, ⟨_, h1⟩, hc, hf, _⟩ := v
  unfold wtN; omega
theorem lv_cw {t : TS} {nc n k sec a i : Nat} {f : Nat → Nat} (v : Lv t nc n f) (hk : k < nc) (hi : i < n) (ha : a < 60) (hs : sec ≤ 103600) : (cwN t k f).1 sec a i ≤ 21100000 := by
  have h1 := lv_pk (sec := sec) v hk hi ha
  have h2 := lv_dn (sec := sec) v hk hi ha
  have h3 := lv_wt v hi
  show wtN t (f i) * pkN t k sec a (f i) + dnN t k sec a (f i) ≤ _
  have : wtN t (f i) * pkN t k sec a (f i) ≤ 201 * 103895 := Nat.mul_le_mul h3 (by omega)
  omega
theorem lv_rw {t : TS} {nc n k : Nat} {f : Nat → Nat} (v : Lv t nc n f) (hk : k < nc) : ∀ (p : List Nat) (sec a : Nat), (∀ x ∈ p, x < n) → a < 60 → sec + 600 * p.length ≤ 103600 → rwc (cwN t k f) sec a p ≤ p.length * 21100000
  | [], _, _, _, _, _ => Nat.zero_le _
  | x :: p, sec, a, hx, ha, hs => by
    have hxn := hx x (by simp)
    rw [List.length_cons] at hs ⊢
    have h1 := lv_cw (sec := sec) v hk hxn ha (by omega)
    have h2 := lv_dn (sec := sec) v hk hxn ha
    have h3 := lv_rw v hk p ((cwN t k f).2.1 sec a x) ((cwN t k f).2.2 x) (fun y hy => hx y (List.mem_cons_of_mem _ hy)) (v.2.2.2.2.2.1 x hxn).2.1.2.1.2 (by
      show dnN t k sec a (f x) + 3 + 600 * p.length ≤ _
      omega)
    unfold rwc
    rw [Nat.succ_mul]; omega
theorem lv_bg {t : TS} {nc n k : Nat} {f : Nat → Nat} (v : Lv t nc n f) (hk : k < nc) : bgN t k ≤ 100000 := by
  have := (v.2.2.2.2.1 k hk).2.2.2
  unfold bgN; omega
/-- the cost of the row that is tried -/
theorem t_cost {t T : TS} {nc n k : Nat} {f : Nat → Nat} {p : List Nat} (v : Lv t nc n f) (h : Sr t T) (hk : k < nc) (hp : p.length ≤ 6) (hpn : ∀ x ∈ p, x < n) (hs : T.1 616 = Int32.ofNat p.length) (hr : ∀ i, i < p.length → T.2.2.1 169 i = Int32.ofNat (f (p.getD i 0))) : t_855 (Int32.ofNat k) T = some (Int64.ofNat (rwc (cwN t k f) (bgN t k) (bN (t.2.2.1 159 k)) p)) := by
  suffices q : Tr (t_855 (Int32.ofNat k) T) (fun x => x = Int64.ofNat (rwc (cwN t k f) (bgN t k) (bN (t.2.2.1 159 k)) p)) by
    obtain ⟨x, h1, h2⟩ := q
    rw [h1, h2]
  have hn : nc ≤ 4 := v.2.1
  have hcar := v.2.2.2.2.1 k hk
  unfold t_855
  rw [t_begins v h hk, Option.bind_some, rdI_n (by omega) (by omega), h.2.2.1 159 (by omega) (by omega), Option.bind_some]
  refine Tr.bd (P := fun x => x = Int64.ofNat (rwc (cwN t k f) (bgN t k) (bN (t.2.2.1 159 k)) p)) (wh_cnt p.length (fun i (st : Int64 × Int32 × Int32 × Int32) => ∃ S sec a, st = (Int64.ofNat S, Int32.ofNat sec, Int32.ofNat a, Int32.ofNat i) ∧ S + rwc (cwN t k f) sec a (p.drop i) = rwc (cwN t k f) (bgN t k) (bN (t.2.2.1 159 k)) p ∧ sec ≤ 100000 + 600 * i ∧ a < 60) ?_ ?_ ⟨0, bgN t k, bN (t.2.2.1 159 k), ?_, by simp, by have := lv_bg v hk; omega, hcar.2.1.2⟩) ?_
  · rintro i _ hi ⟨S, sec, a, rfl, e1, e2, e3⟩
    have hx : p.getD i 0 < n := by
      rw [List.getD_eq_getElem?_getD, List.getElem?_eq_getElem hi]
      exact hpn _ (List.getElem_mem hi)
    have hd : p.drop i = p.getD i 0 :: p.drop (i + 1) := by
      rw [List.getD_eq_getElem?_getD, List.getElem?_eq_getElem hi]
      exact List.drop_eq_getElem_cons hi
    have hr := hr i hi
    generalize hc : p.getD i 0 = c at hx hd hr
    obtain ⟨g1, ⟨⟨g2, g3⟩, ⟨g4, g5⟩, g6⟩, _⟩ := v.2.2.2.2.2.1 c hx
    have b1 := lv_pk (sec := sec) v hk hx e3
    have b2 := lv_dn (sec := sec) v hk hx e3
    have b3 := lv_wt v hx
    have w1 : t_857 (Int32.ofNat k) (Int32.ofNat a) (t.2.2.1 163 (f c)) T = some (Int32.ofNat (wyN t k a (bN (t.2.2.1 163 (f c))))) := by
      conv => lhs; rw [g2]
      exact t_way v h hk e3 g3
    have w2 : t_857 (Int32.ofNat k) (t.2.2.1 163 (f c)) (t.2.2.1 164 (f c)) T = some (Int32.ofNat (wyN t k (bN (t.2.2.1 163 (f c))) (bN (t.2.2.1 164 (f c))))) := by
      conv => lhs; rw [g2, g4]
      exact t_way v h hk g3 g5
    have q1 : Int32.ofNat sec + Int32.ofNat (wyN t k a (bN (t.2.2.1 163 (f c)))) = Int32.ofNat (pkN t k sec a (f c)) := i_add ..
    have q2 : Int32.ofNat (pkN t k sec a (f c)) + (3 + Int32.ofNat (wyN t k (bN (t.2.2.1 163 (f c))) (bN (t.2.2.1 164 (f c))))) = Int32.ofNat (dnN t k sec a (f c)) := by
      rw [i_Ladd, i_add, ← Nat.add_assoc]; rfl
    refine Or.inr ⟨(Int64.ofNat (S + (cwN t k f).1 sec a c), Int32.ofNat ((cwN t k f).2.1 sec a c), Int32.ofNat ((cwN t k f).2.2 c), Int32.ofNat (i + 1)), ?_, _, _, _, rfl, ?_, ?_, g5⟩
    · dsimp only
      rw [hs, if_pos ((i_lt (by omega) (by omega)).mpr hi), rdI_n (by omega) (by omega), hr, Option.bind_some, rdI_n (by omega) (by omega), h.2.2.1 163 (by omega) (by omega), Option.bind_some, w1, Option.bind_some, t_weight v h hx, Option.bind_some, Option.bind_some, rdI_n (by omega) (by omega), h.2.2.1 164 (by omega) (by omega), Option.bind_some, w2, Option.bind_some, Option.bind_some]
      rw [q1, q2, l_32 (by omega), l_32 (by omega), l_32 (by omega), l_mul, l_add, l_add, i_addL, i_suc, Nat.add_assoc]
      exact congrArg (fun z => some (Sum.inl (_, _, z, _))) g4
    · rw [← e1, hd]
      simp only [rwc]
      omega
    · show dnN t k sec a (f c) + 3 ≤ _
      omega
  · rintro _ ⟨S, sec, a, rfl, e1, e2, e3⟩
    rw [List.drop_length] at e1
    simp only [rwc, Nat.add_zero] at e1
    refine ⟨Int64.ofNat S, ?_, by rw [e1]⟩
    dsimp only
    rw [hs, if_neg (by rw [i_lt (by omega) (by omega)]; omega)]
  · conv => lhs; rw [hcar.2.1.1]
    rfl
  · rintro _ rfl
    exact ⟨_, rfl, rfl⟩
