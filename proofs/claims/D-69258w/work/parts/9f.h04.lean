/-! the gate: tellings -/
theorem ltd_skip {t : TS} {k w n : Nat} : ∀ d, (∀ j, n ≤ j → j < n + d → ¬ isTl t k w j) → ltd t k w (n + d) = ltd t k w n := by
  intro d
  induction d with
  | zero => intro _; rfl
  | succ d ih =>
    intro h
    show (if t.2.2.1 37 (n + d) = Int32.ofNat k ∧ t.2.2.1 38 (n + d) = Int32.ofNat w then t.2.2.1 39 (n + d) else ltd t k w (n + d)) = _
    rw [if_neg (show ¬ (t.2.2.1 37 (n + d) = Int32.ofNat k ∧ t.2.2.1 38 (n + d) = Int32.ofNat w) from h (n + d) (by omega) (by omega)), ih (fun j h1 h2 => h j h1 (by omega))]
theorem ltd_none {t : TS} {k w n : Nat} (h : ∀ j, j < n → ¬ isTl t k w j) : ltd t k w n = -1 := by
  have := ltd_skip (t := t) (k := k) (w := w) (n := 0) n (fun j _ h2 => h j (by omega))
  rw [Nat.zero_add] at this
  rw [this]; rfl
theorem ltd_some {t : TS} {k w n i : Nat} (hi : i < n) (h1 : isTl t k w i) (h : ∀ j, i < j → j < n → ¬ isTl t k w j) : ltd t k w n = t.2.2.1 39 i := by
  have := ltd_skip (t := t) (k := k) (w := w) (n := i + 1) (n - (i + 1)) (fun j h1 h2 => h j (by omega) (by omega))
  rw [show i + 1 + (n - (i + 1)) = n by omega] at this
  rw [this]
  exact if_pos h1
theorem t_lastT {t : TS} {nT : Nat} (h45 : t.1 45 = Int32.ofNat nT) (hn : nT ≤ 4100) (k w : Nat) {b : Nat} (hb : b < 2147483648) : t_599 (Int32.ofNat k) (Int32.ofNat w) (Int32.ofNat b) t = some (ltd t k w (min b nT)) := by
  suffices q : Tr (t_599 (Int32.ofNat k) (Int32.ofNat w) (Int32.ofNat b) t) (fun x => x = ltd t k w (min b nT)) by
    obtain ⟨x, e1, e2⟩ := q
    rw [e1, e2]
  unfold t_599
  have e0 : (if Int32.ofNat b < t.1 45 then some (Int32.ofNat b) else some (t.1 45)) = some (Int32.ofNat (min b nT)) := by
    rw [h45]
    by_cases z : b < nT
    · rw [if_pos ((i_lt hb (by omega)).mpr z), Nat.min_eq_left (by omega)]
    · rw [if_neg (fun y => z ((i_lt hb (by omega)).mp y)), Nat.min_eq_right (by omega)]
  rw [e0, Option.bind_some]
  have hm : min b nT ≤ nT := Nat.min_le_right _ _
  generalize min b nT = m at hm
  refine Tr.bd (P := fun x => (x = .inl () ∧ ltd t k w m = -1) ∨ x = .inr (ltd t k w m)) ?_ ?_
  · refine Tr.bd (P := fun x => (∃ i, i < m ∧ x = .inl (Int32.ofNat i) ∧ ltd t k w m = t.2.2.1 39 i) ∨ (x = .inr (.inl ()) ∧ ltd t k w m = -1)) (wh_cnt m (fun i p => p = Int32.ofNat (m - i) - 1 ∧ ∀ j, m - i ≤ j → j < m → ¬ isTl t k w j) ?_ ?_ ⟨rfl, fun j h1 h2 => absurd h1 (by omega)⟩) ?_
    · rintro i _ hi ⟨rfl, h⟩
      have e1 : Int32.ofNat (m - i) - 1 = Int32.ofNat (m - i - 1) := i_subL (by omega)
      rw [e1]
      rw [if_neg (i_nlt0 (by omega)), rdI_n (by omega) (by omega), Option.bind_some, rdI_n (by omega) (by omega), Option.bind_some]
      by_cases y : isTl t k w (m - i - 1)
      · refine Or.inl ⟨_, ?_, Or.inl ⟨m - i - 1, by omega, rfl, ltd_some (by omega) y (fun j h1 h2 => h j (by omega) h2)⟩⟩
        rw [if_pos y.1, if_pos y.2]; rfl
      · refine Or.inr ⟨Int32.ofNat (m - (i + 1)) - 1, ?_, rfl, fun j h1 h2 => ?_⟩
        · rw [show m - i - 1 = m - (i + 1) by omega] at y ⊢
          by_cases y1 : t.2.2.1 37 (m - (i + 1)) = Int32.ofNat k
          · rw [if_pos y1, if_neg (fun z => y ⟨y1, z⟩)]; rfl
          · rw [if_neg y1]; rfl
        · by_cases z : j = m - i - 1
          · rw [z]; exact y
          · exact h j (by omega) h2
    · rintro _ ⟨rfl, h⟩
      refine ⟨_, ?_, Or.inr ⟨rfl, ltd_none (fun j hj => h j (by omega) hj)⟩⟩
      rw [if_pos]
      rw [show m - m = 0 by omega]; decide
    · rintro x (⟨i, hi, rfl, h⟩ | ⟨rfl, h⟩)
      · refine ⟨_, ?_, Or.inr rfl⟩
        rw [Sum.elim_inl, rdI_n (by omega) (by omega), Option.bind_some, h]
      · exact ⟨_, rfl, Or.inl ⟨rfl, h⟩⟩
  · rintro x (⟨rfl, h⟩ | rfl)
    · exact ⟨_, rfl, h.symm⟩
    · exact ⟨_, rfl, rfl⟩
/-- the last of a sorted list's elements that fit -/
theorem last_flt {es : List (Value × Value)} {p : Value × Value → Bool} (hp : es.Pairwise (fun a b => rkI a.1 < rkI b.1)) {e : Value × Value} (h : (es.filter p).getLast? = some e) : e ∈ es ∧ p e = true ∧ ∀ f ∈ es, p f = true → rkI f.1 ≤ rkI e.1 := by
  obtain ⟨ys, hy⟩ := List.getLast?_eq_some_iff.mp h
  have he : e ∈ es.filter p := by rw [hy]; simp
  obtain ⟨h1, h2⟩ := List.mem_filter.mp he
  refine ⟨h1, h2, fun f hf hpf => ?_⟩
  have h3 : f ∈ es.filter p := List.mem_filter.mpr ⟨hf, hpf⟩
  have h4 : (es.filter p).Pairwise (fun a b => rkI a.1 < rkI b.1) := hp.sublist List.filter_sublist
  rw [hy] at h3 h4
  rcases List.mem_append.mp h3 with z | z
  · have := (List.pairwise_append.mp h4).2.2 f z e (by simp)
    omega
  · simp at z; rw [z]; exact Int.le_refl _
/-- what is so at a telling -/
theorem sin_at {s : CS} {t : TS} {nT k w a m : Nat} (hn : nT ≤ 4100) (h : Snc s.1 t nT k w a m) {b : Nat} (hb : b < 2147483648) : c_1001 a (Int32.ofNat b) s = some (ltd t k w (min b nT), chg s 1 1) := by
  obtain ⟨h1, mc, es, h2, h3, h4⟩ := h
  have g2 : (chg s 1 1).1 m = some (true, false, 1042, .int mc :: fl es) := h2
  have g1 : (chg s 1 1).1 a = some (true, false, 83, [.ref m]) := h1
  unfold c_1001
  rw [xN_o (b := m) h1 rfl rfl]; repeat (first | rw [Option.bind_some] | rw [Sum.elim_inl] | rw [Sum.elim_inr])
  rw [if_pos (isK_t g2 rfl)]
  unfold tmLower
  rw [tmK_of g2 (kok_of h4 _) h3.1]; repeat (first | rw [Option.bind_some] | rw [Sum.elim_inl] | rw [Sum.elim_inr])
  have hkk := kok_of (s := chg s 1 1) h4 (Int32.ofNat b)
  have hflt : es.filter (fun q => cmpK (chg s 1 1) (.int (Int32.ofNat b)) q.1 == some 1) = es.filter (fun q => decide (rkI q.1 < (b : Int))) := by
    refine List.filter_congr (fun e he => ?_)
    rw [hkk (.int (Int32.ofNat b)) (by simp) e.1 (by simp; exact Or.inr ⟨e.2, he⟩)]
    rw [show rkI (.int (Int32.ofNat b)) = (b : Int) from i_toInt hb]
    by_cases z : rkI e.1 < (b : Int)
    · rw [cmpZ_1.mpr z]; simp [z]
    · have : cmpZ (b : Int) (rkI e.1) ≠ 1 := fun y => z (cmpZ_1.mp y)
      simp [z, this]
  dsimp only
  rw [hflt]
  cases hl : (es.filter (fun q => decide (rkI q.1 < (b : Int)))).getLast? with
  | none =>
    have hnil := List.getLast?_eq_none_iff.mp hl
    have : ltd t k w (min b nT) = -1 := by
      refine ltd_none (fun j hj hT => ?_)
      obtain ⟨e, he, hr⟩ := h3.2.2 (j : Int) _ (if_pos (show 0 ≤ (j : Int) ∧ (j : Int) < (nT : Int) ∧ isTl t k w (j : Int).toNat from ⟨by omega, by omega, hT⟩))
      have : e ∈ es.filter (fun q => decide (rkI q.1 < (b : Int))) := List.mem_filter.mpr ⟨he, by simp; omega⟩
      rw [hnil] at this; cases this
    rw [this]; rfl
  | some e =>
    obtain ⟨he, hp, hmax⟩ := last_flt h3.1 hl
    simp only [decide_eq_true_eq] at hp
    obtain ⟨i, hi⟩ := h4 e.1 (List.mem_map.mpr ⟨e, he, rfl⟩)
    have hm := h3.2.1 e he
    have hz : rkI e.1 = i.toInt := by rw [hi]; rfl
    rw [hz] at hm hp hmax
    dsimp only at hm
    by_cases y : 0 ≤ i.toInt ∧ i.toInt < (nT : Int) ∧ isTl t k w i.toInt.toNat
    · rw [if_pos y] at hm
      have hval : ltd t k w (min b nT) = t.2.2.1 39 i.toInt.toNat := by
        refine ltd_some (by omega) y.2.2 (fun j h1 h2 hT => ?_)
        obtain ⟨f, hf, hr⟩ := h3.2.2 (j : Int) _ (if_pos (show 0 ≤ (j : Int) ∧ (j : Int) < (nT : Int) ∧ isTl t k w (j : Int).toNat from ⟨by omega, by omega, hT⟩))
        have := hmax f hf (by simp; omega)
        omega
      dsimp only
      rw [hi, show toOB (.int i) = some (some i) from rfl]; repeat (first | rw [Option.bind_some] | rw [Sum.elim_inl] | rw [Sum.elim_inr])
      rw [if_neg (fun z => (nomatch z)), xN_o (b := m) g1 rfl rfl]; repeat (first | rw [Option.bind_some] | rw [Sum.elim_inl] | rw [Sum.elim_inr])
      rw [if_pos (isK_t g2 rfl), show vB (some i) = .int i from rfl, tm_get g2 (kok_of h4 i) h3, show rkI (.int i) = i.toInt from rfl, if_pos y]; repeat (first | rw [Option.bind_some] | rw [Sum.elim_inl] | rw [Sum.elim_inr])
      rw [hval]; rfl
    · rw [if_neg y] at hm; cases hm
/-- one more is told -/
def tllT (t : TS) (nT : Nat) (k w m : Nat) : TS := ptI (wrI (wrI (wrI t 37 nT (Int32.ofNat k)) 38 nT (Int32.ofNat w)) 39 nT (Int32.ofNat m)) 45 (Int32.ofNat (nT + 1))
theorem t_tll {t : TS} {nT : Nat} (h45 : t.1 45 = Int32.ofNat nT) (hn : nT < 4100) (k w m : Nat) : t_596 (Int32.ofNat k) (Int32.ofNat w) (Int32.ofNat m) t = some (tllT t nT k w m) := by
  unfold t_596 tllT
  simp only [h45, wr_1, stI_n hn (show 4100 < 2147483648 by omega), Option.bind_some, i_suc]
theorem tll_isTl {t : TS} {nT k w m k' w' j : Nat} (hk : k < 2147483648) (hk' : k' < 2147483648) (hw : w < 2147483648) (hw' : w' < 2147483648) : isTl (tllT t nT k w m) k' w' j ↔ if j = nT then k' = k ∧ w' = w else isTl t k' w' j := by
  unfold isTl tllT
  rw [pt_2]
  show (if (37 : Nat) = 39 ∧ j = nT then Int32.ofNat m else if (37 : Nat) = 38 ∧ j = nT then Int32.ofNat w else if (37 : Nat) = 37 ∧ j = nT then Int32.ofNat k else t.2.2.1 37 j) = Int32.ofNat k' ∧ (if (38 : Nat) = 39 ∧ j = nT then Int32.ofNat m else if (38 : Nat) = 38 ∧ j = nT then Int32.ofNat w else if (38 : Nat) = 37 ∧ j = nT then Int32.ofNat k else t.2.2.1 38 j) = Int32.ofNat w' ↔ _
  by_cases y : j = nT
  · rw [if_pos y, if_neg (by omega), if_neg (by omega), if_pos ⟨rfl, y⟩, if_neg (by omega), if_pos ⟨rfl, y⟩, i_inj hk hk', i_inj hw hw']
    exact ⟨fun z => ⟨z.1.symm, z.2.symm⟩, fun z => ⟨z.1.symm, z.2.symm⟩⟩
  · rw [if_neg y, if_neg (by omega), if_neg (by omega), if_neg (by omega), if_neg (by omega), if_neg (by omega), if_neg (by omega)]
theorem tll_39 {t : TS} {nT k w m j : Nat} : (tllT t nT k w m).2.2.1 39 j = if j = nT then Int32.ofNat m else t.2.2.1 39 j := by
  show (if (39 : Nat) = 39 ∧ j = nT then Int32.ofNat m else if (39 : Nat) = 38 ∧ j = nT then Int32.ofNat w else if (39 : Nat) = 37 ∧ j = nT then Int32.ofNat k else t.2.2.1 39 j) = _
  by_cases y : j = nT
  · rw [if_pos ⟨rfl, y⟩, if_pos y]
  · rw [if_neg (by omega), if_neg (by omega), if_neg (by omega), if_neg y]
theorem tll_r {t : TS} {nT k w m c : Nat} (hc : c ≠ 37 ∧ c ≠ 38 ∧ c ≠ 39) : (tllT t nT k w m).2.2.1 c = t.2.2.1 c := funext (fun j => by
  show (if c = 39 ∧ j = nT then Int32.ofNat m else if c = 38 ∧ j = nT then Int32.ofNat w else if c = 37 ∧ j = nT then Int32.ofNat k else t.2.2.1 c j) = _
  rw [if_neg (by omega), if_neg (by omega), if_neg (by omega)])
theorem Snc_tell {h h' : lHeap} {t : TS} {nT k w m k' w' a b : Nat} (hk : k < 2147483648) (hk' : k' < 2147483648) (hw : w < 2147483648) (hw' : w' < 2147483648) (hne : ¬ (k' = k ∧ w' = w)) (r : Snc h t nT k' w' a b) (h1 : h' a = h a) (h2 : h' b = h b) : by classical exact (Snc h' (tllT t nT k w m) (nT + 1) k' w' a b) := by
  classical
  obtain ⟨r1, mc, es, r2, r3, r4⟩ := r
  refine ⟨by rw [h1]; exact r1, mc, es, by rw [h2]; exact r2, ?_, r4⟩
  have : (fun z : Int => if 0 ≤ z ∧ z < ((nT + 1 : Nat) : Int) ∧ isTl (tllT t nT k w m) k' w' z.toNat then some (Value.int ((tllT t nT k w m).2.2.1 39 z.toNat)) else none) = fun z : Int => if 0 ≤ z ∧ z < (nT : Int) ∧ isTl t k' w' z.toNat then some (Value.int (t.2.2.1 39 z.toNat)) else none := by
    funext z
    by_cases y : 0 ≤ z ∧ z < (nT : Int)
    · have e : isTl (tllT t nT k w m) k' w' z.toNat ↔ isTl t k' w' z.toNat := by rw [tll_isTl hk hk' hw hw', if_neg (by omega)]
      rw [tll_39, if_neg (show ¬ z.toNat = nT by omega)]
      by_cases x : isTl t k' w' z.toNat
      · rw [if_pos ⟨y.1, by omega, e.mpr x⟩, if_pos ⟨y.1, y.2, x⟩]
      · rw [if_neg (fun q => x (e.mp q.2.2)), if_neg (fun q => x q.2.2)]
    · have hL : ¬ (0 ≤ z ∧ z < ((nT + 1 : Nat) : Int) ∧ isTl (tllT t nT k w m) k' w' z.toNat) := by
        intro q
        have h3 : z.toNat = nT := by omega
        have := q.2.2
        rw [tll_isTl hk hk' hw hw', if_pos h3] at this
        exact hne this
      rw [if_neg hL, if_neg (fun q => y ⟨q.1, q.2.1⟩)]
  rw [this]; exact r3
/-- a new, empty one -/
theorem Snc_new {h : lHeap} {t : TS} {nT k w a b : Nat} (h1 : h a = some (true, false, 83, [.ref b])) (h2 : h b = some (true, false, 1042, [.int 0])) (hn : ∀ j, j < nT → ¬ isTl t k w j) : Snc h t nT k w a b := by
  refine ⟨h1, 0, [], h2, ⟨List.Pairwise.nil, fun e he => absurd he (by simp), fun z v hv => ?_⟩, fun x hx => absurd hx (by simp)⟩
  dsimp only at hv
  rw [if_neg (fun q => hn z.toNat (by omega) q.2.2)] at hv
  cases hv
/-- it is told -/
theorem sin_tell {s : CS} {t : TS} {nT k w a b m : Nat} (hk : k < 2147483648) (hw : w < 2147483648) (hn : nT < 4100) (h : Snc s.1 t nT k w a b) : by classical exact (∃ (x y : Nat) (es : List (Value × Value)) (mc : Int32), c_1000 a (Int32.ofNat nT) (Int32.ofNat m) s = some (ltd t k w nT, cput (chg s 3 3) 1042 b x y (.int mc :: fl es)) ∧ x ≤ 1 ∧ y ≤ 6 ∧ ∀ h' : lHeap, h' a = s.1 a → h' b = some (true, false, 1042, .int mc :: fl es) → Snc h' (tllT t nT k w m) (nT + 1) k w a b) := by
  classical
  have h0 := h
  obtain ⟨h1, mc, es, h2, h3, h4⟩ := h
  have hlen : es.length ≤ nT := by
    rw [mp_len (n := nT) (P := fun c => isTl t k w c) (f := fun z => .int (t.2.2.1 39 z)) (dP := fun _ => inferInstance) h3]
    exact Nat.le_trans (List.length_filter_le _ _) (by simp)
  obtain ⟨es', mc', x, y, t1, t2, t3, t4, t5, _⟩ := tm_put (s := chg s 3 3) (a := b) (v := .int (Int32.ofNat m)) h2 (kok_of h4 (Int32.ofNat nT)) h3 (by omega)
  refine ⟨x, y, es', mc', ?_, t2, t3, fun h' e1 e2 => ⟨by rw [e1]; exact h1, mc', es', e2, ?_, fun q hq => ?_⟩⟩
  · unfold c_1000
    have e := sin_at (b := 2147483647) (by omega) h0 (by omega)
    rw [if_pos (isK_t h1 rfl), show (2147483647 : Int32) = Int32.ofNat 2147483647 from rfl, e, Nat.min_eq_right (by omega)]; repeat (first | rw [Option.bind_some] | rw [Sum.elim_inl] | rw [Sum.elim_inr])
    dsimp only
    rw [xN_o (s := chg s 1 1) (b := b) h1 rfl rfl]; repeat (first | rw [Option.bind_some] | rw [Sum.elim_inl] | rw [Sum.elim_inr])
    rw [if_pos (isK_t (s := chg (chg (chg s 1 1) 1 1) 1 1) h2 rfl)]
    have ec : chg (chg (chg s 1 1) 1 1) 1 1 = chg s 3 3 := rfl
    rw [ec, t1]; rfl
  · rw [show rkI (.int (Int32.ofNat nT)) = (nT : Int) from i_toInt (by omega)] at t4
    have : (fun z : Int => if 0 ≤ z ∧ z < ((nT + 1 : Nat) : Int) ∧ isTl (tllT t nT k w m) k w z.toNat then some (Value.int ((tllT t nT k w m).2.2.1 39 z.toNat)) else none) = fun z : Int => if z = (nT : Int) then some (Value.int (Int32.ofNat m)) else if 0 ≤ z ∧ z < (nT : Int) ∧ isTl t k w z.toNat then some (Value.int (t.2.2.1 39 z.toNat)) else none := by
      funext z
      by_cases y0 : z = (nT : Int)
      · have h5 : z.toNat = nT := by omega
        rw [if_pos y0, if_pos ⟨by omega, by omega, (tll_isTl hk hk hw hw).mpr (by rw [if_pos h5]; exact ⟨rfl, rfl⟩)⟩, tll_39, if_pos h5]
      · rw [if_neg y0]
        by_cases y : 0 ≤ z ∧ z < (nT : Int)
        · have e : isTl (tllT t nT k w m) k w z.toNat ↔ isTl t k w z.toNat := by rw [tll_isTl hk hk hw hw, if_neg (by omega)]
          rw [tll_39, if_neg (show ¬ z.toNat = nT by omega)]
          by_cases x : isTl t k w z.toNat
          · rw [if_pos ⟨y.1, by omega, e.mpr x⟩, if_pos ⟨y.1, y.2, x⟩]
          · rw [if_neg (fun q => x (e.mp q.2.2)), if_neg (fun q => x q.2.2)]
        · rw [if_neg (fun q => y ⟨q.1, by omega⟩), if_neg (fun q => y ⟨q.1, q.2.1⟩)]
    rw [this]; exact t4
  · rcases t5 q hq with rfl | z
    · exact ⟨_, rfl⟩
    · exact h4 q z
