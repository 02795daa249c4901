/-! the program: the order by least numbers -/
theorem nd_len : ∀ (n : Nat) (l : List Nat), l.Nodup → (∀ x ∈ l, x < n) → l.length ≤ n := by
  intro n
  induction n with
  | zero =>
    intro l _ h
    cases l with
    | nil => exact Nat.le_refl _
    | cons x r => exact absurd (h x (by simp)) (by omega)
  | succ n ih =>
    intro l hd h
    by_cases e : n ∈ l
    · have h1 := ih (l.erase n) (hd.erase n) (fun x hx => by
        have h2 := (hd.mem_erase_iff).mp hx
        have := h x h2.2
        have := h2.1
        omega)
      rw [List.length_erase_of_mem e] at h1
      omega
    · have := ih l hd (fun x hx => by
        have h1 := h x hx
        have : x ≠ n := fun z => e (z ▸ hx)
        omega)
      omega
theorem nd_all {n : Nat} {l : List Nat} (hd : l.Nodup) (h : ∀ x ∈ l, x < n) (hl : n ≤ l.length) : ∀ b, b < n → b ∈ l := by
  intro b hb
  refine Classical.byContradiction (fun e => ?_)
  have := nd_len n (b :: l) (List.nodup_cons.mpr ⟨e, hd⟩) (fun x hx => by
    rcases List.mem_cons.mp hx with rfl | hx
    · exact hb
    · exact h x hx)
  simp at this
  omega
/-- what is placed so far: different blocks, on the way to the whole -/
def onW (t : TS) (n : Nat) (acc : List Nat) : Prop := acc.Nodup ∧ (∀ x ∈ acc, x < n) ∧ gre t n (n - acc.length) acc = gre t n n []
theorem onW_0 (t : TS) (n : Nat) : onW t n [] := ⟨List.nodup_nil, (fun x hx => absurd hx List.not_mem_nil), rfl⟩
theorem mayC_t {t : TS} {n b : Nat} {acc : List Nat} : mayC t n acc b = true ↔ b ∉ acc ∧ ∀ w, w < n → dep t b w = true → w ∈ acc := by
  unfold mayC
  simp only [Bool.and_eq_true, Bool.not_eq_true', List.contains_eq_mem, decide_eq_false_iff_not, List.all_eq_true, List.mem_range, Bool.or_eq_true, decide_eq_true_eq]
  constructor
  · rintro ⟨h1, h2⟩
    refine ⟨h1, fun w hw hd => ?_⟩
    rcases h2 w hw with h | h
    · rw [hd] at h; cases h
    · exact h
  · rintro ⟨h1, h2⟩
    refine ⟨h1, fun w hw => ?_⟩
    cases hd : dep t b w with
    | false => exact Or.inl rfl
    | true => exact Or.inr (h2 w hw hd)
theorem onW_lt {t : TS} {n : Nat} {acc : List Nat} (h : onW t n acc) {b : Nat} (hb : b < n) (hn : b ∉ acc) : acc.length < n := by
  refine Nat.lt_of_not_le (fun e => hn (nd_all h.1 h.2.1 e b hb))
theorem onW_go {t : TS} {n b : Nat} {acc : List Nat} (h : onW t n acc) (hf : (List.range n).find? (mayC t n acc) = some b) : onW t n (acc ++ [b]) ∧ b < n ∧ b ∉ acc := by
  have hb : b < n := List.mem_range.mp (List.mem_of_find?_eq_some hf)
  have hm := mayC_t.mp (List.find?_some hf)
  have hl := onW_lt h hb hm.1
  refine ⟨⟨?_, ?_, ?_⟩, hb, hm.1⟩
  · rw [List.nodup_append]
    refine ⟨h.1, by simp, fun x hx y hy => ?_⟩
    rw [List.mem_singleton] at hy
    subst hy
    exact fun e => hm.1 (e ▸ hx)
  · intro x hx
    rcases List.mem_append.mp hx with hx | hx
    · exact h.2.1 x hx
    · rw [List.mem_singleton] at hx; omega
  · rw [← h.2.2, show n - acc.length = (n - (acc ++ [b]).length) + 1 by simp; omega]
    conv => rhs; unfold gre
    rw [hf]
theorem onW_end {t : TS} {n : Nat} {acc : List Nat} (h : onW t n acc) (hf : (List.range n).find? (mayC t n acc) = none) : gre t n n [] = acc := by
  rw [← h.2.2]
  cases n - acc.length with
  | zero => rfl
  | succ f => unfold gre; rw [hf]
theorem gre_on (t : TS) (n : Nat) : onW t n (gre t n n []) ∧ (List.range n).find? (mayC t n (gre t n n [])) = none := by
  have key : ∀ f acc, onW t n acc → n ≤ f + acc.length → onW t n (gre t n f acc) ∧ (List.range n).find? (mayC t n (gre t n f acc)) = none := by
    intro f
    induction f with
    | zero =>
      intro acc h hl
      refine ⟨h, ?_⟩
      rw [List.find?_eq_none]
      intro b hb hm
      exact (mayC_t.mp hm).1 (nd_all h.1 h.2.1 (by omega) b (List.mem_range.mp hb))
    | succ f ih =>
      intro acc h hl
      unfold gre
      cases hf : (List.range n).find? (mayC t n acc) with
      | none => exact ⟨h, hf⟩
      | some b => exact ih _ (onW_go h hf).1 (by simp; omega)
  exact key n [] (onW_0 t n) (by simp)
theorem ordL_len (t : TS) (n : Nat) : (ordL t n).length = n ∧ (ordL t n).Nodup ∧ ∀ x ∈ ordL t n, x < n := by
  have h := (gre_on t n).1
  have h1 : (ordL t n).Nodup := by
    unfold ordL
    rw [List.nodup_append]
    refine ⟨h.1, List.Nodup.sublist List.filter_sublist List.nodup_range, fun x hx y hy => ?_⟩
    have := (List.mem_filter.mp hy).2
    intro e
    subst e
    simp [hx] at this
  have h2 : ∀ x ∈ ordL t n, x < n := by
    intro x hx
    unfold ordL at hx
    rcases List.mem_append.mp hx with hx | hx
    · exact h.2.1 x hx
    · exact List.mem_range.mp (List.mem_filter.mp hx).1
  refine ⟨?_, h1, h2⟩
  have h3 := nd_len n _ h1 h2
  have h4 : n ≤ (ordL t n).length := by
    have h5 : ∀ b ∈ List.range n, b ∈ ordL t n := by
      intro b hb
      unfold ordL
      by_cases e : b ∈ gre t n n []
      · exact List.mem_append.mpr (Or.inl e)
      · exact List.mem_append.mpr (Or.inr (List.mem_filter.mpr ⟨hb, by simp [e]⟩))
    have h6 := List.Nodup.length_le_of_subset List.nodup_range h5
    simpa using h6
  omega
/-! the reference's way to it -/
theorem t_inp {K : Nat} (h : K < 26) (s : TS) : t_809 (Int32.ofNat K) s = some (Int32.ofNat (inp K)) := by
  have : ∀ K : Fin 26, t_809 (Int32.ofNat K.val) (fun _ => 0, fun _ => 0, fun _ _ => 0, fun _ _ => 0) = some (Int32.ofNat (inp K.val)) := by decide
  exact this ⟨K, h⟩
theorem inp_3 (K : Nat) : inp K ≤ 3 := by
  unfold inp; split
  · omega
  · split
    · omega
    · split <;> omega
/-- a state of the reference but for two rows -/
def Alk (t T : TS) : Prop := T.1 = t.1 ∧ T.2.1 = t.2.1 ∧ T.2.2.2 = t.2.2.2 ∧ ∀ c j, c ≠ 138 → c ≠ 139 → T.2.2.1 c j = t.2.2.1 c j
theorem Alk.rf (t : TS) : Alk t t := ⟨rfl, rfl, rfl, fun _ _ _ _ => rfl⟩
theorem Alk.wr {t T : TS} {c k : Nat} {v : Int32} (h : Alk t T) (hc : c = 138 ∨ c = 139) : Alk t (wrI T c k v) := ⟨h.1, h.2.1, h.2.2.1, fun q j h1 h2 => by rw [wr_ne (by omega)]; exact h.2.2.2 q j h1 h2⟩
def plc (T : TS) (n : Nat) (acc : List Nat) : Prop := ∀ w, w < n → T.2.2.1 139 w = if w ∈ acc then 1 else 0
/-- kinds and wires as they may be -/
def okW (t : TS) (n : Nat) : Prop := n ≤ 40 ∧ t.1 400 = Int32.ofNat n ∧ ∀ k, k < n → (∃ K, K < 26 ∧ t.2.2.1 125 k = Int32.ofNat K) ∧ ∀ i, i < 3 → wire t k i = -1 ∨ ∃ w, w < n ∧ wire t k i = Int32.ofNat w
theorem dep_iff {t : TS} {b w K : Nat} (hK : K < 26) (h : t.2.2.1 125 b = Int32.ofNat K) : dep t b w = true ↔ K ≠ 16 ∧ ∃ i, i < inp K ∧ wire t b i = Int32.ofNat w := by
  unfold dep
  rw [h, bN, i_clamp (by omega)]
  simp only [Bool.and_eq_true, Bool.not_eq_true', beq_eq_false_iff_ne, ne_eq, List.any_eq_true, List.mem_range, beq_iff_eq]
def dOk (t : TS) (acc : List Nat) (b i : Nat) : Bool := wire t b i == -1 || acc.contains (bN (wire t b i))
theorem dOk_all {t : TS} {n b K : Nat} {acc : List Nat} (hK : K < 26) (h : t.2.2.1 125 b = Int32.ofNat K) (h16 : K ≠ 16) (hn : n ≤ 40) (hacc : ∀ x ∈ acc, x < n) (hwi : ∀ i, i < 3 → wire t b i = -1 ∨ ∃ w, w < n ∧ wire t b i = Int32.ofNat w) : (List.range (inp K)).all (dOk t acc b) = (List.range n).all (fun w => !dep t b w || acc.contains w) := by
  have h3 := inp_3 K
  rw [Bool.eq_iff_iff]
  simp only [List.all_eq_true, List.mem_range, dOk, Bool.or_eq_true, beq_iff_eq, List.contains_eq_mem, decide_eq_true_eq, Bool.not_eq_true']
  constructor
  · intro q w hw
    cases hd : dep t b w with
    | false => exact Or.inl rfl
    | true =>
      obtain ⟨_, i, hi, e⟩ := (dep_iff hK h).mp hd
      rcases q i hi with z | z
      · rw [e] at z; exact absurd z (i_ne1 (by omega))
      · rw [e, bN, i_clamp (by omega)] at z; exact Or.inr z
  · intro q i hi
    rcases hwi i (by omega) with e | ⟨w, hw, e⟩
    · exact Or.inl e
    · rcases q w hw with z | z
      · have : dep t b w = true := (dep_iff hK h).mpr ⟨h16, i, hi, e⟩
        rw [this] at z; cases z
      · refine Or.inr ?_
        rw [e, bN, i_clamp (by omega)]; exact z
theorem all_suc (n : Nat) (p : Nat → Bool) : (List.range (n + 1)).all p = ((List.range n).all p && p n) := by
  rw [List.range_succ, List.all_append]; simp
theorem t_may {t T : TS} {n b : Nat} {acc : List Nat} (ho : okW t n) (hacc : ∀ x ∈ acc, x < n) (ha : Alk t T) (hp : plc T n acc) (hb : b < n) : t_808 (Int32.ofNat b) T = some (if (List.range n).all (fun w => !dep t b w || acc.contains w) = true then 1 else 0) := by
  obtain ⟨hn, h400, ho⟩ := ho
  obtain ⟨⟨K, hK, hKe⟩, hwi⟩ := ho b hb
  have hK' : T.2.2.1 125 b = Int32.ofNat K := by rw [ha.2.2.2 _ _ (by omega) (by omega), hKe]
  have hw' : ∀ i, i < 3 → T.2.2.1 129 (3 * b + i) = wire t b i := fun i hi => by rw [ha.2.2.2 _ _ (by omega) (by omega)]; rfl
  have h3 := inp_3 K
  suffices h : Tr (t_808 (Int32.ofNat b) T) (fun v => v = if (List.range n).all (fun w => !dep t b w || acc.contains w) = true then 1 else 0) by
    obtain ⟨x, h1, h2⟩ := h
    rw [h1, h2]
  unfold t_808
  simp only [rdI_n (show b < 40 by omega) (show (40 : Nat) < 2147483648 by omega), Option.bind_some, hK', t_inp hK]
  by_cases h16 : K = 16
  · subst h16
    refine Tr.bd (P := fun v => v = 1) ⟨1, wh_inr rfl, rfl⟩ ?_
    rintro _ rfl
    refine ⟨1, if_pos (Or.inr rfl), ?_⟩
    rw [if_pos]
    simp only [List.all_eq_true, List.mem_range, Bool.or_eq_true, Bool.not_eq_true']
    intro w hw
    cases hd : dep t b w with
    | false => exact Or.inl rfl
    | true => exact absurd rfl ((dep_iff hK hKe).mp hd).1
  · rw [← dOk_all hK hKe h16 hn hacc hwi]
    refine Tr.bd (P := fun v => v = if (List.range (inp K)).all (dOk t acc b) = true then (1 : Int32) else 0) (wh_cnt (inp K) (fun i a => a = (if (List.range i).all (dOk t acc b) = true then (1 : Int32) else 0, Int32.ofNat i)) ?_ ?_ rfl) ?_
    · rintro i _ hi rfl
      refine Or.inr ⟨_, ?_, rfl⟩
      dsimp only
      rw [if_pos ((i_lt (by omega) (by omega)).mpr hi), if_neg (by rw [i_eqL (by omega) (by omega)]; exact h16), i_mulL, i_add, rdI_n (by omega) (by omega), Option.bind_some, hw' i (by omega), i_suc, all_suc]
      cases hg : (List.range i).all (dOk t acc b) with
      | false => simp
      | true =>
        simp only [if_true, show ¬ (1 : Int32) = 0 by decide, if_false, Bool.true_and]
        rcases hwi i (by omega) with e | ⟨w, hw, e⟩
        · rw [e, if_pos (by decide)]; simp [dOk, e]
        · rw [e, if_neg (i_nlt0 (by omega)), rdI_n (by omega) (by omega), Option.bind_some, hp w hw]
          by_cases hm : w ∈ acc
          · simp [dOk, e, hm, bN, i_clamp (show w < 2147483648 by omega)]
          · simp [dOk, e, hm, bN, i_clamp (show w < 2147483648 by omega), i_ne1 (show w < 2147483648 by omega)]
    · rintro _ rfl
      refine ⟨_, ?_, rfl⟩
      dsimp only
      rw [if_neg (by rw [i_lt (by omega) (by omega)]; omega)]
    · rintro _ rfl
      refine ⟨_, if_pos ?_, rfl⟩
      split
      · exact Or.inr rfl
      · exact Or.inl rfl
theorem find_drop {n j : Nat} {p : Nat → Bool} (h : j < n) : ((List.range n).drop j).find? p = if p j = true then some j else ((List.range n).drop (j + 1)).find? p := by
  rw [List.drop_eq_getElem_cons (by simpa using h), List.find?_cons]
  simp only [List.getElem_range]
  cases p j <;> rfl
def nxI (o : Option Nat) : Int32 := match o with
  | none => -1
  | some b => Int32.ofNat b
theorem t_sort {t : TS} {n : Nat} (ho : okW t n) : Tr (t_807 t) (fun z => z.1 = Int32.ofNat (ordC t n) ∧ Alk t z.2 ∧ ∀ j, j < n → z.2.2.2.1 138 j = Int32.ofNat ((ordL t n).getD j 0)) := by
  have hn := ho.1
  have h400 := ho.2.1
  unfold t_807
  refine Tr.bd (P := fun T => Alk t T ∧ plc T n []) (wh_cnt n (fun k (a : TS × Int32) => a.2 = Int32.ofNat k ∧ Alk t a.1 ∧ ∀ w, w < k → a.1.2.2.1 139 w = 0) ?_ ?_ ⟨rfl, Alk.rf t, fun w hw => by omega⟩) ?_
  · rintro k ⟨T, q⟩ hk ⟨hq, ha, hp⟩
    dsimp only at hq ha hp ⊢
    subst hq
    refine Or.inr ⟨(wrI T 139 k 0, Int32.ofNat (k + 1)), ?_, rfl, ha.wr (Or.inr rfl), ?_⟩
    · rw [ha.1, h400, if_pos ((i_lt (by omega) (by omega)).mpr hk), stI_n (by omega) (by omega), Option.bind_some, i_suc]; rfl
    · intro w hw
      dsimp only
      rw [wr_at]
      by_cases e : w = k
      · rw [if_pos ⟨rfl, e⟩]
      · rw [if_neg (fun z => e z.2)]; exact hp w (by omega)
  · rintro ⟨T, q⟩ ⟨hq, ha, hp⟩
    dsimp only at hq ha hp ⊢
    subst hq
    refine ⟨T, ?_, ha, fun w hw => by rw [hp w hw]; simp⟩
    rw [ha.1, h400, if_neg (by rw [i_lt (by omega) (by omega)]; omega)]
  rintro T ⟨ha, hp⟩
  refine Tr.bd (P := fun (z : TS × Int32) => Alk t z.1 ∧ plc z.1 n (gre t n n []) ∧ z.2 = Int32.ofNat (gre t n n []).length ∧ ∀ j, j < (gre t n n []).length → z.1.2.2.1 138 j = Int32.ofNat ((gre t n n []).getD j 0)) (wh_ind (P := fun (a : TS × Int32 × Int32) => ∃ acc, onW t n acc ∧ Alk t a.1 ∧ plc a.1 n acc ∧ a.2.1 = Int32.ofNat acc.length ∧ (∀ j, j < acc.length → a.1.2.2.1 138 j = Int32.ofNat (acc.getD j 0)) ∧ (a.2.2 = 1 ∨ a.2.2 = 0 ∧ (List.range n).find? (mayC t n acc) = none)) (fun a => 2 * (n - bN a.2.1) + bN a.2.2) ?_ ⟨[], onW_0 t n, ha, hp, rfl, fun j hj => by simp at hj, Or.inl rfl⟩) ?_
  · rintro ⟨U, q, m⟩ ⟨acc, hw, hU, hpl, hq, hor, hm⟩
    dsimp only at hU hpl hq hor hm ⊢
    subst hq
    have hlen := nd_len n acc hw.1 hw.2.1
    rcases hm with rfl | ⟨rfl, hf⟩
    · refine Or.inr ?_
      have inner : Tr (wh (S := Int32 × Int32) (X := Int32) (fun p26 => (if p26.2 < 0 then some (.inr p26.1) else Option.bind (α := Int32) (rdI U 139 40 p26.2) (fun x2 => Option.bind (α := Int32) (Option.bind (α := Sum (Unit) (Int32)) ((if x2 = 0 then Option.bind (α := Int32) (t_808 p26.2 U) (fun x3 => (if x3 = 0 then some (.inl ()) else some (.inr p26.2))) else some (.inl ()))) (Sum.elim (fun v39 => some p26.1) (fun z => some z))) (fun v40 => some (.inl (v40, p26.2 - 1)))))) (-1, (U.1 400) - 1)) (fun v => v = nxI ((List.range n).find? (mayC t n acc))) := by
        refine wh_cnt n (fun k a => a = (nxI (((List.range n).drop (n - k)).find? (mayC t n acc)), Int32.ofNat (n - k) - 1)) ?_ ?_ ?_
        · rintro k _ hk rfl
          refine Or.inr ⟨_, ?_, rfl⟩
          dsimp only
          rw [i_subL (show 1 ≤ n - k by omega), show n - (k + 1) = n - k - 1 by omega, if_neg (i_nlt0 (by omega)), rdI_n (by omega) (by omega), Option.bind_some, hpl _ (by omega), find_drop (j := n - k - 1) (by omega), show n - k - 1 + 1 = n - k by omega]
          by_cases hmem : n - k - 1 ∈ acc
          · have hb : mayC t n acc (n - k - 1) = false := by
              cases hz : mayC t n acc (n - k - 1) with
              | false => rfl
              | true => exact absurd hmem (mayC_t.mp hz).1
            simp [hmem, hb]
          · rw [if_neg hmem, if_pos rfl, t_may ho hw.2.1 hU hpl (by omega)]
            have hb : mayC t n acc (n - k - 1) = (List.range n).all (fun w => !dep t (n - k - 1) w || acc.contains w) := by
              unfold mayC; simp [hmem]
            rw [hb]
            cases (List.range n).all (fun w => !dep t (n - k - 1) w || acc.contains w) <;> simp [nxI]
        · rintro _ rfl
          refine ⟨_, ?_, rfl⟩
          dsimp only
          rw [show n - n = 0 by omega, if_pos (by decide)]
          rfl
        · rw [hU.1, h400]
          simp only [Nat.sub_zero, Prod.mk.injEq, and_true]
          rw [List.drop_eq_nil_of_le (by simp)]; rfl
      obtain ⟨v, hv, rfl⟩ := inner
      rw [if_neg (by decide), hv, Option.bind_some]
      cases hf : (List.range n).find? (mayC t n acc) with
      | none =>
        refine ⟨(U, Int32.ofNat acc.length, 0), ?_, ⟨acc, hw, hU, hpl, rfl, hor, Or.inr ⟨rfl, hf⟩⟩, ?_⟩
        · simp [nxI]
        · simp [bN]
      | some b =>
        obtain ⟨h1, h2, h3⟩ := onW_go hw hf
        have hlt := onW_lt hw h2 h3
        refine ⟨(wrI (wrI U 139 b 1) 138 acc.length (Int32.ofNat b), Int32.ofNat (acc.length + 1), 1), ?_, ⟨acc ++ [b], h1, (hU.wr (Or.inr rfl)).wr (Or.inl rfl), ?_, by simp, ?_, Or.inl rfl⟩, ?_⟩
        · rw [show nxI (some b) = Int32.ofNat b from rfl, if_neg (i_nlt0 (by omega)), Option.bind_some, if_neg (by decide), stI_n (by omega) (by omega), Option.bind_some, stI_n (by omega) (by omega), Option.bind_some, i_suc]; rfl
        · intro w hw1
          dsimp only
          rw [wr_ne (by omega), wr_at]
          by_cases e : w = b
          · rw [if_pos ⟨rfl, e⟩, if_pos (by simp [e])]
          · rw [if_neg (fun z => e z.2), hpl w hw1]
            simp [e]
        · intro j hj
          simp only [List.length_append, List.length_cons, List.length_nil] at hj
          dsimp only
          rw [wr_at]
          by_cases e : j = acc.length
          · rw [if_pos ⟨rfl, e⟩, e]; simp
          · rw [if_neg (fun z => e z.2), wr_ne (by omega), hor j (by omega), getD_app (by omega)]
        · simp only [bN, i_clamp (show acc.length < 2147483648 by omega), i_clamp (show acc.length + 1 < 2147483648 by omega)]; omega
    · refine Or.inl ⟨(U, Int32.ofNat acc.length), by rw [if_pos rfl], ?_⟩
      rw [onW_end hw hf]
      exact ⟨hU, hpl, rfl, hor⟩
  rintro ⟨U, q⟩ ⟨hU, hpl, hq, hor⟩
  dsimp only at hU hpl hq hor ⊢
  subst hq
  obtain ⟨hon, -⟩ := gre_on t n
  have hgl := nd_len n _ hon.1 hon.2.1
  refine Tr.bd (P := fun T => Alk t T ∧ ∀ j, j < n → T.2.2.1 138 j = Int32.ofNat ((ordL t n).getD j 0)) (wh_cnt n (fun k (a : TS × Int32 × Int32) => ∃ l, l = gre t n n [] ++ (List.range k).filter (fun b => !(gre t n n []).contains b) ∧ a.2.2 = Int32.ofNat k ∧ a.2.1 = Int32.ofNat l.length ∧ Alk t a.1 ∧ plc a.1 n (gre t n n []) ∧ ∀ j, j < l.length → a.1.2.2.1 138 j = Int32.ofNat (l.getD j 0)) ?_ ?_ ?_) ?_
  · rintro k ⟨V, q, m⟩ hk ⟨l, hl, hm, hq, hV, hpv, hov⟩
    dsimp only at hm hq hV hpv hov ⊢
    subst hm hq
    have hln : l.length + (if k ∈ gre t n n [] then 0 else 1) ≤ n := by
      have h1 := (ordL_len t n).1
      have h2 : (gre t n n [] ++ (List.range (k + 1)).filter (fun b => !(gre t n n []).contains b)).length ≤ (ordL t n).length := by
        unfold ordL
        rw [List.length_append, List.length_append]
        refine Nat.add_le_add_left ?_ _
        exact List.Sublist.length_le (List.Sublist.filter _ (List.range_sublist.mpr (by omega)))
      rw [h1, List.range_succ, List.filter_append, ← List.append_assoc, ← hl, List.length_append] at h2
      by_cases e : k ∈ gre t n n [] <;> simp [e] at h2 ⊢ <;> omega
    rw [hV.1, h400, if_pos ((i_lt (by omega) (by omega)).mpr hk), rdI_n (by omega) (by omega), Option.bind_some, hpv k hk]
    by_cases e : k ∈ gre t n n []
    · refine Or.inr ⟨(V, Int32.ofNat l.length, Int32.ofNat (k + 1)), by rw [if_pos e, if_neg (by decide), Option.bind_some, i_suc], l, ?_, rfl, rfl, hV, hpv, hov⟩
      rw [List.range_succ, List.filter_append, ← List.append_assoc, ← hl]; simp [e]
    · simp only [e, if_false] at hln
      refine Or.inr ⟨(wrI V 138 l.length (Int32.ofNat k), Int32.ofNat (l.length + 1), Int32.ofNat (k + 1)), ?_, l ++ [k], ?_, rfl, by simp, hV.wr (Or.inl rfl), fun w hw => by dsimp only; rw [wr_ne (by omega)]; exact hpv w hw, ?_⟩
      · rw [if_neg e, if_pos rfl, stI_n (by omega) (by omega)]
        simp only [Option.bind_some, i_suc]
      · rw [List.range_succ, List.filter_append, ← List.append_assoc, ← hl]; simp [e]
      · intro j hj
        simp only [List.length_append, List.length_cons, List.length_nil] at hj
        dsimp only
        rw [wr_at]
        by_cases e : j = l.length
        · rw [if_pos ⟨rfl, e⟩, e]; simp
        · rw [if_neg (fun z => e z.2), hov j (by omega), getD_app (by omega)]
  · rintro ⟨V, q, m⟩ ⟨l, hl, hm, hq, hV, hpv, hov⟩
    dsimp only at hm hq hV hpv hov ⊢
    subst hm hq
    refine ⟨V, by rw [hV.1, h400, if_neg (by rw [i_lt (by omega) (by omega)]; omega)], hV, ?_⟩
    have : l = ordL t n := hl
    subst this
    intro j hj
    exact hov j (by rw [(ordL_len t n).1]; exact hj)
  · exact ⟨_, rfl, rfl, by simp, hU, hpl, by simpa using hor⟩
  rintro V ⟨hV, ho⟩
  exact ⟨_, rfl, rfl, hV, ho⟩
