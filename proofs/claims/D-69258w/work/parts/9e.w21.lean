/-! the warden: the twin's letters -/
def TWd (T : TS) (sz wc w : Nat) (bg en : Nat → Nat) : Prop := T.1 307 = Int32.ofNat wc ∧ T.1 310 = Int32.ofNat w ∧ w ≤ wc ∧ wc ≤ sz ∧ sz ≤ 2000 ∧ (∀ w, w < wc → T.2.2.1 103 w = Int32.ofNat (bg w) ∧ T.2.2.1 104 w = Int32.ofNat (en w)) ∧ (∀ i, i < sz → bel (T.2.2.1 102 i) 128) ∧ Wds (fun i => csO (T.2.2.1 102 i)) sz wc bg en
def enc : List Nat → Nat
  | [] => 0
  | c :: l => (c - 96) + 32 * enc l
theorem enc_inj : ∀ l m : List Nat, (∀ c ∈ l, 97 ≤ c ∧ c ≤ 122) → (∀ c ∈ m, 97 ≤ c ∧ c ≤ 122) → enc l = enc m → l = m
  | [], [], _, _, _ => rfl
  | [], c :: m, _, h, e => by
    have := h c (List.mem_cons_self ..)
    unfold enc at e; omega
  | c :: l, [], h, _, e => by
    have := h c (List.mem_cons_self ..)
    unfold enc at e; omega
  | c :: l, d :: m, h, k, e => by
    have h1 := h c (List.mem_cons_self ..)
    have h2 := k d (List.mem_cons_self ..)
    unfold enc at e
    have e1 : enc l = enc m := by omega
    have e2 : c = d := by omega
    rw [e2, enc_inj l m (fun x hx => h x (List.mem_cons_of_mem _ hx)) (fun x hx => k x (List.mem_cons_of_mem _ hx)) e1]
theorem enc_lt : ∀ l : List Nat, (∀ c ∈ l, 97 ≤ c ∧ c ≤ 122) → enc l < 32 ^ l.length
  | [], _ => by unfold enc; simp
  | c :: l, h => by
    have h1 := h c (List.mem_cons_self ..)
    have h2 := enc_lt l (fun x hx => h x (List.mem_cons_of_mem _ hx))
    unfold enc
    rw [List.length_cons, Nat.pow_succ]
    omega
theorem csO_1 {x : Int32} {v : Nat} (hv : v < 128) (hx : x = Int32.ofNat v) : csO x = 1 ↔ 97 ≤ v ∧ v ≤ 122 := by
  subst hx
  have h1 : (96 : Int32) < Int32.ofNat v ↔ 96 < v := i_lt (j := 96) (by omega) (by omega)
  have h2 : Int32.ofNat v < (123 : Int32) ↔ v < 123 := i_lt (k := 123) (by omega) (by omega)
  have h3 : Int32.ofNat v = 32 ↔ v = 32 := i_inj (k := 32) (by omega) (by omega)
  have h4 : Int32.ofNat v = 10 ↔ v = 10 := i_inj (k := 10) (by omega) (by omega)
  unfold csO
  by_cases y1 : v = 32
  · rw [if_pos (h3.mpr y1)]; omega
  · rw [if_neg (fun z => y1 (h3.mp z))]
    by_cases y2 : v = 10
    · rw [if_pos (h4.mpr y2)]; omega
    · rw [if_neg (fun z => y2 (h4.mp z))]
      by_cases y3 : 97 ≤ v ∧ v ≤ 122
      · rw [if_pos ⟨h1.mpr (by omega), h2.mpr (by omega)⟩]; simp [y3]
      · rw [if_neg (fun z => y3 (by have := h1.mp z.1; have := h2.mp z.2; omega))]
        constructor
        · intro z
          split at z <;> omega
        · intro z; exact absurd z y3
/-- the word as a list -/
def wdT (T : TS) (bg en : Nat → Nat) (w : Nat) : List Nat := (List.range (en w - bg w)).map (fun j => bN (T.2.2.1 102 (bg w + j)))
section
variable {T : TS} {sz wc w : Nat} {bg en : Nat → Nat}
theorem wdT_len : (wdT T bg en w).length = en w - bg w := by unfold wdT; rw [List.length_map, List.length_range]
theorem wdT_get {m : Nat} (hm : m < (wdT T bg en w).length) : (wdT T bg en w)[m] = bN (T.2.2.1 102 (bg w + m)) := by simp [wdT]
theorem wdIs_L (h : TWd T sz wc w bg en) (hw : w < wc) (l : List Nat) (hl : ∀ c ∈ l, c < 128) : wdIs (T.2.2.1 102) bg en wc w l ↔ wdT T bg en w = l := by
  obtain ⟨t1, t2, t3, t4, t5, t6, t7, t8⟩ := h
  obtain ⟨a1, a2, a3, _⟩ := t8.1 w hw
  constructor
  · rintro ⟨_, h1, h2⟩
    refine List.ext_getElem (by rw [wdT_len]; omega) (fun j hj1 hj2 => ?_)
    rw [wdT_get, h2 j hj2, List.getD_eq_getElem?_getD, List.getElem?_eq_getElem hj2]
    have := hl _ (List.getElem_mem hj2)
    exact bN_of (by show l[j] < _; omega)
  · intro e
    have hlen : l.length = en w - bg w := by rw [← e, wdT_len]
    refine ⟨hw, by omega, fun j hj => ?_⟩
    have : l.getD j 0 = bN (T.2.2.1 102 (bg w + j)) := by
      rw [← e, List.getD_eq_getElem?_getD]
      unfold wdT
      rw [List.getElem?_map, List.getElem?_range (by omega)]; rfl
    rw [this]
    exact (bel_n (t7 _ (by omega)) (by omega)).1
theorem t_sign (h : TWd T sz wc w bg en) {c : Nat} (hc : c < 128) : ∃ x, t_784 (Int32.ofNat c) T = some x ∧ v01 x ∧ (x = 1 ↔ wdIs (T.2.2.1 102) bg en wc w [c]) := by
  have h' := h
  obtain ⟨t1, t2, t3, t4, t5, t6, t7, t8⟩ := h
  unfold t_784
  rw [t1, t2]
  by_cases y : w < wc
  · obtain ⟨a1, a2, a3, _⟩ := t8.1 w y
    rw [if_pos ((i_lt (by omega) (by omega)).mpr y), rdI_n (by omega) (by omega), Option.bind_some, rdI_n (by omega) (by omega), Option.bind_some, (t6 w y).1, (t6 w y).2, i_sub (by omega)]
    have hi : Int32.ofNat (en w - bg w) = 1 ↔ en w - bg w = 1 := i_inj (k := 1) (by omega) (by omega)
    by_cases z : en w - bg w = 1
    · rw [if_pos (hi.mpr z), Option.bind_some, rdI_n (by omega) (by omega), Option.bind_some]
      by_cases x : T.2.2.1 102 (bg w) = Int32.ofNat c
      · refine ⟨1, by rw [if_pos x], Or.inr rfl, fun _ => ⟨y, by show en w = bg w + 1; omega, fun j hj => ?_⟩, fun _ => rfl⟩
        have hj0 : j = 0 := by simp at hj; exact hj
        subst hj0
        exact x
      · exact ⟨0, by rw [if_neg x], Or.inl rfl, fun k => absurd k (by decide), fun k => absurd (k.2.2 0 (by simp)) x⟩
    · exact ⟨0, by rw [if_neg (fun k => z (hi.mp k))], Or.inl rfl, fun k => absurd k (by decide), fun k => absurd k.2.1 (by show ¬ en w = bg w + 1; omega)⟩
  · exact ⟨0, by rw [if_neg (fun z => y ((i_lt (by omega) (by omega)).mp z))], Or.inl rfl, fun z => absurd z (by decide), fun z => absurd z.1 y⟩
theorem wdT_let (h : TWd T sz wc w bg en) (hw : w < wc) (h1 : csO (T.2.2.1 102 (bg w)) = 1) : ∀ c ∈ wdT T bg en w, 97 ≤ c ∧ c ≤ 122 := by
  obtain ⟨t1, t2, t3, t4, t5, t6, t7, t8⟩ := h
  obtain ⟨a1, a2, a3, a4, a5, a6, a7, a8⟩ := t8.1 w hw
  intro c hc
  unfold wdT at hc
  obtain ⟨j, hj, rfl⟩ := List.mem_map.mp hc
  have hj' := List.mem_range.mp hj
  obtain ⟨z1, z2⟩ := bel_n (t7 (bg w + j) (by omega)) (by omega)
  exact (csO_1 z2 z1).mp ((a7 (bg w + j) (by omega) (by omega)).trans h1)
theorem t_letW (h : TWd T sz wc w bg en) {l : List Nat} (hl : ∀ c ∈ l, 97 ≤ c ∧ c ≤ 122) (hn : 0 < l.length) (hn5 : l.length ≤ 5) : ∃ x, t_777 T = some x ∧ (x = Int32.ofNat (enc l) ↔ wdIs (T.2.2.1 102) bg en wc w l) := by
  have h' := h
  obtain ⟨t1, t2, t3, t4, t5, t6, t7, t8⟩ := h
  have he : enc l < 33554432 := by
    have h1 := enc_lt l hl
    have h2 : 32 ^ l.length ≤ 32 ^ 5 := Nat.pow_le_pow_right (by omega) hn5
    omega
  have hm1 : ¬ (-1 : Int32) = Int32.ofNat (enc l) := fun z => i_nlt0 (show enc l < 2147483648 by omega) (by rw [← z]; decide)
  unfold t_777
  rw [t1, t2]
  by_cases y : w < wc
  · obtain ⟨a1, a2, a3, a4, a5, a6, a7, a8⟩ := t8.1 w y
    have hI := wdIs_L h' y l (fun c hc => by have := hl c hc; omega)
    rw [if_pos ((i_lt (by omega) (by omega)).mpr y), rdI_n (by omega) (by omega), Option.bind_some, (t6 w y).1, rdI_n (by omega) (by omega), Option.bind_some, t_csO, Option.bind_some]
    have hc1 : Int32.ofNat (csO (T.2.2.1 102 (bg w))) = 1 ↔ csO (T.2.2.1 102 (bg w)) = 1 := i_inj (k := 1) (by have := csO_le (T.2.2.1 102 (bg w)); omega) (by omega)
    by_cases z : csO (T.2.2.1 102 (bg w)) = 1
    · have hL := wdT_let h' y z
      rw [if_pos (hc1.mpr z), rdI_n (by omega) (by omega), Option.bind_some, Option.bind_some, (t6 w y).2, i_sub (by omega)]
      have h5 : (5 : Int32) < Int32.ofNat (en w - bg w) ↔ 5 < en w - bg w := i_lt (j := 5) (by omega) (by omega)
      by_cases x : 5 < en w - bg w
      · refine ⟨-1, by rw [if_pos (h5.mpr x)], fun k => absurd k hm1, fun k => ?_⟩
        have := (hI.mp k)
        rw [← this, wdT_len] at hn5
        omega
      · rw [if_neg (fun k => x (h5.mp k)), Option.bind_some]
        have hd : ∀ m, m ≤ en w - bg w → enc ((wdT T bg en w).drop m) < 33554432 := fun m hm => by
          have h1 := enc_lt ((wdT T bg en w).drop m) (fun c hc => hL c (List.mem_of_mem_drop hc))
          have h2 : 32 ^ ((wdT T bg en w).drop m).length ≤ 32 ^ 5 := Nat.pow_le_pow_right (by omega) (by rw [List.length_drop, wdT_len]; omega)
          omega
        have key : Tr (wh (S := Int32 × Int32) (X := Int32) (fun p41 => Option.bind (some (Int32.ofNat (bg w))) (fun x7 => (if p41.2 < x7 then some (.inr p41.1) else Option.bind (rdI T 102 2000 p41.2) (fun x8 => some (.inl (((32 * p41.1) + x8) - 96, p41.2 - 1)))))) (0, Int32.ofNat (en w) - 1)) (fun v => v = Int32.ofNat (enc (wdT T bg en w))) := by
          refine wh_cnt (en w - bg w) (fun k a => a = (Int32.ofNat (enc ((wdT T bg en w).drop (en w - bg w - k))), Int32.ofNat (bg w + (en w - bg w - k)) - 1)) ?_ ?_ ?_
          · rintro k _ hk rfl
            refine Or.inr ⟨_, ?_, rfl⟩
            dsimp only
            obtain ⟨m, hm⟩ : ∃ m, en w - bg w - k = m + 1 := ⟨en w - bg w - k - 1, by omega⟩
            have hm2 : en w - bg w - (k + 1) = m := by omega
            rw [hm, hm2, show Int32.ofNat (bg w + (m + 1)) - 1 = Int32.ofNat (bg w + m) from i_sub (j := bg w + (m + 1)) (k := 1) (by omega), Option.bind_some, if_neg (by rw [i_lt (by omega) (by omega)]; omega), rdI_n (by omega) (by omega), Option.bind_some]
            have hlm : m < (wdT T bg en w).length := by rw [wdT_len]; omega
            rw [List.drop_eq_getElem_cons hlm]
            have hg : (wdT T bg en w)[m] = bN (T.2.2.1 102 (bg w + m)) := wdT_get hlm
            obtain ⟨z1, z2⟩ := bel_n (t7 (bg w + m) (by omega)) (by omega)
            have hg2 := hL _ (List.getElem_mem hlm)
            rw [hg] at hg2 ⊢
            generalize bN (T.2.2.1 102 (bg w + m)) = g at z1 z2 hg2 ⊢
            rw [z1]
            have e1 : (32 : Int32) * Int32.ofNat (enc ((wdT T bg en w).drop (m + 1))) = Int32.ofNat (32 * enc ((wdT T bg en w).drop (m + 1))) := i_mul 32 _
            rw [e1, i_add, show Int32.ofNat (32 * enc ((wdT T bg en w).drop (m + 1)) + g) - 96 = Int32.ofNat (32 * enc ((wdT T bg en w).drop (m + 1)) + g - 96) from i_sub (k := 96) (by omega)]
            refine congrArg (fun v => some (Sum.inl (v, _))) (congrArg Int32.ofNat ?_)
            show _ = (g - 96) + 32 * enc ((wdT T bg en w).drop (m + 1))
            omega
          · rintro _ rfl
            refine ⟨_, ?_, rfl⟩
            dsimp only
            rw [Nat.sub_self, List.drop_zero, Nat.add_zero, Option.bind_some, if_pos ?_]
            rw [Int32.lt_iff_toInt_lt, Int32.toInt_sub, i_toInt (by omega)]
            show ((bg w : Int) - 1).bmod (2 ^ 32) < _
            rw [Int.bmod_eq_of_le (by omega) (by omega)]; omega
          · rw [Nat.sub_zero, show bg w + (en w - bg w) = en w by omega, List.drop_eq_nil_of_le (by rw [wdT_len]; omega)]; rfl
        obtain ⟨v, k1, k2⟩ := key
        refine ⟨v, ?_, ?_⟩
        · rw [k1]; rfl
        · rw [k2, hI]
          have := hd 0 (by omega)
          rw [List.drop_zero] at this
          constructor
          · intro e
            exact enc_inj _ _ hL hl ((i_inj (by omega) (by omega)).mp e)
          · intro e; rw [e]
    · refine ⟨-1, by rw [if_neg (fun k => z (hc1.mp k))], fun k => absurd k hm1, fun k => ?_⟩
      have h0 := k.2.2 0 hn
      have hmem : l.getD 0 0 ∈ l := by
        rw [List.getD_eq_getElem?_getD, List.getElem?_eq_getElem hn]; exact List.getElem_mem hn
      have hb := hl _ hmem
      exact absurd ((csO_1 (x := T.2.2.1 102 (bg w)) (v := l.getD 0 0) (by omega) h0).mpr hb) z
  · exact ⟨-1, by rw [if_neg (fun z => y ((i_lt (by omega) (by omega)).mp z))], fun k => absurd k hm1, fun z => absurd z.1 y⟩
end
