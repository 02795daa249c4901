/-! the warden: the words of the text -/
def csO (x : Int32) : Nat := if x = 32 then 0 else if x = 10 then 0 else if 96 < x ∧ x < 123 then 1 else if 47 < x ∧ x < 58 then 2 else 3
theorem csO_le (x : Int32) : csO x ≤ 3 := by
  unfold csO
  split <;> try omega
  split <;> try omega
  split <;> try omega
  split <;> omega
theorem t_csO (x : Int32) (t : TS) : t_775 x t = some (Int32.ofNat (csO x)) := by
  unfold t_775 csO
  by_cases h1 : x = 32
  · rw [if_pos h1, if_pos h1]; rfl
  · rw [if_neg h1, if_neg h1]
    by_cases h2 : x = 10
    · rw [if_pos h2, if_pos h2]; rfl
    · rw [if_neg h2, if_neg h2]
      by_cases h3 : 96 < x
      · by_cases h4 : x < 123
        · simp [h3, h4]
        · by_cases h5 : 47 < x
          · by_cases h6 : x < 58
            · simp [h3, h4, h5, h6]
            · simp [h3, h4, h5, h6]
          · simp [h3, h4, h5]
      · by_cases h5 : 47 < x
        · by_cases h6 : x < 58
          · simp [h3, h5, h6]
          · simp [h3, h5, h6]
        · simp [h3, h5]
def wPos (en : Nat → Nat) (w : Nat) : Nat := if w = 0 then 0 else en (w - 1)
/-- the words up to a place -/
def Wds (k : Nat → Nat) (n c : Nat) (bg en : Nat → Nat) : Prop := (∀ w, w < c → wPos en w ≤ bg w ∧ bg w < en w ∧ en w ≤ n ∧ (∀ i, wPos en w ≤ i → i < bg w → k i = 0) ∧ 0 < k (bg w) ∧ (k (bg w) = 3 → en w = bg w + 1) ∧ (∀ i, bg w ≤ i → i < en w → k i = k (bg w)) ∧ (k (bg w) = 3 ∨ en w = n ∨ k (en w) ≠ k (bg w))) ∧ wPos en c ≤ n ∧ ∀ i, wPos en c ≤ i → i < n → k i = 0
theorem Wds_zero (k bg en : Nat → Nat) : Wds k 0 0 bg en := ⟨fun _ h => absurd h (by omega), Nat.le_refl _, fun _ _ h => absurd h (by omega)⟩
theorem Wds_blank {k bg en : Nat → Nat} {n c : Nat} (h : Wds k n c bg en) (h0 : k n = 0) : Wds k (n + 1) c bg en := by
  obtain ⟨h1, h2, h3⟩ := h
  refine ⟨fun w hw => ?_, by omega, fun i z1 z2 => ?_⟩
  · obtain ⟨a1, a2, a3, a4, a5, a6, a7, a8⟩ := h1 w hw
    refine ⟨a1, a2, by omega, a4, a5, a6, a7, ?_⟩
    rcases a8 with z | z | z
    · exact Or.inl z
    · exact Or.inr (Or.inr (by rw [z, h0]; omega))
    · exact Or.inr (Or.inr z)
  · rcases Nat.lt_or_ge i n with z | z
    · exact h3 i z1 z
    · rw [show i = n by omega]; exact h0
/-- the last place's word -/
theorem Wds_last {k bg en : Nat → Nat} {n c : Nat} (h : Wds k (n + 1) c bg en) (h0 : k n ≠ 0) : 0 < c ∧ en (c - 1) = n + 1 ∧ k n = k (bg (c - 1)) := by
  obtain ⟨h1, h2, h3⟩ := h
  have hp : wPos en c = n + 1 := by
    rcases Nat.lt_or_ge n (wPos en c) with z | z
    · omega
    · exact absurd (h3 n z (by omega)) h0
  have hc : 0 < c := by
    rcases Nat.eq_zero_or_pos c with z | z
    · rw [z] at hp; unfold wPos at hp; rw [if_pos rfl] at hp; omega
    · exact z
  have he : en (c - 1) = n + 1 := by
    unfold wPos at hp
    rwa [if_neg (by omega)] at hp
  obtain ⟨a1, a2, a3, a4, a5, a6, a7, a8⟩ := h1 (c - 1) (by omega)
  exact ⟨hc, he, a7 n (by omega) (by omega)⟩
theorem Wds_new {k bg en bg' en' : Nat → Nat} {n c : Nat} (h : Wds k n c bg en) (h0 : 0 < k n) (hn : k n = 3 ∨ n = 0 ∨ k (n - 1) ≠ k n) (b1 : ∀ w, w < c → bg' w = bg w) (b2 : bg' c = n) (e1 : ∀ w, w < c → en' w = en w) (e2 : en' c = n + 1) : Wds k (n + 1) (c + 1) bg' en' := by
  have h' := h
  obtain ⟨h1, h2, h3⟩ := h
  have hp : ∀ w, w ≤ c → wPos en' w = wPos en w := fun w hw => by
    unfold wPos
    by_cases y : w = 0
    · rw [if_pos y, if_pos y]
    · rw [if_neg y, if_neg y, e1 _ (by omega)]
  have hpc : wPos en' (c + 1) = n + 1 := by
    unfold wPos
    rw [if_neg (by omega), Nat.add_sub_cancel, e2]
  refine ⟨fun w hw => ?_, by omega, fun i z1 z2 => by omega⟩
  rcases Nat.lt_or_ge w c with z | z
  · obtain ⟨a1, a2, a3, a4, a5, a6, a7, a8⟩ := h1 w z
    rw [hp w (by omega), b1 w z, e1 w z]
    refine ⟨a1, a2, by omega, a4, a5, a6, a7, ?_⟩
    rcases a8 with y | y | y
    · exact Or.inl y
    · by_cases y3 : k (bg w) = 3
      · exact Or.inl y3
      · refine Or.inr (Or.inr ?_)
        rw [y]
        have hl := a7 (n - 1) (by omega) (by omega)
        rcases hn with x | x | x
        · rw [x]; exact fun e => y3 e.symm
        · omega
        · rw [← hl]; exact fun e => x e.symm
    · exact Or.inr (Or.inr y)
  · have : w = c := by omega
    subst this
    rw [hp w (Nat.le_refl _), b2, e2]
    refine ⟨h2, by omega, Nat.le_refl _, h3, h0, fun _ => rfl, fun i z1 z2 => by rw [show i = n by omega], Or.inr (Or.inl rfl)⟩
theorem Wds_more {k bg en en' : Nat → Nat} {n c : Nat} (h : Wds k (n + 1) c bg en) (h0 : k (n + 1) ≠ 0) (h3 : k (n + 1) ≠ 3) (he : k n = k (n + 1)) (e1 : ∀ w, w + 1 < c → en' w = en w) (e2 : en' (c - 1) = n + 2) : Wds k (n + 2) c bg en' := by
  obtain ⟨l1, l2, l3⟩ := Wds_last h (by rw [he]; exact h0)
  obtain ⟨h1, h2, h3'⟩ := h
  have hp : ∀ w, w < c → wPos en' w = wPos en w := fun w hw => by
    unfold wPos
    by_cases y : w = 0
    · rw [if_pos y, if_pos y]
    · rw [if_neg y, if_neg y, e1 _ (by omega)]
  have hpc : wPos en' c = n + 2 := by
    unfold wPos
    rw [if_neg (by omega), e2]
  refine ⟨fun w hw => ?_, by omega, fun i z1 z2 => by omega⟩
  obtain ⟨a1, a2, a3, a4, a5, a6, a7, a8⟩ := h1 w hw
  rw [hp w hw]
  by_cases z : w = c - 1
  · subst z
    rw [e2]
    rw [l2] at a2 a6 a7
    refine ⟨a1, by omega, Nat.le_refl _, a4, a5, fun y => ?_, fun i z1 z2 => ?_, Or.inr (Or.inl rfl)⟩
    · rw [← l3, he] at y; exact absurd y h3
    · rcases Nat.lt_or_ge i (n + 1) with x | x
      · exact a7 i z1 x
      · rw [show i = n + 1 by omega, ← he, l3]
  · rw [e1 w (by omega)]
    refine ⟨a1, a2, by omega, a4, a5, a6, a7, ?_⟩
    rcases a8 with y | y | y
    · exact Or.inl y
    · obtain ⟨b1, b2, _⟩ := h1 (w + 1) (by omega)
      unfold wPos at b1
      rw [if_neg (by omega), Nat.add_sub_cancel, y] at b1
      have := (h1 (w + 1) (by omega)).2.2.1
      omega
    · exact Or.inr (Or.inr y)
/-- the twin's list of words -/
theorem t_list {t : TS} {sz : Nat} (h6 : t.1 306 = Int32.ofNat sz) (hz : sz ≤ 2000) : Tr (t_774 t) (fun T => (∀ c, c ≠ 307 → T.1 c = t.1 c) ∧ T.2.1 = t.2.1 ∧ (∀ c, c ≠ 103 → c ≠ 104 → T.2.2.1 c = t.2.2.1 c) ∧ T.2.2.2 = t.2.2.2 ∧ ∃ wc bg en, wc ≤ sz ∧ T.1 307 = Int32.ofNat wc ∧ (∀ w, w < wc → T.2.2.1 103 w = Int32.ofNat (bg w) ∧ T.2.2.1 104 w = Int32.ofNat (en w)) ∧ Wds (fun i => csO (t.2.2.1 102 i)) sz wc bg en) := by
  unfold t_774
  rw [Option.bind_some]
  refine Tr.bd (P := fun T => (∀ c, c ≠ 307 → T.1 c = t.1 c) ∧ T.2.1 = t.2.1 ∧ (∀ c, c ≠ 103 → c ≠ 104 → T.2.2.1 c = t.2.2.1 c) ∧ T.2.2.2 = t.2.2.2 ∧ ∃ wc bg en, wc ≤ sz ∧ T.1 307 = Int32.ofNat wc ∧ (∀ w, w < wc → T.2.2.1 103 w = Int32.ofNat (bg w) ∧ T.2.2.1 104 w = Int32.ofNat (en w)) ∧ Wds (fun i => csO (t.2.2.1 102 i)) sz wc bg en) (wh_cnt sz (fun i a => a.2.1 = Int32.ofNat (if i = 0 then 0 else csO (t.2.2.1 102 (i - 1))) ∧ a.2.2 = Int32.ofNat i ∧ (∀ c, c ≠ 307 → a.1.1 c = t.1 c) ∧ a.1.2.1 = t.2.1 ∧ (∀ c, c ≠ 103 → c ≠ 104 → a.1.2.2.1 c = t.2.2.1 c) ∧ a.1.2.2.2 = t.2.2.2 ∧ ∃ wc bg en, wc ≤ i ∧ a.1.1 307 = Int32.ofNat wc ∧ (∀ w, w < wc → a.1.2.2.1 103 w = Int32.ofNat (bg w) ∧ a.1.2.2.1 104 w = Int32.ofNat (en w)) ∧ Wds (fun i => csO (t.2.2.1 102 i)) i wc bg en) ?_ ?_ ⟨rfl, rfl, fun c hc => by rw [pt_1, if_neg hc], rfl, fun _ _ _ => rfl, rfl, 0, id, id, Nat.le_refl _, rfl, fun _ h => absurd h (by omega), Wds_zero ..⟩) (fun x hx => ⟨x, rfl, hx⟩)
  · rintro i ⟨T, pv, p⟩ hi ⟨q1, q2, q3, q4, q5, q6, wc, bg, en, hc, q7, q8, q9⟩
    dsimp only at q1 q2 q3 q4 q5 q6 q7 q8
    subst q1 q2
    have h306 : T.1 306 = Int32.ofNat sz := by rw [q3 306 (by omega)]; exact h6
    have h102 : T.2.2.1 102 i = t.2.2.1 102 i := by rw [q5 102 (by omega) (by omega)]
    have hk := csO_le (t.2.2.1 102 i)
    have hpk : (if i = 0 then 0 else csO (t.2.2.1 102 (i - 1))) ≤ 3 := by
      have := csO_le (t.2.2.1 102 (i - 1))
      split <;> omega
    dsimp only
    rw [h306, if_pos ((i_lt (by omega) (by omega)).mpr hi), rdI_n (by omega) (by omega), Option.bind_some, t_csO, Option.bind_some, h102]
    have hpos : (0 : Int32) < Int32.ofNat (csO (t.2.2.1 102 i)) ↔ 0 < csO (t.2.2.1 102 i) := i_lt (j := 0) (by omega) (by omega)
    have h3 : Int32.ofNat (csO (t.2.2.1 102 i)) = 3 ↔ csO (t.2.2.1 102 i) = 3 := i_eqL (by omega) (by decide)
    have hpv : Int32.ofNat (csO (t.2.2.1 102 i)) = Int32.ofNat (if i = 0 then 0 else csO (t.2.2.1 102 (i - 1))) ↔ csO (t.2.2.1 102 i) = (if i = 0 then 0 else csO (t.2.2.1 102 (i - 1))) := i_inj (by omega) (by omega)
    by_cases y0 : csO (t.2.2.1 102 i) = 0
    · refine Or.inr ⟨(T, Int32.ofNat (csO (t.2.2.1 102 i)), Int32.ofNat (i + 1)), ?_, ?_, rfl, q3, q4, q5, q6, wc, bg, en, by omega, q7, q8, Wds_blank q9 y0⟩
      · rw [if_neg (fun z => by rw [hpos] at z; omega), Option.bind_some, if_neg (fun z => by rw [hpos] at z; omega), Option.bind_some, i_suc]
      · dsimp only; rw [if_neg (by omega), Nat.add_sub_cancel]
    · have ypos := hpos.mpr (show 0 < csO (t.2.2.1 102 i) by omega)
      rw [if_pos ypos]
      by_cases yn : csO (t.2.2.1 102 i) = 3 ∨ csO (t.2.2.1 102 i) ≠ (if i = 0 then 0 else csO (t.2.2.1 102 (i - 1)))
      · have e25 : (if Int32.ofNat (csO (t.2.2.1 102 i)) = 3 then some (Sum.inl (β := TS) ()) else if Int32.ofNat (csO (t.2.2.1 102 i)) = Int32.ofNat (if i = 0 then 0 else csO (t.2.2.1 102 (i - 1))) then some (.inr T) else some (.inl ())) = some (.inl ()) := by
          by_cases z : csO (t.2.2.1 102 i) = 3
          · rw [if_pos (h3.mpr z)]
          · rw [if_neg (fun y => z (h3.mp y)), if_neg (fun y => by rcases yn with x | x; exact z x; exact x (hpv.mp y))]
        refine Or.inr ⟨(wrI (ptI (wrI T 103 wc (Int32.ofNat i)) 307 (Int32.ofNat (wc + 1))) 104 wc (Int32.ofNat (i + 1)), Int32.ofNat (csO (t.2.2.1 102 i)), Int32.ofNat (i + 1)), ?_, ?_, rfl, ?_, q4, ?_, q6, wc + 1, (fun w => if w = wc then i else bg w), (fun w => if w = wc then i + 1 else en w), by omega, rfl, ?_, Wds_new q9 (by omega) ?_ (fun w hw => if_neg (by omega)) (if_pos rfl) (fun w hw => if_neg (by omega)) (if_pos rfl)⟩
        · rw [e25, Option.bind_some, Sum.elim_inl, q7, stI_n (by omega) (by omega), Option.bind_some, Option.bind_some, Option.bind_some, if_pos ypos, pt_1, if_pos rfl, wr_1, q7, i_suc, show Int32.ofNat (wc + 1) - 1 = Int32.ofNat wc from i_sub (j := wc + 1) (k := 1) (by omega), stI_n (by omega) (by omega), Option.bind_some, Option.bind_some, i_suc]
        · dsimp only; rw [if_neg (by omega), Nat.add_sub_cancel]
        · intro c hc
          show (ptI (wrI T 103 wc (Int32.ofNat i)) 307 (Int32.ofNat (wc + 1))).1 c = _
          rw [pt_1, if_neg hc]; exact q3 c hc
        · intro c h1 h2
          dsimp only
          funext j
          rw [wr_ne h2]
          show (wrI T 103 wc (Int32.ofNat i)).2.2.1 c j = _
          rw [wr_ne h1, q5 c h1 h2]
        · intro w hw
          dsimp only
          constructor
          · rw [wr_ne (by omega)]
            show (wrI T 103 wc (Int32.ofNat i)).2.2.1 103 w = _
            rw [wr_at]
            by_cases y : w = wc
            · rw [if_pos ⟨rfl, y⟩, if_pos y]
            · rw [if_neg (fun z => y z.2), if_neg y]; exact (q8 w (by omega)).1
          · rw [wr_at]
            by_cases y : w = wc
            · rw [if_pos ⟨rfl, y⟩, if_pos y]
            · rw [if_neg (fun z => y z.2), if_neg y]
              show (wrI T 103 wc (Int32.ofNat i)).2.2.1 104 w = _
              rw [wr_ne (by omega)]; exact (q8 w (by omega)).2
        · by_cases yi : i = 0
          · exact Or.inr (Or.inl yi)
          · rw [if_neg yi] at yn
            rcases yn with y | y
            · exact Or.inl y
            · exact Or.inr (Or.inr (fun z => y z.symm))
      · have yi : i ≠ 0 := fun z => yn (Or.inr (by rw [if_pos z]; exact y0))
        rw [if_neg yi] at yn
        have yn1 : csO (t.2.2.1 102 i) ≠ 3 := fun z => yn (Or.inl z)
        have yn2 : csO (t.2.2.1 102 i) = csO (t.2.2.1 102 (i - 1)) := Decidable.byContradiction (fun z => yn (Or.inr z))
        obtain ⟨j, rfl⟩ : ∃ j, i = j + 1 := ⟨i - 1, by omega⟩
        rw [Nat.add_sub_cancel] at yn2
        have hl := Wds_last q9 (by rw [← yn2]; exact y0)
        refine Or.inr ⟨(wrI T 104 (wc - 1) (Int32.ofNat (j + 1 + 1)), Int32.ofNat (csO (t.2.2.1 102 (j + 1))), Int32.ofNat (j + 1 + 1)), ?_, ?_, rfl, q3, q4, ?_, q6, wc, bg, (fun w => if w = wc - 1 then j + 1 + 1 else en w), by omega, q7, ?_, Wds_more q9 y0 yn1 yn2.symm (fun w hw => if_neg (by omega)) (if_pos rfl)⟩
        · rw [if_neg (fun z => yn1 (h3.mp z)), if_pos (hpv.mpr (by rw [if_neg (by omega)]; exact yn2)), Option.bind_some, Sum.elim_inr, Option.bind_some, if_pos ypos, q7, show Int32.ofNat wc - 1 = Int32.ofNat (wc - 1) from i_sub (j := wc) (k := 1) (by omega), i_suc, stI_n (by omega) (by omega), Option.bind_some, Option.bind_some]
        · dsimp only; rw [if_neg (by omega), Nat.add_sub_cancel]
        · intro c h1 h2
          dsimp only
          funext j
          rw [wr_ne h2, q5 c h1 h2]
        · intro w hw
          dsimp only
          refine ⟨by rw [wr_ne (by omega)]; exact (q8 w hw).1, ?_⟩
          rw [wr_at]
          by_cases y : w = wc - 1
          · rw [if_pos ⟨rfl, y⟩, if_pos y]
          · rw [if_neg (fun z => y z.2), if_neg y]; exact (q8 w hw).2
  · rintro ⟨T, pv, p⟩ ⟨q1, q2, q3, q⟩
    dsimp only at q1 q2 q3
    subst q2
    exact ⟨T, by dsimp only; rw [q3 306 (by omega), h6, if_neg (by rw [i_lt (by omega) (by omega)]; omega)], q3, q⟩
