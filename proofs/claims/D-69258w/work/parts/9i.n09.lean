/-! the plan in the reference: whether a line is between two cells of the grid -/
/-- a unit of a column of the grid -/
theorem tr_eq {A : Type} {o : Option A} {v : A} (h : Tr o (fun x => x = v)) : o = some v := by
  obtain ⟨x, h1, h2⟩ := h
  rw [h1, h2]
def rep (xs : List Nat) (c : Nat) : Int := if c = 0 then -1 else xs.getD (c - 1) 0
section
variable {L : PLn} {nl : Nat} {t : TS}
theorem pw_idx {xs : List Nat} (h : xs.Pairwise (· < ·)) {v : Nat} (hv : v ∈ xs) {r : Nat} (hr : 0 < r) (hr2 : r ≤ xs.length) (hl : xs.getD (r - 1) 0 < v) : r < xs.length ∧ xs.getD r 0 ≤ v := by
  obtain ⟨k, hk, e⟩ := List.getElem_of_mem hv
  rw [← getD_lt hk] at e
  have : r - 1 < k := by
    rcases Nat.lt_trichotomy (r - 1) k with z | z | z
    · exact z
    · rw [z, e] at hl; omega
    · have := pw_lt h z (by omega); omega
  refine ⟨by omega, ?_⟩
  by_cases z : r = k
  · rw [z, e]; exact Nat.le_refl _
  · have := pw_lt h (show r < k by omega) hk; omega
def spY (L : PLn) (ys : List Nat) (l r : Nat) : Prop := 0 < r ∧ r < ys.length ∧ pY L l ≤ ys.getD (r - 1) 0 ∧ ys.getD r 0 ≤ pHY L l
def spX (L : PLn) (xs : List Nat) (l c : Nat) : Prop := 0 < c ∧ c < xs.length ∧ pX L l ≤ xs.getD (c - 1) 0 ∧ xs.getD c 0 ≤ pHX L l
theorem gwV_g {i r : Nat} (hr : r ≤ (edY L nl).length) : gwV (gS L nl) (2 * nP L nl) i (rep (edY L nl) r) ↔ ∃ l, l < nl ∧ pFl L l = false ∧ pX L l = i ∧ spY L (edY L nl) l r := by
  rw [gwV_i]
  constructor
  · rintro ⟨l, d, h1, h2, h3, h4, h5⟩
    unfold rep at h5
    by_cases z : r = 0
    · rw [if_pos z] at h5; omega
    · rw [if_neg z] at h5
      have e := pHX_f h3
      obtain ⟨a, b⟩ := pw_idx (edY_pw L nl) (edY_mem.mpr ⟨l, h1, Or.inr rfl⟩) (show 0 < r by omega) hr (by omega)
      exact ⟨l, h1, h3, by omega, by omega, a, by omega, b⟩
  · rintro ⟨l, h1, h3, h4, h5, h6, h7, h8⟩
    have e := pHX_f h3
    have := pw_lt (edY_pw L nl) (show r - 1 < r by omega) h6
    refine ⟨l, (edY L nl).getD (r - 1) 0 - pY L l, h1, by omega, h3, by omega, ?_⟩
    unfold rep
    rw [if_neg (by omega)]
    omega
theorem gwH_g {j c : Nat} (hc : c ≤ (edX L nl).length) : gwH (gS L nl) (2 * nP L nl) (rep (edX L nl) c) j ↔ ∃ l, l < nl ∧ pFl L l = true ∧ pY L l = j ∧ spX L (edX L nl) l c := by
  rw [gwH_i]
  constructor
  · rintro ⟨l, d, h1, h2, h3, h4, h5⟩
    unfold rep at h5
    by_cases z : c = 0
    · rw [if_pos z] at h5; omega
    · rw [if_neg z] at h5
      have e := pHX_t h3
      obtain ⟨a, b⟩ := pw_idx (edX_pw L nl) (edX_mem.mpr ⟨l, h1, Or.inr rfl⟩) (show 0 < c by omega) hc (by omega)
      exact ⟨l, h1, h3, by omega, by omega, a, by omega, b⟩
  · rintro ⟨l, h1, h3, h4, h5, h6, h7, h8⟩
    have e := pHX_t h3
    have := pw_lt (edX_pw L nl) (show c - 1 < c by omega) h6
    refine ⟨l, (edX L nl).getD (c - 1) 0 - pX L l, h1, by omega, h3, by omega, ?_⟩
    unfold rep
    rw [if_neg (by omega)]
    omega
theorem edX_at (hg : gdL L nl) {c : Nat} (hc : c < (edX L nl).length) : (edX L nl).getD c 0 < 25 := by rw [getD_lt hc]; exact edX_lt hg (Nat.le_refl _) _ (List.getElem_mem hc)
theorem edY_at (hg : gdL L nl) {c : Nat} (hc : c < (edY L nl).length) : (edY L nl).getD c 0 < 25 := by rw [getD_lt hc]; exact edY_lt hg (Nat.le_refl _) _ (List.getElem_mem hc)
theorem t_shR (h : lnR t L nl) (he : edR t L nl) (hg : gdL L nl) {c r : Nat} (hc : c < (edX L nl).length) (hr : r ≤ (edY L nl).length) : by classical exact (t_689 (Int32.ofNat c) (Int32.ofNat r) 1 t = some (if gwV (gS L nl) (2 * nP L nl) ((edX L nl).getD c 0 : Nat) (rep (edY L nl) r) then 1 else 0)) := by
  classical
  have hn := hg.1
  have n1 := edX_len hg (Nat.le_refl nl)
  have n2 := edY_len hg (Nat.le_refl nl)
  have xc := edX_at hg hc
  unfold t_689
  refine tr_eq (Tr.bd (P := fun v => v = if gwV (gS L nl) (2 * nP L nl) ((edX L nl).getD c 0 : Nat) (rep (edY L nl) r) then 1 else 0) (wh_cnt nl (fun k (a : Int32 × Int32) => a.2 = Int32.ofNat k ∧ ((a.1 = 1 ∧ ∃ l, l < k ∧ l < nl ∧ pFl L l = false ∧ pX L l = (edX L nl).getD c 0 ∧ spY L (edY L nl) l r) ∨ (a.1 = 0 ∧ ∀ l, l < k → pFl L l = false → pX L l = (edX L nl).getD c 0 → ¬ spY L (edY L nl) l r))) ?_ ?_ ⟨rfl, Or.inr ⟨rfl, fun l hl => absurd hl (Nat.not_lt_zero _)⟩⟩) ?_)
  · rintro k ⟨v, _⟩ hk ⟨rfl, hv⟩
    right
    dsimp only at hv ⊢
    obtain ⟨q1, q2, q3, q4⟩ := pX_le hg hk
    rw [h.1, if_pos ((i_lt (by omega) (by omega)).mpr hk), r52 h hn hk]; repeat (first | rw [Option.bind_some] | rw [Sum.elim_inl] | rw [Sum.elim_inr])
    rw [i_suc]
    cases hF : pFl L k with
    | true =>
      rw [if_pos (show (if true = true then (1 : Int32) else 0) = 1 from rfl)]; repeat (first | rw [Option.bind_some] | rw [Sum.elim_inl] | rw [Sum.elim_inr])
      refine ⟨_, rfl, rfl, ?_⟩
      rcases hv with ⟨rfl, l, h1, h2⟩ | ⟨rfl, h1⟩
      · exact Or.inl ⟨rfl, l, by omega, h2⟩
      · refine Or.inr ⟨rfl, fun l hl hf => ?_⟩
        by_cases e : l = k
        · rw [e, hF] at hf; cases hf
        · exact h1 l (by omega) hf
    | false =>
      rw [if_neg (show ¬ (if false = true then (1 : Int32) else 0) = 1 by decide), if_neg (show ¬ (1 : Int32) = 0 by decide), r50 h hn hk]; repeat (first | rw [Option.bind_some] | rw [Sum.elim_inl] | rw [Sum.elim_inr])
      rw [if_neg (show ¬ (1 : Int32) = 0 by decide), rdI_n (by omega) (by omega), he.2.2.1 c hc]; repeat (first | rw [Option.bind_some] | rw [Sum.elim_inl] | rw [Sum.elim_inr])
      have e97 : (if (0 : Int32) < Int32.ofNat r then (if Int32.ofNat r < (t.1 113) then Option.bind (rdI t 51 20 (Int32.ofNat k)) (fun x10 => Option.bind (rdI t 59 40 (Int32.ofNat r - 1)) (fun x11 => (if x11 < x10 then some (0 : Int32) else Option.bind (t_680 (Int32.ofNat k) t) (fun x12 => Option.bind (rdI t 59 40 (Int32.ofNat r)) (fun x13 => (if x12 < x13 then some 0 else some 1)))))) else some 0) else some 0) = some (if spY L (edY L nl) k r then 1 else 0) := by
        rw [he.2.1]
        by_cases z1 : 0 < r
        · rw [if_pos ((i_Llt (by omega) (by omega)).mpr z1)]
          by_cases z2 : r < (edY L nl).length
          · have y1 := edY_at hg (show r - 1 < (edY L nl).length by omega)
            have y2 := edY_at hg z2
            rw [if_pos ((i_lt (by omega) (by omega)).mpr z2), r51 h hn hk]; repeat (first | rw [Option.bind_some] | rw [Sum.elim_inl] | rw [Sum.elim_inr])
            rw [i_subL (show 1 ≤ r by omega), rdI_n (by omega) (by omega), he.2.2.2 (r - 1) (by omega)]; repeat (first | rw [Option.bind_some] | rw [Sum.elim_inl] | rw [Sum.elim_inr])
            by_cases z3 : (edY L nl).getD (r - 1) 0 < pY L k
            · rw [if_pos ((i_lt (by omega) (by omega)).mpr z3), if_neg (show ¬ spY L (edY L nl) k r from fun z => by have := z.2.2.1; omega)]
            · rw [if_neg (fun z => z3 ((i_lt (by omega) (by omega)).mp z)), t_hY h hn hk]; repeat (first | rw [Option.bind_some] | rw [Sum.elim_inl] | rw [Sum.elim_inr])
              rw [rdI_n (by omega) (by omega), he.2.2.2 r z2]; repeat (first | rw [Option.bind_some] | rw [Sum.elim_inl] | rw [Sum.elim_inr])
              by_cases z4 : pHY L k < (edY L nl).getD r 0
              · rw [if_pos ((i_lt (by omega) (by omega)).mpr z4), if_neg (show ¬ spY L (edY L nl) k r from fun z => by have := z.2.2.2; omega)]
              · rw [if_neg (fun z => z4 ((i_lt (by omega) (by omega)).mp z)), if_pos (show spY L (edY L nl) k r from ⟨z1, z2, by omega, by omega⟩)]
          · rw [if_neg (fun z => z2 ((i_lt (by omega) (by omega)).mp z)), if_neg (show ¬ spY L (edY L nl) k r from fun z => z2 z.2.1)]
        · rw [if_neg (fun z => z1 ((i_Llt (by omega) (by omega)).mp z)), if_neg (show ¬ spY L (edY L nl) k r from fun z => z1 z.1)]
      rw [if_neg (show ¬ (1 : Int32) = 0 by decide), e97]; repeat (first | rw [Option.bind_some] | rw [Sum.elim_inl] | rw [Sum.elim_inr])
      rcases hv with ⟨rfl, l, h1, h2⟩ | ⟨rfl, h1⟩
      · rw [if_neg (show ¬ (1 : Int32) = 0 by decide)]
        exact ⟨_, rfl, rfl, Or.inl ⟨rfl, l, by omega, h2⟩⟩
      · rw [if_pos (show (0 : Int32) = 0 from rfl)]
        by_cases z : pX L k = (edX L nl).getD c 0 ∧ spY L (edY L nl) k r
        · rw [if_pos (by rw [z.1]), if_pos z.2, if_neg (show ¬ (1 : Int32) = 0 by decide)]
          exact ⟨_, rfl, rfl, Or.inl ⟨rfl, k, by omega, hk, hF, z.1, z.2⟩⟩
        · have : (if Int32.ofNat (pX L k) = Int32.ofNat ((edX L nl).getD c 0) then (if (if spY L (edY L nl) k r then (1 : Int32) else 0) = 0 then some (0 : Int32) else some 1) else some 0) = some 0 := by
            by_cases w : pX L k = (edX L nl).getD c 0
            · rw [if_pos (by rw [w]), if_neg (show ¬ spY L (edY L nl) k r from fun y => z ⟨w, y⟩), if_pos (show (0 : Int32) = 0 from rfl)]
            · rw [if_neg (fun y => w ((i_inj (by omega) (by omega)).mp y))]
          rw [this]
          refine ⟨_, rfl, rfl, Or.inr ⟨rfl, fun l hl hf hx hs => ?_⟩⟩
          by_cases e : l = k
          · rw [e] at hx hs; exact z ⟨hx, hs⟩
          · exact h1 l (by omega) hf hx hs
  · rintro ⟨v, _⟩ ⟨rfl, hv⟩
    dsimp only at hv ⊢
    refine ⟨v, by rw [h.1, if_neg (fun z => by have := (i_lt (by omega) (by omega)).mp z; omega)], ?_⟩
    rcases hv with ⟨rfl, l, h1, h2⟩ | ⟨rfl, h1⟩
    · rw [if_pos ((gwV_g hr).mpr ⟨l, h2⟩)]
    · rw [if_neg]
      intro z
      obtain ⟨l, h2, h3, h4, h5⟩ := (gwV_g hr).mp z
      exact h1 l h2 h3 h4 h5
  · rintro v rfl
    refine ⟨_, if_pos ?_, rfl⟩
    by_cases z : gwV (gS L nl) (2 * nP L nl) ((edX L nl).getD c 0 : Nat) (rep (edY L nl) r)
    · rw [if_pos z]; exact Or.inr rfl
    · rw [if_neg z]; exact Or.inl rfl
theorem t_shU (h : lnR t L nl) (he : edR t L nl) (hg : gdL L nl) {c r : Nat} (hc : c ≤ (edX L nl).length) (hr : r < (edY L nl).length) : by classical exact (t_689 (Int32.ofNat c) (Int32.ofNat r) 0 t = some (if gwH (gS L nl) (2 * nP L nl) (rep (edX L nl) c) ((edY L nl).getD r 0 : Nat) then 1 else 0)) := by
  classical
  have hn := hg.1
  have n1 := edX_len hg (Nat.le_refl nl)
  have n2 := edY_len hg (Nat.le_refl nl)
  have xc := edY_at hg hr
  unfold t_689
  refine tr_eq (Tr.bd (P := fun v => v = if gwH (gS L nl) (2 * nP L nl) (rep (edX L nl) c) ((edY L nl).getD r 0 : Nat) then 1 else 0) (wh_cnt nl (fun k (a : Int32 × Int32) => a.2 = Int32.ofNat k ∧ ((a.1 = 1 ∧ ∃ l, l < k ∧ l < nl ∧ pFl L l = true ∧ pY L l = (edY L nl).getD r 0 ∧ spX L (edX L nl) l c) ∨ (a.1 = 0 ∧ ∀ l, l < k → pFl L l = true → pY L l = (edY L nl).getD r 0 → ¬ spX L (edX L nl) l c))) ?_ ?_ ⟨rfl, Or.inr ⟨rfl, fun l hl => absurd hl (Nat.not_lt_zero _)⟩⟩) ?_)
  · rintro k ⟨v, _⟩ hk ⟨rfl, hv⟩
    right
    dsimp only at hv ⊢
    obtain ⟨q1, q2, q3, q4⟩ := pX_le hg hk
    rw [h.1, if_pos ((i_lt (by omega) (by omega)).mpr hk), r52 h hn hk]; repeat (first | rw [Option.bind_some] | rw [Sum.elim_inl] | rw [Sum.elim_inr])
    rw [i_suc]
    cases hF : pFl L k with
    | false =>
      rw [if_pos (show (if false = true then (1 : Int32) else 0) = 0 from rfl)]; repeat (first | rw [Option.bind_some] | rw [Sum.elim_inl] | rw [Sum.elim_inr])
      refine ⟨_, rfl, rfl, ?_⟩
      rcases hv with ⟨rfl, l, h1, h2⟩ | ⟨rfl, h1⟩
      · exact Or.inl ⟨rfl, l, by omega, h2⟩
      · refine Or.inr ⟨rfl, fun l hl hf => ?_⟩
        by_cases e : l = k
        · rw [e, hF] at hf; cases hf
        · exact h1 l (by omega) hf
    | true =>
      rw [if_neg (show ¬ (if true = true then (1 : Int32) else 0) = 0 by decide), if_pos (show (0 : Int32) = 0 from rfl), r51 h hn hk]; repeat (first | rw [Option.bind_some] | rw [Sum.elim_inl] | rw [Sum.elim_inr])
      rw [if_pos (show (0 : Int32) = 0 from rfl), rdI_n (by omega) (by omega), he.2.2.2 r hr]; repeat (first | rw [Option.bind_some] | rw [Sum.elim_inl] | rw [Sum.elim_inr])
      have e97 : (if (0 : Int32) < Int32.ofNat c then (if Int32.ofNat c < (t.1 112) then Option.bind (rdI t 50 20 (Int32.ofNat k)) (fun x10 => Option.bind (rdI t 58 40 (Int32.ofNat c - 1)) (fun x11 => (if x11 < x10 then some (0 : Int32) else Option.bind (t_679 (Int32.ofNat k) t) (fun x12 => Option.bind (rdI t 58 40 (Int32.ofNat c)) (fun x13 => (if x12 < x13 then some 0 else some 1)))))) else some 0) else some 0) = some (if spX L (edX L nl) k c then 1 else 0) := by
        rw [he.1]
        by_cases z1 : 0 < c
        · rw [if_pos ((i_Llt (by omega) (by omega)).mpr z1)]
          by_cases z2 : c < (edX L nl).length
          · have y1 := edX_at hg (show c - 1 < (edX L nl).length by omega)
            have y2 := edX_at hg z2
            rw [if_pos ((i_lt (by omega) (by omega)).mpr z2), r50 h hn hk]; repeat (first | rw [Option.bind_some] | rw [Sum.elim_inl] | rw [Sum.elim_inr])
            rw [i_subL (show 1 ≤ c by omega), rdI_n (by omega) (by omega), he.2.2.1 (c - 1) (by omega)]; repeat (first | rw [Option.bind_some] | rw [Sum.elim_inl] | rw [Sum.elim_inr])
            by_cases z3 : (edX L nl).getD (c - 1) 0 < pX L k
            · rw [if_pos ((i_lt (by omega) (by omega)).mpr z3), if_neg (show ¬ spX L (edX L nl) k c from fun z => by have := z.2.2.1; omega)]
            · rw [if_neg (fun z => z3 ((i_lt (by omega) (by omega)).mp z)), t_hX h hn hk]; repeat (first | rw [Option.bind_some] | rw [Sum.elim_inl] | rw [Sum.elim_inr])
              rw [rdI_n (by omega) (by omega), he.2.2.1 c z2]; repeat (first | rw [Option.bind_some] | rw [Sum.elim_inl] | rw [Sum.elim_inr])
              by_cases z4 : pHX L k < (edX L nl).getD c 0
              · rw [if_pos ((i_lt (by omega) (by omega)).mpr z4), if_neg (show ¬ spX L (edX L nl) k c from fun z => by have := z.2.2.2; omega)]
              · rw [if_neg (fun z => z4 ((i_lt (by omega) (by omega)).mp z)), if_pos (show spX L (edX L nl) k c from ⟨z1, z2, by omega, by omega⟩)]
          · rw [if_neg (fun z => z2 ((i_lt (by omega) (by omega)).mp z)), if_neg (show ¬ spX L (edX L nl) k c from fun z => z2 z.2.1)]
        · rw [if_neg (fun z => z1 ((i_Llt (by omega) (by omega)).mp z)), if_neg (show ¬ spX L (edX L nl) k c from fun z => z1 z.1)]
      rw [if_pos (show (0 : Int32) = 0 from rfl), e97]; repeat (first | rw [Option.bind_some] | rw [Sum.elim_inl] | rw [Sum.elim_inr])
      rcases hv with ⟨rfl, l, h1, h2⟩ | ⟨rfl, h1⟩
      · rw [if_neg (show ¬ (1 : Int32) = 0 by decide)]
        exact ⟨_, rfl, rfl, Or.inl ⟨rfl, l, by omega, h2⟩⟩
      · rw [if_pos (show (0 : Int32) = 0 from rfl)]
        by_cases z : pY L k = (edY L nl).getD r 0 ∧ spX L (edX L nl) k c
        · rw [if_pos (by rw [z.1]), if_pos z.2, if_neg (show ¬ (1 : Int32) = 0 by decide)]
          exact ⟨_, rfl, rfl, Or.inl ⟨rfl, k, by omega, hk, hF, z.1, z.2⟩⟩
        · have : (if Int32.ofNat (pY L k) = Int32.ofNat ((edY L nl).getD r 0) then (if (if spX L (edX L nl) k c then (1 : Int32) else 0) = 0 then some (0 : Int32) else some 1) else some 0) = some 0 := by
            by_cases w : pY L k = (edY L nl).getD r 0
            · rw [if_pos (by rw [w]), if_neg (show ¬ spX L (edX L nl) k c from fun y => z ⟨w, y⟩), if_pos (show (0 : Int32) = 0 from rfl)]
            · rw [if_neg (fun y => w ((i_inj (by omega) (by omega)).mp y))]
          rw [this]
          refine ⟨_, rfl, rfl, Or.inr ⟨rfl, fun l hl hf hx hs => ?_⟩⟩
          by_cases e : l = k
          · rw [e] at hx hs; exact z ⟨hx, hs⟩
          · exact h1 l (by omega) hf hx hs
  · rintro ⟨v, _⟩ ⟨rfl, hv⟩
    dsimp only at hv ⊢
    refine ⟨v, by rw [h.1, if_neg (fun z => by have := (i_lt (by omega) (by omega)).mp z; omega)], ?_⟩
    rcases hv with ⟨rfl, l, h1, h2⟩ | ⟨rfl, h1⟩
    · rw [if_pos ((gwH_g hc).mpr ⟨l, h2⟩)]
    · rw [if_neg]
      intro z
      obtain ⟨l, h2, h3, h4, h5⟩ := (gwH_g hc).mp z
      exact h1 l h2 h3 h4 h5
  · rintro v rfl
    refine ⟨_, if_pos ?_, rfl⟩
    by_cases z : gwH (gS L nl) (2 * nP L nl) (rep (edX L nl) c) ((edY L nl).getD r 0 : Nat)
    · rw [if_pos z]; exact Or.inr rfl
    · rw [if_neg z]; exact Or.inl rfl
end
