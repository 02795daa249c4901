/-! building: is there a line between cells -/
section
variable {s S : CS} {t : TS} {L : PLn} {nl : Nat} {LC LD : Nat → Nat} {DC : Nat → Nat → Nat} {nd : Nat → Nat} {d x y : Nat}
/-- rows of lines -/
def rwP (t : TS) (L : PLn) (nl : Nat) (nd : Nat → Nat) : Prop := gdL L nl ∧ (∀ l, l < nl → ln1 t L l ∧ t.2.2.1 54 l = Int32.ofNat (nd l))
/-- a line lies between a cell and the one beside it -/
def cvP (L : PLn) (d x y l : Nat) : Prop := if d < 2 then pFl L l = false ∧ pX L l = (if d = 0 then x + 1 else x) ∧ pY L l ≤ y ∧ y < pHY L l else pFl L l = true ∧ pY L l = (if d = 2 then y + 1 else y) ∧ pX L l ≤ x ∧ x < pHX L l
theorem lnC_cv (r : rwP t L nl nd) (hd : d < 4) (hx : x < 24) (hy : y < 24) {l : Nat} (hl : l < nl) : lnC t d (Int32.ofNat x) (Int32.ofNat y) l ↔ cvP L d x y l := by
  obtain ⟨⟨h0, h1, h2, h3, h4⟩, _⟩ := r.2 l hl
  have sm : smL L l := ⟨(r.1.2.1 l hl).1, (r.1.2.1 l hl).2.1, (r.1.2.1 l hl).2.2⟩
  have smb := smL_b sm
  have sm2 := sm.2
  unfold lnC cvP hiX hiY
  rw [h1, h2, h3, h4]
  have e1 : Int32.ofNat (pY L l) + (if (if pFl L l = true then (1 : Int32) else 0) = 0 then Int32.ofNat (pN L l) else 0) = Int32.ofNat (pHY L l) := by
    unfold pHY
    by_cases z : pFl L l = true
    · rw [if_pos z, if_pos z, if_neg n10, Int32.add_zero]; rfl
    · rw [if_neg z, if_neg z, if_pos rfl, i_add]
  have e2 : Int32.ofNat (pX L l) + (if (if pFl L l = true then (1 : Int32) else 0) = 0 then 0 else Int32.ofNat (pN L l)) = Int32.ofNat (pHX L l) := by
    unfold pHX
    by_cases z : pFl L l = true
    · rw [if_pos z, if_pos z, if_neg n10, i_add]
    · rw [if_neg z, if_neg z, if_pos rfl, Int32.add_zero]; rfl
  rw [e1, e2]
  have f0 : (if pFl L l = true then (1 : Int32) else 0) = 0 ↔ pFl L l = false := by
    rcases (show pFl L l = true ∨ pFl L l = false by cases pFl L l <;> simp) with z | z <;> rw [z] <;> decide
  have f1 : ¬ (if pFl L l = true then (1 : Int32) else 0) = 0 ↔ pFl L l = true := by
    rcases (show pFl L l = true ∨ pFl L l = false by cases pFl L l <;> simp) with z | z <;> rw [z] <;> decide
  have c1 : Int32.ofNat (pX L l) = (if d = 0 then Int32.ofNat x + 1 else Int32.ofNat x) ↔ pX L l = (if d = 0 then x + 1 else x) := by
    by_cases z : d = 0
    · rw [if_pos z, if_pos z, i_suc]; exact i_inj (by omega) (by omega)
    · rw [if_neg z, if_neg z]; exact i_inj (by omega) (by omega)
  have c2 : Int32.ofNat (pY L l) = (if d = 2 then Int32.ofNat y + 1 else Int32.ofNat y) ↔ pY L l = (if d = 2 then y + 1 else y) := by
    by_cases z : d = 2
    · rw [if_pos z, if_pos z, i_suc]; exact i_inj (by omega) (by omega)
    · rw [if_neg z, if_neg z]; exact i_inj (by omega) (by omega)
  rw [i_lt (by omega) (by omega), i_lt (by omega) (by omega), i_lt (by omega) (by omega), i_lt (by omega) (by omega), c1, c2, f1, f0, Nat.not_lt, Nat.not_lt]
theorem cv_uniq (r : rwP t L nl nd) {l m : Nat} (hl : l < nl) (hm : m < nl) (h1 : cvP L d x y l) (h2 : cvP L d x y m) : l = m := by
  apply Classical.byContradiction
  intro ne
  have n := r.1.2.2 l m hl hm ne
  unfold cvP at h1 h2
  by_cases z : d < 2
  · rw [if_pos z] at h1 h2
    have := (nov_v h1.1 h2.1).mp n
    omega
  · rw [if_neg z] at h1 h2
    have := (nov_h h1.1 h2.1).mp n
    omega
/-- whether any line lies between -/
theorem c_isCut (r : rwP t L nl nd) {f : List Value} {ml : Int32} (g : s.1 102 = some (true, false, 67, .ref 103 :: f)) (g3 : s.1 103 = some (true, false, 1013, .int ml :: rowC (fun l => .ref (LC l)) nl)) (hC : ∀ l, l < nl → s.1 (LC l) = some (lcC L LD l)) (hd : d < 4) (hx : x < 24) (hy : y < 24) : ∃ v, c_920 102 (if d = 1 then Int32.ofNat x - 1 else Int32.ofNat x) (if d = 3 then Int32.ofNat y - 1 else Int32.ofNat y) (if d < 2 then 0 else 1) s = some (v, chg s 1 4) ∧ ((v = 0 ∧ ∀ l, l < nl → ¬ cvP L d x y l) ∨ (v = 1 ∧ ∃ l, l < nl ∧ cvP L d x y l)) := by
  have n20 := r.1.1
  unfold c_920
  rw [xN_o (b := 103) g rfl rfl, Option.bind_some, if_pos (isK_t g3 rfl), alMc_l g3, Option.bind_some]
  dsimp only
  have g3' : (chg s 1 4).1 103 = _ := g3
  have key : ∀ X : Option Int32, Tr X (fun v => (v = 0 ∧ ∀ l, l < nl → ¬ cvP L d x y l) ∨ (v = 1 ∧ ∃ l, l < nl ∧ cvP L d x y l)) → ∃ v, Option.bind X (fun v55 => (if fits .boolean (.int v55) = true then some (v55, chg s 1 4) else none)) = some (v, chg s 1 4) ∧ ((v = 0 ∧ ∀ l, l < nl → ¬ cvP L d x y l) ∨ (v = 1 ∧ ∃ l, l < nl ∧ cvP L d x y l)) := by
    rintro X ⟨v, rfl, h⟩
    refine ⟨v, ?_, h⟩
    rw [Option.bind_some, if_pos (by rcases h with ⟨z, _⟩ | ⟨z, _⟩ <;> rw [z] <;> rfl)]
  refine key _ ?_
  refine wh_cnt nl (fun n (a : Int32 × Int32) => a.2 = Int32.ofNat n ∧ ((a.1 = 0 ∧ ∀ l, l < n → ¬ cvP L d x y l) ∨ (a.1 = 1 ∧ ∃ l, l < n ∧ cvP L d x y l))) ?_ ?_ ⟨rfl, Or.inl ⟨rfl, fun l hl => absurd hl (Nat.not_lt_zero _)⟩⟩
  · rintro n ⟨v, _⟩ hn ⟨rfl, hv⟩
    right
    dsimp only at hv ⊢
    have lC : (chg s 1 4).1 (LC n) = _ := hC n hn
    have sm : smL L n := ⟨(r.1.2.1 n hn).1, (r.1.2.1 n hn).2.1, (r.1.2.1 n hn).2.2⟩
    have smb := smL_b sm
    have sm2 := sm.2
    rw [alHas_r g3' (by omega) (by omega), if_neg (by omega), Option.bind_some, if_neg (by decide), alNext_r g3' hn (by omega), Option.bind_some, toN_o lC rfl, Option.bind_some, xI_o (x := if pFl L n = true then 1 else 0) lC rfl rfl, Option.bind_some]
    have one : ∃ w, (if (if pFl L n = true then (1 : Int32) else 0) = (if d < 2 then 0 else 1) then (if (if d < 2 then (0 : Int32) else 1) = 0 then Option.bind (xI (chg s 1 4) [(59, 3)] (LC n)) (fun x7 => (if x7 = ((if d = 1 then Int32.ofNat x - 1 else Int32.ofNat x) + 1) then Option.bind (xI (chg s 1 4) [(59, 4)] (LC n)) (fun x8 => (if (if d = 3 then Int32.ofNat y - 1 else Int32.ofNat y) < x8 then some 0 else (if isK (chg s 1 4) [59] (LC n) = true then Option.bind (c_868 (LC n) (chg s 1 4)) (fun x9 => (if (if d = 3 then Int32.ofNat y - 1 else Int32.ofNat y) < x9 then some 1 else some 0)) else none))) else some 0)) else Option.bind (xI (chg s 1 4) [(59, 4)] (LC n)) (fun x10 => (if x10 = ((if d = 3 then Int32.ofNat y - 1 else Int32.ofNat y) + 1) then Option.bind (xI (chg s 1 4) [(59, 3)] (LC n)) (fun x11 => (if (if d = 1 then Int32.ofNat x - 1 else Int32.ofNat x) < x11 then some 0 else (if isK (chg s 1 4) [59] (LC n) = true then Option.bind (c_867 (LC n) (chg s 1 4)) (fun x12 => (if (if d = 1 then Int32.ofNat x - 1 else Int32.ofNat x) < x12 then some 1 else some 0)) else none))) else some 0))) else some (0 : Int32)) = some w ∧ ((w = 0 ∧ ¬ cvP L d x y n) ∨ (w = 1 ∧ cvP L d x y n)) := by
      rw [xI_o (x := Int32.ofNat (pX L n)) lC rfl rfl, xI_o (x := Int32.ofNat (pY L n)) lC rfl rfl, if_pos (isK_t lC rfl), if_pos (isK_t lC rfl), c_eX lC, c_eY lC]
      simp only [Option.bind_some]
      unfold cvP
      by_cases z : d < 2
      · have z3 : ¬ d = 3 := by omega
        rw [if_pos z, if_pos z, if_pos rfl, if_neg z3]
        have c1 : Int32.ofNat (pX L n) = ((if d = 1 then Int32.ofNat x - 1 else Int32.ofNat x) + 1) ↔ pX L n = (if d = 0 then x + 1 else x) := by
          by_cases w : d = 1
          · rw [if_pos w, if_neg (by omega), Int32.sub_add_cancel]; exact i_inj (by omega) (by omega)
          · rw [if_neg w, if_pos (by omega), i_suc]; exact i_inj (by omega) (by omega)
        by_cases a : pFl L n = true
        · rw [if_pos a, if_neg n10]
          exact ⟨_, rfl, Or.inl ⟨rfl, fun h => by rw [a] at h; cases h.1⟩⟩
        · have a' : pFl L n = false := by cases h : pFl L n; rfl; exact absurd h a
          rw [if_neg a, if_pos rfl]
          by_cases b : pX L n = (if d = 0 then x + 1 else x)
          · rw [if_pos (c1.mpr b)]
            by_cases e : y < pY L n
            · rw [if_pos ((i_lt (by omega) (by omega)).mpr e)]
              exact ⟨_, rfl, Or.inl ⟨rfl, fun h => by omega⟩⟩
            · rw [if_neg (fun w => e ((i_lt (by omega) (by omega)).mp w))]
              by_cases e2 : y < pHY L n
              · rw [if_pos ((i_lt (by omega) (by omega)).mpr e2)]
                exact ⟨_, rfl, Or.inr ⟨rfl, a', b, by omega, e2⟩⟩
              · rw [if_neg (fun w => e2 ((i_lt (by omega) (by omega)).mp w))]
                exact ⟨_, rfl, Or.inl ⟨rfl, fun h => e2 h.2.2.2⟩⟩
          · rw [if_neg (fun w => b (c1.mp w))]
            exact ⟨_, rfl, Or.inl ⟨rfl, fun h => b h.2.1⟩⟩
      · have z1 : ¬ d = 1 := by omega
        rw [if_neg z, if_neg z, if_neg n10, if_neg z1]
        have c1 : Int32.ofNat (pY L n) = ((if d = 3 then Int32.ofNat y - 1 else Int32.ofNat y) + 1) ↔ pY L n = (if d = 2 then y + 1 else y) := by
          by_cases w : d = 3
          · rw [if_pos w, if_neg (by omega), Int32.sub_add_cancel]; exact i_inj (by omega) (by omega)
          · rw [if_neg w, if_pos (by omega), i_suc]; exact i_inj (by omega) (by omega)
        by_cases a : pFl L n = true
        · rw [if_pos a, if_pos rfl]
          by_cases b : pY L n = (if d = 2 then y + 1 else y)
          · rw [if_pos (c1.mpr b)]
            by_cases e : x < pX L n
            · rw [if_pos ((i_lt (by omega) (by omega)).mpr e)]
              exact ⟨_, rfl, Or.inl ⟨rfl, fun h => by omega⟩⟩
            · rw [if_neg (fun w => e ((i_lt (by omega) (by omega)).mp w))]
              by_cases e2 : x < pHX L n
              · rw [if_pos ((i_lt (by omega) (by omega)).mpr e2)]
                exact ⟨_, rfl, Or.inr ⟨rfl, a, b, by omega, e2⟩⟩
              · rw [if_neg (fun w => e2 ((i_lt (by omega) (by omega)).mp w))]
                exact ⟨_, rfl, Or.inl ⟨rfl, fun h => e2 h.2.2.2⟩⟩
          · rw [if_neg (fun w => b (c1.mp w))]
            exact ⟨_, rfl, Or.inl ⟨rfl, fun h => b h.2.1⟩⟩
        · rw [if_neg a, if_neg (show ¬ (0 : Int32) = 1 by decide)]
          exact ⟨_, rfl, Or.inl ⟨rfl, fun h => a h.1⟩⟩
    obtain ⟨w, e1, e2⟩ := one
    rw [e1, Option.bind_some, i_suc]
    refine ⟨_, rfl, rfl, ?_⟩
    dsimp only
    rcases hv with ⟨rfl, hv⟩ | ⟨rfl, l, hl1, hl2⟩ <;> rcases e2 with ⟨rfl, e2⟩ | ⟨rfl, e2⟩
    · refine Or.inl ⟨by decide, fun l hl => ?_⟩
      by_cases z : l = n
      · rw [z]; exact e2
      · exact hv l (by omega)
    · exact Or.inr ⟨by decide, n, by omega, e2⟩
    · exact Or.inr ⟨by decide, l, by omega, hl2⟩
    · exact Or.inr ⟨by decide, n, by omega, e2⟩
  · rintro ⟨v, _⟩ ⟨rfl, hv⟩
    dsimp only at hv ⊢
    rw [alHas_r g3' (by omega) (by omega), if_pos rfl, Option.bind_some, if_pos rfl]
    exact ⟨_, rfl, hv⟩
end
