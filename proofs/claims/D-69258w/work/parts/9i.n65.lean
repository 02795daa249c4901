/-! the plan: lines that lie upon one another -/
section
variable {s : CS} {T : TS} {L : PLn} {LD : Nat → Nat} {nl : Nat}
def smL (L : PLn) (l : Nat) : Prop := 0 < pN L l ∧ pHX L l ≤ 24 ∧ pHY L l ≤ 24
theorem smL_b {l : Nat} (h : smL L l) : pX L l ≤ 24 ∧ pY L l ≤ 24 := by
  unfold smL pHX pHY at h
  omega
theorem c_min {a b : Nat} (ha : a < 1000) (hb : b < 1000) : c_48 (Int32.ofNat a) (Int32.ofNat b) s = some (Int32.ofNat (min a b)) := by
  unfold c_48
  by_cases z : b < a
  · rw [if_pos ((i_lt (by omega) (by omega)).mpr z), Nat.min_eq_right (by omega)]
  · rw [if_neg (fun w => z ((i_lt (by omega) (by omega)).mp w)), Nat.min_eq_left (by omega)]
theorem c_max {a b : Nat} (ha : a < 1000) (hb : b < 1000) : c_47 (Int32.ofNat a) (Int32.ofNat b) s = some (Int32.ofNat (max a b)) := by
  unfold c_47
  by_cases z : a < b
  · rw [if_pos ((i_lt (by omega) (by omega)).mpr z), Nat.max_eq_right (by omega)]
  · rw [if_neg (fun w => z ((i_lt (by omega) (by omega)).mp w)), Nat.max_eq_left (by omega)]
theorem nov_h {l m : Nat} (z : pFl L l = true) (w : pFl L m = true) : nov L l m ↔ pY L l ≠ pY L m ∨ pHX L l ≤ pX L m ∨ pHX L m ≤ pX L l := by
  unfold nov
  rw [if_pos z]
  exact ⟨fun h => h (z.trans w.symm), fun h _ => h⟩
theorem nov_v {l m : Nat} (z : pFl L l = false) (w : pFl L m = false) : nov L l m ↔ pX L l ≠ pX L m ∨ pHY L l ≤ pY L m ∨ pHY L m ≤ pY L l := by
  unfold nov
  rw [if_neg (show ¬ pFl L l = true by rw [z]; decide)]
  exact ⟨fun h => h (z.trans w.symm), fun h _ => h⟩
/-- whether a line lies upon another -/
theorem c_covL {a b l m : Nat} (h1 : s.1 a = some (lcC L LD l)) (h2 : s.1 b = some (lcC L LD m)) (hl : smL L l) (hm : smL L m) : by classical exact (c_866 a b s = some (if nov L l m then 0 else 1)) := by
  classical
  have bl := smL_b hl
  have bm := smL_b hm
  have hXl : pFl L l = true → pHX L l = pX L l + pN L l := fun z => by unfold pHX; rw [if_pos z]
  have hXm : pFl L m = true → pHX L m = pX L m + pN L m := fun z => by unfold pHX; rw [if_pos z]
  have hYl : pFl L l = false → pHY L l = pY L l + pN L l := fun z => by unfold pHY; rw [if_neg (by rw [z]; decide)]
  have hYm : pFl L m = false → pHY L m = pY L m + pN L m := fun z => by unfold pHY; rw [if_neg (by rw [z]; decide)]
  unfold smL at hl hm
  have k1 := isK_t h1 (tab := [59]) rfl
  have k2 := isK_t h2 (tab := [59]) rfl
  unfold c_866
  rw [xI_o (x := if pFl L l = true then 1 else 0) h1 rfl rfl, xI_o (x := if pFl L m = true then 1 else 0) h2 rfl rfl]; repeat (first | rw [Option.bind_some] | rw [Sum.elim_inl] | rw [Sum.elim_inr])
  rcases (show pFl L l = true ∨ pFl L l = false by cases pFl L l <;> simp) with z | z <;> rcases (show pFl L m = true ∨ pFl L m = false by cases pFl L m <;> simp) with w | w
  · have e1 := hXl z
    have e2 := hXm w
    rw [if_pos z, if_pos w, if_pos rfl]; repeat (first | rw [Option.bind_some] | rw [Sum.elim_inl] | rw [Sum.elim_inr])
    rw [if_neg (show ¬ (1 : Int32) = 0 by decide), xI_o (x := Int32.ofNat (pY L l)) h1 rfl rfl, xI_o (x := Int32.ofNat (pY L m)) h2 rfl rfl]; repeat (first | rw [Option.bind_some] | rw [Sum.elim_inl] | rw [Sum.elim_inr])
    by_cases y : pY L l = pY L m
    · rw [y, if_pos rfl]; repeat (first | rw [Option.bind_some] | rw [Sum.elim_inl] | rw [Sum.elim_inr])
      rw [if_neg (show ¬ (1 : Int32) = 0 by decide), xI_o (x := Int32.ofNat (pX L l)) h1 rfl rfl, xI_o (x := Int32.ofNat (pX L m)) h2 rfl rfl]; repeat (first | rw [Option.bind_some] | rw [Sum.elim_inl] | rw [Sum.elim_inr])
      rw [c_max (by omega) (by omega)]; repeat (first | rw [Option.bind_some] | rw [Sum.elim_inl] | rw [Sum.elim_inr])
      rw [if_neg (show ¬ (1 : Int32) = 0 by decide), if_pos k1, c_eX h1]; repeat (first | rw [Option.bind_some] | rw [Sum.elim_inl] | rw [Sum.elim_inr])
      rw [if_pos k2, c_eX h2]; repeat (first | rw [Option.bind_some] | rw [Sum.elim_inl] | rw [Sum.elim_inr])
      rw [c_min (by omega) (by omega)]; repeat (first | rw [Option.bind_some] | rw [Sum.elim_inl] | rw [Sum.elim_inr])
      have nv := nov_h z w
      by_cases q : max (pX L l) (pX L m) < min (pHX L l) (pHX L m)
      · rw [if_pos ((i_lt (by omega) (by omega)).mpr q), if_neg (fun k => by have := nv.mp k; omega)]
      · rw [if_neg (fun k => q ((i_lt (by omega) (by omega)).mp k)), if_pos (nv.mpr (by omega))]
    · rw [if_neg (fun k => y ((i_inj (by omega) (by omega)).mp k))]; repeat (first | rw [Option.bind_some] | rw [Sum.elim_inl] | rw [Sum.elim_inr])
      rw [if_pos ((nov_h z w).mpr (Or.inl y))]
  · rw [if_neg (show ¬ ((if pFl L l = true then (1 : Int32) else 0) = if pFl L m = true then 1 else 0) by rw [z, w]; decide), if_pos (show nov L l m from fun k => by rw [z, w] at k; cases k)]
  · rw [if_neg (show ¬ ((if pFl L l = true then (1 : Int32) else 0) = if pFl L m = true then 1 else 0) by rw [z, w]; decide), if_pos (show nov L l m from fun k => by rw [z, w] at k; cases k)]
  · have e1 := hYl z
    have e2 := hYm w
    have z' : ¬ pFl L l = true := by rw [z]; decide
    have w' : ¬ pFl L m = true := by rw [w]; decide
    rw [if_neg z', if_neg w', if_pos rfl]; repeat (first | rw [Option.bind_some] | rw [Sum.elim_inl] | rw [Sum.elim_inr])
    rw [if_pos rfl, xI_o (x := Int32.ofNat (pX L l)) h1 rfl rfl, xI_o (x := Int32.ofNat (pX L m)) h2 rfl rfl]; repeat (first | rw [Option.bind_some] | rw [Sum.elim_inl] | rw [Sum.elim_inr])
    by_cases y : pX L l = pX L m
    · rw [y, if_pos rfl]; repeat (first | rw [Option.bind_some] | rw [Sum.elim_inl] | rw [Sum.elim_inr])
      rw [if_pos rfl, xI_o (x := Int32.ofNat (pY L l)) h1 rfl rfl, xI_o (x := Int32.ofNat (pY L m)) h2 rfl rfl]; repeat (first | rw [Option.bind_some] | rw [Sum.elim_inl] | rw [Sum.elim_inr])
      rw [c_max (by omega) (by omega)]; repeat (first | rw [Option.bind_some] | rw [Sum.elim_inl] | rw [Sum.elim_inr])
      rw [if_pos rfl, if_pos k1, c_eY h1]; repeat (first | rw [Option.bind_some] | rw [Sum.elim_inl] | rw [Sum.elim_inr])
      rw [if_pos k2, c_eY h2]; repeat (first | rw [Option.bind_some] | rw [Sum.elim_inl] | rw [Sum.elim_inr])
      rw [c_min (by omega) (by omega)]; repeat (first | rw [Option.bind_some] | rw [Sum.elim_inl] | rw [Sum.elim_inr])
      have nv := nov_v z w
      by_cases q : max (pY L l) (pY L m) < min (pHY L l) (pHY L m)
      · rw [if_pos ((i_lt (by omega) (by omega)).mpr q), if_neg (fun k => by have := nv.mp k; omega)]
      · rw [if_neg (fun k => q ((i_lt (by omega) (by omega)).mp k)), if_pos (nv.mpr (by omega))]
    · rw [if_neg (fun k => y ((i_inj (by omega) (by omega)).mp k))]; repeat (first | rw [Option.bind_some] | rw [Sum.elim_inl] | rw [Sum.elim_inr])
      rw [if_pos ((nov_v z w).mpr (Or.inl y))]
/-- no other line lies upon line k -/
def alnL (L : PLn) (k n : Nat) : Prop := ∀ l, l < n → l ≠ k → nov L l k
theorem alnL_s (L : PLn) (k n : Nat) : alnL L k (n + 1) ↔ alnL L k n ∧ (n = k ∨ nov L n k) := by
  constructor
  · intro h
    refine ⟨fun l hl => h l (by omega), ?_⟩
    by_cases z : n = k
    · exact Or.inl z
    · exact Or.inr (h n (by omega) z)
  · rintro ⟨h1, h2⟩ l hl hk
    by_cases z : l = n
    · rw [z] at hk ⊢
      rcases h2 with h2 | h2
      · exact absurd h2 hk
      · exact h2
    · exact h1 l (by omega) hk
theorem c_free {LC : Nat → Nat} {v1 k : Nat} {ml : Int32} {f : List Value} (hn : nl ≤ 20) (hv : s.1 102 = some (true, false, 67, .ref 103 :: f)) (h103 : s.1 103 = some (true, false, 1013, .int ml :: rowC (fun l => .ref (LC l)) nl)) (hl : ∀ l, l < nl → s.1 (LC l) = some (lcC L LD l)) (hk : s.1 v1 = some (lcC L LD k)) (he : ∀ l, l < nl → (LC l = v1 ↔ l = k)) (sm : ∀ l, l < nl ∨ l = k → smL L l) : by classical exact (c_892 102 v1 s = some (if alnL L k nl then 1 else 0, chg s 1 4)) := by
  classical
  unfold c_892
  rw [xN_o (b := 103) hv rfl rfl, Option.bind_some, if_pos (isK_t h103 rfl), alMc_l h103, Option.bind_some]
  dsimp only
  have h103' : (chg s 1 4).1 103 = _ := h103
  refine tr_eq (Tr.bd (P := fun v => v = if alnL L k nl then 1 else 0) (wh_cnt nl (fun n (a : Int32 × Int32) => a.2 = Int32.ofNat n ∧ a.1 = if alnL L k n then 1 else 0) ?_ ?_ ⟨rfl, by rw [if_pos (show alnL L k 0 from fun l hl => absurd hl (Nat.not_lt_zero _))]⟩) ?_)
  · rintro n ⟨v, _⟩ hn' ⟨rfl, hv⟩
    right
    dsimp only at hv ⊢
    have c1 : (chg s 1 4).1 (LC n) = _ := hl n hn'
    rw [alHas_r h103' (by omega) (by omega), if_neg (by omega), Option.bind_some, if_neg (by decide), alNext_r h103' hn' (by omega), Option.bind_some, toN_o c1 rfl, Option.bind_some, i_suc]
    by_cases z : n = k
    · rw [if_pos ((he n hn').mpr z), Option.bind_some]
      refine ⟨_, rfl, rfl, ?_⟩
      dsimp only
      rw [hv]
      by_cases w : alnL L k n
      · rw [if_pos w, if_pos ((alnL_s L k n).mpr ⟨w, Or.inl z⟩)]; rfl
      · rw [if_neg w, if_neg (fun q => w ((alnL_s L k n).mp q).1)]; rfl
    · rw [if_neg (fun q => z ((he n hn').mp q)), if_pos (show nst (chg s 1 4) (.ref (LC n)) = true by unfold nst; dsimp only; rw [c1]; rfl), if_pos (isK_t c1 rfl), c_covL (s := chg s 1 4) c1 hk (sm n (Or.inl hn')) (sm k (Or.inr rfl)), Option.bind_some]
      have e : (if (if nov L n k then (0 : Int32) else 1) = 0 then some (1 : Int32) else some 0) = some (if nov L n k then 1 else 0) := by
        by_cases w : nov L n k
        · rw [if_pos w, if_pos w, if_pos rfl]
        · rw [if_neg w, if_neg w, if_neg (by decide)]
      rw [e, Option.bind_some]
      refine ⟨_, rfl, rfl, ?_⟩
      dsimp only
      rw [hv]
      by_cases w : alnL L k n <;> by_cases y : nov L n k
      · rw [if_pos w, if_pos y, if_pos ((alnL_s L k n).mpr ⟨w, Or.inr y⟩)]; rfl
      · rw [if_pos w, if_neg y, if_neg (fun q => ((alnL_s L k n).mp q).2.elim z y)]; rfl
      · rw [if_neg w, if_pos y, if_neg (fun q => w ((alnL_s L k n).mp q).1)]; rfl
      · rw [if_neg w, if_neg y, if_neg (fun q => w ((alnL_s L k n).mp q).1)]; rfl
  · rintro ⟨v, _⟩ ⟨rfl, hv⟩
    dsimp only at hv ⊢
    rw [alHas_r h103' (by omega) (by omega), if_pos rfl, Option.bind_some, if_pos rfl]
    exact ⟨_, rfl, hv⟩
  · rintro v rfl
    refine ⟨(if alnL L k nl then 1 else 0, chg s 1 4), ?_, rfl⟩
    by_cases w : alnL L k nl
    · rw [if_pos w]; rfl
    · rw [if_neg w]; rfl
end
