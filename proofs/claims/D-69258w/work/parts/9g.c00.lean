/-! cells: places and lines -/
def dX (d : Nat) : Int32 := if d = 0 then 1 else if d = 1 then -1 else 0
def dY (d : Nat) : Int32 := if d = 2 then 1 else if d = 3 then -1 else 0
/-- the cell beside one; 576 beyond all -/
def bsd (c d : Nat) : Nat := if d = 0 then (if c % 24 < 23 then c + 1 else 576) else if d = 1 then (if 0 < c % 24 then c - 1 else 576) else if d = 2 then (if c < 552 then c + 24 else 576) else (if 24 ≤ c then c - 24 else 576)
def K9 (h : lHeap) : Prop := (∃ w, h 61 = some (w, true, 0, rowC (fun k => .int (dX k)) 4)) ∧ ∃ w, h 62 = some (w, true, 0, rowC (fun k => .int (dY k)) 4)
theorem bsd_le {c d : Nat} (hc : c < 576) : bsd c d ≤ 576 := by
  unfold bsd
  repeat' split
  all_goals omega
theorem grd {c d : Nat} (hc : c < 576) (hd : d < 4) : (bsd c d = 576 → Int32.ofNat (c % 24) + dX d < 0 ∨ ¬ Int32.ofNat (c % 24) + dX d < 24 ∨ Int32.ofNat (c / 24) + dY d < 0 ∨ ¬ Int32.ofNat (c / 24) + dY d < 24) ∧ (bsd c d ≠ 576 → Int32.ofNat (c % 24) + dX d = Int32.ofNat (bsd c d % 24) ∧ Int32.ofNat (c / 24) + dY d = Int32.ofNat (bsd c d / 24) ∧ bsd c d < 576) := by
  have a1 : ∀ k : Nat, Int32.ofNat k + 1 = Int32.ofNat (k + 1) := i_suc
  have a0 : ∀ k : Nat, Int32.ofNat k + 0 = Int32.ofNat k := fun k => by simp
  have am : ∀ k : Nat, 0 < k → Int32.ofNat k + -1 = Int32.ofNat (k - 1) := fun k hk => by
    rw [show Int32.ofNat k = Int32.ofNat (k - 1) + 1 by rw [i_suc]; exact congrArg _ (by omega)]
    generalize Int32.ofNat (k - 1) = x
    rw [Int32.add_assoc]; simp
  have lt : ∀ k : Nat, k < 1000 → (Int32.ofNat k < 24 ↔ k < 24) := fun k hk => i_ltL (by omega) (by omega)
  rcases (show d = 0 ∨ d = 1 ∨ d = 2 ∨ d = 3 by omega) with rfl | rfl | rfl | rfl
  · rw [show dX 0 = 1 from rfl, show dY 0 = 0 from rfl, a1, a0]
    unfold bsd
    rw [if_pos rfl]
    by_cases z : c % 24 < 23
    · rw [if_pos z]
      exact ⟨fun h => by omega, fun _ => ⟨congrArg _ (by omega), congrArg _ (by omega), by omega⟩⟩
    · rw [if_neg z]
      exact ⟨fun _ => Or.inr (Or.inl (by rw [lt _ (by omega)]; omega)), fun h => absurd rfl h⟩
  · rw [show dX 1 = -1 from rfl, show dY 1 = 0 from rfl, a0]
    unfold bsd
    rw [if_neg (by omega), if_pos rfl]
    by_cases z : 0 < c % 24
    · rw [if_pos z, am _ z]
      exact ⟨fun h => by omega, fun _ => ⟨congrArg _ (by omega), congrArg _ (by omega), by omega⟩⟩
    · rw [if_neg z, show c % 24 = 0 by omega]
      exact ⟨fun _ => Or.inl (by decide), fun h => absurd rfl h⟩
  · rw [show dX 2 = 0 from rfl, show dY 2 = 1 from rfl, a1, a0]
    unfold bsd
    rw [if_neg (by omega), if_neg (by omega), if_pos rfl]
    by_cases z : c < 552
    · rw [if_pos z]
      exact ⟨fun h => by omega, fun _ => ⟨congrArg _ (by omega), congrArg _ (by omega), by omega⟩⟩
    · rw [if_neg z]
      exact ⟨fun _ => Or.inr (Or.inr (Or.inr (by rw [lt _ (by omega)]; omega))), fun h => absurd rfl h⟩
  · rw [show dX 3 = 0 from rfl, show dY 3 = -1 from rfl, a0]
    unfold bsd
    rw [if_neg (by omega), if_neg (by omega), if_neg (by omega)]
    by_cases z : 24 ≤ c
    · rw [if_pos z, am _ (by omega)]
      exact ⟨fun h => by omega, fun _ => ⟨congrArg _ (by omega), congrArg _ (by omega), by omega⟩⟩
    · rw [if_neg z, show c / 24 = 0 by omega]
      exact ⟨fun _ => Or.inr (Or.inr (Or.inl (by decide))), fun h => absurd rfl h⟩
theorem c_isC (x y : Int32) (s : CS) : c_544 x y s = some (if inB x 24 = true ∧ inB y 24 = true then 1 else 0) := by
  unfold c_544 inB
  by_cases h1 : x < 0 <;> by_cases h2 : x < 24 <;> by_cases h3 : y < 0 <;> by_cases h4 : y < 24 <;> simp [h1, h2, h3, h4]
theorem t_isC (x y : Int32) (t : TS) : t_569 x y t = some (if inB x 24 = true ∧ inB y 24 = true then 1 else 0) := by
  unfold t_569
  rw [isInB, isInB]
  cases inB x 24 <;> cases inB y 24 <;> rfl
theorem grd_in {c d : Nat} (hc : c < 576) (hd : d < 4) : (inB (Int32.ofNat (c % 24) + dX d) 24 = true ∧ inB (Int32.ofNat (c / 24) + dY d) 24 = true) ↔ bsd c d ≠ 576 := by
  obtain ⟨h1, h2⟩ := grd hc hd
  constructor
  · intro ⟨a, b⟩ z
    unfold inB at a b
    have a := of_decide_eq_true a
    have b := of_decide_eq_true b
    rcases h1 z with w | w | w | w
    · exact a.1 w
    · exact w a.2
    · exact b.1 w
    · exact w b.2
  · intro z
    obtain ⟨e1, e2, e3⟩ := h2 z
    rw [e1, e2]
    exact ⟨inB_of (n := 24) (by omega) (by omega), inB_of (n := 24) (by omega) (by omega)⟩
theorem t_nx {c d : Nat} (hd : d < 4) (t : TS) : t_589 (Int32.ofNat (c % 24)) (Int32.ofNat d) t = some (Int32.ofNat (c % 24) + dX d) ∧ t_590 (Int32.ofNat (c / 24)) (Int32.ofNat d) t = some (Int32.ofNat (c / 24) + dY d) := by
  unfold t_589 t_590
  rcases (show d = 0 ∨ d = 1 ∨ d = 2 ∨ d = 3 by omega) with rfl | rfl | rfl | rfl <;> exact ⟨rfl, rfl⟩
theorem t_nxC {c d : Nat} (hc : c < 576) (hd : d < 4) (t : TS) : t_569 (Int32.ofNat (c % 24) + dX d) (Int32.ofNat (c / 24) + dY d) t = some (if bsd c d = 576 then 0 else 1) := by
  rw [t_isC]
  by_cases z : bsd c d = 576
  · rw [if_neg (fun h => (grd_in hc hd).mp h z), if_pos z]
  · rw [if_pos ((grd_in hc hd).mpr z), if_neg z]
theorem nx_at {c d : Nat} (hc : c < 576) (hd : d < 4) (h : bsd c d ≠ 576) : 24 * (Int32.ofNat (c / 24) + dY d) + (Int32.ofNat (c % 24) + dX d) = Int32.ofNat (bsd c d) := by
  obtain ⟨e1, e2, e3⟩ := (grd hc hd).2 h
  rw [e1, e2, i_mulL, i_add]
  exact congrArg _ (by omega)
theorem c_bes {s : CS} {c d : Nat} (hK : K9 s.1) (hc : c < 576) (hd : d < 4) : c_543 (Int32.ofNat c) (Int32.ofNat d) s = some (if bsd c d = 576 then -1 else Int32.ofNat (bsd c d)) := by
  obtain ⟨⟨w1, h1⟩, w2, h2⟩ := hK
  unfold c_543
  rw [aI_r h1 (by omega) rfl hd (by omega) rfl, aI_r h2 (by omega) rfl hd (by omega) rfl]; repeat (first | rw [Option.bind_some] | rw [Sum.elim_inl] | rw [Sum.elim_inr])
  rw [i_modL (by omega) (by omega), i_divL (by omega) (by omega), c_isC]; repeat (first | rw [Option.bind_some] | rw [Sum.elim_inl] | rw [Sum.elim_inr])
  by_cases z : bsd c d = 576
  · rw [if_neg (fun h => (grd_in hc hd).mp h z), if_pos z, if_pos rfl]
  · rw [if_pos ((grd_in hc hd).mpr z), if_neg z, if_neg (by decide), nx_at hc hd z]
/-- the outside -/
def ouT (t : TS) (b : Nat) : Prop := b = 576 ∨ t.2.2.1 47 b < 0
theorem t_out {t : TS} {c d : Nat} (hc : c < 576) (hd : d < 4) : by classical exact (t_588 (Int32.ofNat (c % 24) + dX d) (Int32.ofNat (c / 24) + dY d) t = some (if ouT t (bsd c d) then 1 else 0)) := by
  classical
  unfold t_588
  rw [t_nxC hc hd]; repeat (first | rw [Option.bind_some] | rw [Sum.elim_inl] | rw [Sum.elim_inr])
  by_cases z : bsd c d = 576
  · rw [if_pos z, if_pos rfl, if_pos (show ouT t (bsd c d) from Or.inl z)]
  · have := (grd hc hd).2 z
    rw [if_neg z, if_neg (show ¬ (1 : Int32) = 0 by decide), nx_at hc hd z, rdI_n (by omega) (by omega)]; repeat (first | rw [Option.bind_some] | rw [Sum.elim_inl] | rw [Sum.elim_inr])
    by_cases w : t.2.2.1 47 (bsd c d) < 0
    · rw [if_pos w, if_pos (show ouT t (bsd c d) from Or.inr w)]
    · rw [if_neg w, if_neg (show ¬ ouT t (bsd c d) from fun h => by rcases h with h | h; exact z h; exact w h)]
theorem t_outC {t : TS} {c : Nat} (hc : c < 576) : by classical exact (t_588 (Int32.ofNat (c % 24)) (Int32.ofNat (c / 24)) t = some (if ouT t c then 1 else 0)) := by
  classical
  unfold t_588
  rw [t_isC, if_pos (show inB (Int32.ofNat (c % 24)) 24 = true ∧ inB (Int32.ofNat (c / 24)) 24 = true from ⟨inB_of (n := 24) (by omega) (by omega), inB_of (n := 24) (by omega) (by omega)⟩)]; repeat (first | rw [Option.bind_some] | rw [Sum.elim_inl] | rw [Sum.elim_inr])
  rw [if_neg (show ¬ (1 : Int32) = 0 by decide), i_mulL, i_add, show 24 * (c / 24) + c % 24 = c by omega, rdI_n (by omega) (by omega)]; repeat (first | rw [Option.bind_some] | rw [Sum.elim_inl] | rw [Sum.elim_inr])
  by_cases w : t.2.2.1 47 c < 0
  · rw [if_pos w, if_pos (show ouT t c from Or.inr w)]
  · rw [if_neg w, if_neg (show ¬ ouT t c from fun h => by rcases h with h | h; omega; exact w h)]
/-! lines -/
def hiX (t : TS) (l : Nat) : Int32 := t.2.2.1 50 l + (if t.2.2.1 52 l = 0 then 0 else t.2.2.1 53 l)
def hiY (t : TS) (l : Nat) : Int32 := t.2.2.1 51 l + (if t.2.2.1 52 l = 0 then t.2.2.1 53 l else 0)
def lnC (t : TS) (w : Nat) (x y : Int32) (l : Nat) : Prop := if w < 2 then t.2.2.1 52 l = 0 ∧ t.2.2.1 50 l = (if w = 0 then x + 1 else x) ∧ ¬ y < t.2.2.1 51 l ∧ y < hiY t l else ¬ t.2.2.1 52 l = 0 ∧ t.2.2.1 51 l = (if w = 2 then y + 1 else y) ∧ ¬ x < t.2.2.1 50 l ∧ x < hiX t l
/-- the line between a cell and the one beside it -/
noncomputable def lnb (t : TS) (w : Nat) (x y : Int32) : Nat → Int32
  | 0 => -1
  | n + 1 => by classical exact (if lnC t w x y n then Int32.ofNat n else lnb t w x y n)
def isT (t : TS) (l d : Nat) (x y : Int32) : Prop := ¬ (if t.2.2.1 52 l = 0 then y - t.2.2.1 51 l else x - t.2.2.1 50 l) < t.2.2.1 55 (6 * l + d) ∧ (if t.2.2.1 52 l = 0 then y - t.2.2.1 51 l else x - t.2.2.1 50 l) < t.2.2.1 56 (6 * l + d)
def lns (t : TS) (nl : Nat) : Prop := t.1 100 = Int32.ofNat nl ∧ nl ≤ 20 ∧ ∀ l, l < nl → bel (t.2.2.1 54 l) 7
theorem lnb_o (t : TS) (w : Nat) (x y : Int32) : ∀ n, lnb t w x y n = -1 ∨ ∃ l, l < n ∧ lnb t w x y n = Int32.ofNat l := by
  intro n
  induction n with
  | zero => exact Or.inl rfl
  | succ n ih =>
    unfold lnb
    by_cases h : lnC t w x y n
    · rw [if_pos h]; exact Or.inr ⟨n, by omega, rfl⟩
    · rw [if_neg h]
      rcases ih with h | ⟨l, h1, h2⟩
      · exact Or.inl h
      · exact Or.inr ⟨l, by omega, h2⟩
theorem t_lnb {t : TS} {nl : Nat} (h : lns t nl) {w : Nat} (hw : w < 4) (x y : Int32) : by classical exact (t_726 x y (Int32.ofNat w) t = some (lnb t w x y nl)) := by
  classical
  obtain ⟨h1, h2, _⟩ := h
  unfold t_726
  refine Exists.elim (wh_cnt (f := (fun p4 : Int32 × Int32 => (if p4.2 < (t.1 100) then Option.bind ((if Int32.ofNat w < 2 then some (1 : Int32) else some (0 : Int32))) (fun v14 => Option.bind ((if Int32.ofNat w = 0 then some (x + 1) else (if Int32.ofNat w = 1 then some x else (if Int32.ofNat w = 2 then some (y + 1) else some y)))) (fun v34 => Option.bind ((if v14 = 0 then Option.bind (rdI t 52 20 p4.2) (fun x1 => (if x1 = 0 then some (0 : Int32) else Option.bind (rdI t 51 20 p4.2) (fun x2 => (if x2 = v34 then Option.bind (rdI t 50 20 p4.2) (fun x3 => (if x < x3 then some (0 : Int32) else Option.bind (t_679 p4.2 t) (fun x4 => (if x < x4 then some (1 : Int32) else some (0 : Int32))))) else some (0 : Int32))))) else Option.bind (rdI t 52 20 p4.2) (fun x5 => (if x5 = 0 then Option.bind (rdI t 50 20 p4.2) (fun x6 => (if x6 = v34 then Option.bind (rdI t 51 20 p4.2) (fun x7 => (if y < x7 then some (0 : Int32) else Option.bind (t_680 p4.2 t) (fun x8 => (if y < x8 then some (1 : Int32) else some (0 : Int32))))) else some (0 : Int32))) else some (0 : Int32))))) (fun v88 => Option.bind ((if v88 = 0 then some p4.1 else some p4.2)) (fun v94 => some (Sum.inl (β := Int32) (v94, p4.2 + 1)))))) else some (.inr p4.1)))) (a := ((-1 : Int32), (0 : Int32))) (Q := fun x' => x' = lnb t w x y nl) nl (fun k a => a.1 = lnb t w x y k ∧ a.2 = Int32.ofNat k) ?_ ?_ ⟨rfl, rfl⟩) ?_
  · rintro k ⟨_, _⟩ hk ⟨rfl, rfl⟩
    right
    refine ⟨(lnb t w x y (k + 1), Int32.ofNat (k + 1)), ?_, rfl, rfl⟩
    dsimp only
    have e1 : t_679 (Int32.ofNat k) t = some (hiX t k) := by
      unfold t_679 hiX
      rw [rdI_n (by omega) (by omega), rdI_n (by omega) (by omega), rdI_n (by omega) (by omega)]
      by_cases z : t.2.2.1 52 k = 0 <;> simp [z]
    have e2 : t_680 (Int32.ofNat k) t = some (hiY t k) := by
      unfold t_680 hiY
      rw [rdI_n (by omega) (by omega), rdI_n (by omega) (by omega), rdI_n (by omega) (by omega)]
      by_cases z : t.2.2.1 52 k = 0 <;> simp [z]
    rw [h1, if_pos ((i_lt (by omega) (by omega)).mpr hk), rdI_n (by omega) (by omega), rdI_n (by omega) (by omega), rdI_n (by omega) (by omega), e1, e2]
    have e3 : ∀ v88, v88 = (if lnC t w x y k then (1 : Int32) else 0) → Option.bind (if v88 = 0 then some (lnb t w x y k) else some (Int32.ofNat k)) (fun v94 => some (Sum.inl (β := Int32) (v94, Int32.ofNat k + 1))) = some (.inl (lnb t w x y (k + 1), Int32.ofNat (k + 1))) := fun v hv => by
      rw [hv, i_suc, show lnb t w x y (k + 1) = if lnC t w x y k then Int32.ofNat k else lnb t w x y k from rfl]
      by_cases z : lnC t w x y k
      · rw [if_pos z, if_pos z]; rfl
      · rw [if_neg z, if_neg z]; rfl
    have e4 : ∀ {A : Type} {f : Int32 → Option A} {v : Int32} (g : Option Int32), g = some v → Option.bind g f = f v := fun g hg => by rw [hg]; rfl
    unfold lnC at e3
    rcases (show w = 0 ∨ w = 1 ∨ w = 2 ∨ w = 3 by omega) with rfl | rfl | rfl | rfl
    · rw [e4 (v := 1) _ (by rfl), e4 (v := x + 1) _ (by rfl), if_neg (show ¬ (1 : Int32) = 0 by decide)]
      refine (e4 (v := if lnC t 0 x y k then (1 : Int32) else 0) _ ?_).trans (e3 _ rfl)
      unfold lnC
      by_cases z1 : t.2.2.1 52 k = 0 <;> by_cases z2 : t.2.2.1 50 k = x + 1 <;> by_cases z3 : y < t.2.2.1 51 k <;> by_cases z4 : y < hiY t k <;> simp [z1, z2, z3, z4]
    · rw [e4 (v := 1) _ (by rfl), e4 (v := x) _ (by rfl), if_neg (show ¬ (1 : Int32) = 0 by decide)]
      refine (e4 (v := if lnC t 1 x y k then (1 : Int32) else 0) _ ?_).trans (e3 _ rfl)
      unfold lnC
      by_cases z1 : t.2.2.1 52 k = 0 <;> by_cases z2 : t.2.2.1 50 k = x <;> by_cases z3 : y < t.2.2.1 51 k <;> by_cases z4 : y < hiY t k <;> simp [z1, z2, z3, z4]
    · rw [e4 (v := 0) _ (by rfl), e4 (v := y + 1) _ (by rfl), if_pos rfl]
      refine (e4 (v := if lnC t 2 x y k then (1 : Int32) else 0) _ ?_).trans (e3 _ rfl)
      unfold lnC
      by_cases z1 : t.2.2.1 52 k = 0 <;> by_cases z2 : t.2.2.1 51 k = y + 1 <;> by_cases z3 : x < t.2.2.1 50 k <;> by_cases z4 : x < hiX t k <;> simp [z1, z2, z3, z4]
    · rw [e4 (v := 0) _ (by rfl), e4 (v := y) _ (by rfl), if_pos rfl]
      refine (e4 (v := if lnC t 3 x y k then (1 : Int32) else 0) _ ?_).trans (e3 _ rfl)
      unfold lnC
      by_cases z1 : t.2.2.1 52 k = 0 <;> by_cases z2 : t.2.2.1 51 k = y <;> by_cases z3 : x < t.2.2.1 50 k <;> by_cases z4 : x < hiX t k <;> simp [z1, z2, z3, z4]
  · rintro ⟨_, _⟩ ⟨rfl, rfl⟩
    refine ⟨_, ?_, rfl⟩
    dsimp only
    rw [h1, if_neg (fun z => by have := (i_lt (by omega) (by omega)).mp z; omega)]
  · rintro v ⟨h, rfl⟩
    rw [h]; rfl
theorem t_isT {t : TS} {l d : Nat} (hl : l < 20) (hd : d < 6) (x y : Int32) : by classical exact (t_727 (Int32.ofNat l) (Int32.ofNat d) x y t = some (if isT t l d x y then 1 else 0)) := by
  classical
  have key : ∀ a : Int32, (if a < t.2.2.1 55 (6 * l + d) then some (0 : Int32) else (if a < t.2.2.1 56 (6 * l + d) then some 1 else some 0)) = some (if ¬ a < t.2.2.1 55 (6 * l + d) ∧ a < t.2.2.1 56 (6 * l + d) then 1 else 0) := fun a => by
    by_cases z1 : a < t.2.2.1 55 (6 * l + d) <;> by_cases z2 : a < t.2.2.1 56 (6 * l + d) <;> simp [z1, z2]
  have e : (if isT t l d x y then (1 : Int32) else 0) = if ¬ (if t.2.2.1 52 l = 0 then y - t.2.2.1 51 l else x - t.2.2.1 50 l) < t.2.2.1 55 (6 * l + d) ∧ (if t.2.2.1 52 l = 0 then y - t.2.2.1 51 l else x - t.2.2.1 50 l) < t.2.2.1 56 (6 * l + d) then 1 else 0 := by
    by_cases h : isT t l d x y
    · rw [if_pos h]; unfold isT at h; rw [if_pos h]
    · rw [if_neg h]; unfold isT at h; rw [if_neg h]
  rw [e]
  unfold t_727
  rw [rdI_n (by omega) (by omega), i_mulL, i_add, rdI_n (by omega) (by omega), rdI_n (by omega) (by omega), rdI_n (by omega) (by omega), rdI_n (by omega) (by omega)]; repeat (first | rw [Option.bind_some] | rw [Sum.elim_inl] | rw [Sum.elim_inr])
  by_cases z : t.2.2.1 52 l = 0
  · rw [if_pos z, if_pos z, Option.bind_some, Option.bind_some, Option.bind_some]
    exact key _
  · rw [if_neg z, if_neg z, Option.bind_some, Option.bind_some, Option.bind_some]
    exact key _
