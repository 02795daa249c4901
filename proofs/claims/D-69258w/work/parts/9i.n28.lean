/-! the plan: the component's lines -/
def lcC (L : PLn) (LD : Nat → Nat) (l : Nat) : lCell := (true, false, 59, [.int (Int32.ofNat l), .int (if pFl L l = true then 1 else 0), .int (Int32.ofNat (pN L l)), .int (Int32.ofNat (pX L l)), .int (Int32.ofNat (pY L l)), .ref (LD l)])
/-- the lines of a store -/
def lnH (h : lHeap) (L : PLn) (nl : Nat) (LC LD : Nat → Nat) (ml : Int32) : Prop := h 103 = some (true, false, 1013, .int ml :: rowC (fun l => .ref (LC l)) nl) ∧ (∀ l, l < nl → h (LC l) = some (lcC L LD l)) ∧ ∀ l m, l < nl → m < nl → LC l = LC m → l = m
theorem i_addO (k : Nat) : Int32.ofNat k + 0 = Int32.ofNat k := Int32.add_zero _
/-- x - a + y - b -/
theorem i_dst {x a y b : Nat} (h1 : a ≤ x) (h2 : b ≤ y) : Int32.ofNat x - Int32.ofNat a + Int32.ofNat y - Int32.ofNat b = Int32.ofNat (x - a + (y - b)) := by
  rw [i_sub h1, i_add, i_sub (by omega)]
  congr 1; omega
section
variable {L : PLn} {nl : Nat} {LC LD : Nat → Nat} {s : CS} {ml : Int32}
theorem c_eX {a l : Nat} (h : s.1 a = some (lcC L LD l)) : c_867 a s = some (Int32.ofNat (pHX L l)) := by
  unfold c_867
  rw [xI_o (x := if pFl L l = true then 1 else 0) h rfl rfl]; repeat (first | rw [Option.bind_some] | rw [Sum.elim_inl] | rw [Sum.elim_inr])
  rw [iteF, xI_o (x := Int32.ofNat (pX L l)) h rfl rfl, xI_o (x := Int32.ofNat (pN L l)) h rfl rfl]; repeat (first | rw [Option.bind_some] | rw [Sum.elim_inl] | rw [Sum.elim_inr])
  unfold pHX
  by_cases z : pFl L l = true
  · rw [if_pos z, if_pos z, i_add]
  · rw [if_neg z, if_neg z]; rfl
theorem c_eY {a l : Nat} (h : s.1 a = some (lcC L LD l)) : c_868 a s = some (Int32.ofNat (pHY L l)) := by
  unfold c_868
  rw [xI_o (x := if pFl L l = true then 1 else 0) h rfl rfl]; repeat (first | rw [Option.bind_some] | rw [Sum.elim_inl] | rw [Sum.elim_inr])
  rw [iteF, xI_o (x := Int32.ofNat (pY L l)) h rfl rfl, xI_o (x := Int32.ofNat (pN L l)) h rfl rfl]; repeat (first | rw [Option.bind_some] | rw [Sum.elim_inl] | rw [Sum.elim_inr])
  unfold pHY
  by_cases z : pFl L l = true
  · rw [if_pos z, if_pos z]; rfl
  · rw [if_neg z, if_neg z, i_add]
theorem c_hasL (hg : gdL L nl) {a l x y : Nat} (hl : l < nl) (h : s.1 a = some (lcC L LD l)) (hx : x < 1000) (hy : y < 1000) : by classical exact (c_870 a (Int32.ofNat x) (Int32.ofNat y) s = some (if onL L l x y then 1 else 0)) := by
  classical
  have g := pX_le hg hl
  unfold c_870
  rw [xI_o (x := Int32.ofNat (pX L l)) h rfl rfl]; repeat (first | rw [Option.bind_some] | rw [Sum.elim_inl] | rw [Sum.elim_inr])
  by_cases z1 : x < pX L l
  · rw [if_pos ((i_lt (by omega) (by omega)).mpr z1), if_neg (show ¬ onL L l x y from fun z => by unfold onL at z; omega)]
  rw [if_neg (fun z => z1 ((i_lt (by omega) (by omega)).mp z)), if_pos (isK_t h rfl), c_eX h]; repeat (first | rw [Option.bind_some] | rw [Sum.elim_inl] | rw [Sum.elim_inr])
  by_cases z2 : pHX L l < x
  · rw [if_pos ((i_lt (by omega) (by omega)).mpr z2), if_neg (show ¬ onL L l x y from fun z => by unfold onL at z; omega)]
  rw [if_neg (fun z => z2 ((i_lt (by omega) (by omega)).mp z)), xI_o (x := Int32.ofNat (pY L l)) h rfl rfl]; repeat (first | rw [Option.bind_some] | rw [Sum.elim_inl] | rw [Sum.elim_inr])
  by_cases z3 : y < pY L l
  · rw [if_pos ((i_lt (by omega) (by omega)).mpr z3), if_neg (show ¬ onL L l x y from fun z => by unfold onL at z; omega)]
  rw [if_neg (fun z => z3 ((i_lt (by omega) (by omega)).mp z)), if_pos (isK_t h rfl), c_eY h]; repeat (first | rw [Option.bind_some] | rw [Sum.elim_inl] | rw [Sum.elim_inr])
  by_cases z4 : pHY L l < y
  · rw [if_pos ((i_lt (by omega) (by omega)).mpr z4), if_neg (show ¬ onL L l x y from fun z => by unfold onL at z; omega)]
  rw [if_neg (fun z => z4 ((i_lt (by omega) (by omega)).mp z)), if_pos (show onL L l x y from ⟨by omega, by omega, by omega, by omega⟩)]
/-- where one line meets another one -/
theorem c_meeL (hg : gdL L nl) {l m B : Nat} {a b : Nat} {xs : List Value} (hl : l < nl) (hm : m < nl) (hlm : l ≠ m) (h1 : s.1 a = some (lcC L LD l)) (h2 : s.1 b = some (lcC L LD m)) (hB : s.1 B = some (true, false, 1003, xs)) (b0 : bit xs 0 = true) (bN' : bit xs (pN L l) = true) :
    ∃ xs', c_869 a b B s = some (cup s B (true, false, 1003, xs')) ∧ ∀ k, bit xs' k = true ↔ bit xs k = true ∨ (k ≤ pN L l ∧ pFl L m ≠ pFl L l ∧ onL L m (aX L l k) (aY L l k)) := by
  have gl := pX_le hg hl
  have gm := pX_le hg hm
  have id0 : cup s B (true, false, 1003, xs) = s := cup_id hB
  have put : ∀ d : Nat, d < 60 → bsSet s B (Int32.ofNat d) = some (cup s B (true, false, 1003, setB xs d)) := by
    intro d hd
    rw [bsSet_r hB (by omega)]
    have : bsG xs d = 0 := by unfold bsG; rw [if_pos (Or.inl (by omega))]
    rw [this, Nat.zero_mul]
    rfl
  unfold c_869
  rw [xI_o (x := if pFl L l = true then 1 else 0) h1 rfl rfl]; repeat (first | rw [Option.bind_some] | rw [Sum.elim_inl] | rw [Sum.elim_inr])
  rw [xI_o (x := if pFl L m = true then 1 else 0) h2 rfl rfl]; repeat (first | rw [Option.bind_some] | rw [Sum.elim_inl] | rw [Sum.elim_inr])
  rw [xI_o (x := Int32.ofNat (pX L l)) h1 rfl rfl, xI_o (x := Int32.ofNat (pY L l)) h1 rfl rfl, xI_o (x := Int32.ofNat (pX L m)) h2 rfl rfl, xI_o (x := Int32.ofNat (pY L m)) h2 rfl rfl]; repeat (first | rw [Option.bind_some] | rw [Sum.elim_inl] | rw [Sum.elim_inr])
  by_cases e : pFl L l = pFl L m
  · rw [if_pos (by rw [e]), if_pos (isK_t h1 rfl), c_hasL hg hl h1 (by omega) (by omega)]; repeat (first | rw [Option.bind_some] | rw [Sum.elim_inl] | rw [Sum.elim_inr])
    have nv := hg.2.2 l m hl hm hlm e
    -- what is set was set
    have same : ∀ x y, onL L l x y → endL L m x y → ∃ xs', bsSet s B (Int32.ofNat x - Int32.ofNat (pX L l) + Int32.ofNat y - Int32.ofNat (pY L l)) = some (cup s B (true, false, 1003, xs')) ∧ ∀ k, bit xs' k = true ↔ bit xs k = true ∨ (k ≤ pN L l ∧ pFl L m ≠ pFl L l ∧ onL L m (aX L l k) (aY L l k)) := by
      intro x y ho he
      have ho' := ho
      unfold onL at ho
      rw [i_dst (by omega) (by omega)]
      have hd : x - pX L l + (y - pY L l) = 0 ∨ x - pX L l + (y - pY L l) = pN L l := by
        unfold endL at he
        cases hF : pFl L l with
        | true =>
          have hF' : pFl L m = true := by rw [← e]; exact hF
          rw [if_pos hF] at nv
          have := pHX_t hF; have := pHX_t hF'
          omega
        | false =>
          have hF' : pFl L m = false := by rw [← e]; exact hF
          rw [if_neg (by rw [hF]; decide)] at nv
          have := pHX_f hF; have := pHX_f hF'
          omega
      have lN : pN L l ≤ 24 := by
        cases hF : pFl L l with
        | true => have := pHX_t hF; omega
        | false => have := pHX_f hF; omega
      rw [put _ (by omega)]
      refine ⟨_, rfl, fun k => ?_⟩
      rw [bit_setB]
      by_cases z : k = x - pX L l + (y - pY L l)
      · rw [if_pos z]
        refine ⟨fun _ => Or.inl ?_, fun _ => rfl⟩
        rcases hd with hd | hd
        · rw [z, hd]; exact b0
        · rw [z, hd]; exact bN'
      · rw [if_neg z]
        exact ⟨Or.inl, fun w => w.elim id (fun w => absurd e.symm w.2.1)⟩
    by_cases o1 : onL L l (pX L m) (pY L m)
    · rw [if_pos o1, if_neg (by decide)]
      obtain ⟨xs', e1, e2⟩ := same _ _ o1 (Or.inl ⟨rfl, rfl⟩)
      rw [if_pos (isK_t hB rfl), e1]; repeat (first | rw [Option.bind_some] | rw [Sum.elim_inl] | rw [Sum.elim_inr])
      exact ⟨xs', rfl, e2⟩
    · rw [if_neg o1, if_pos rfl, if_pos (isK_t h2 rfl), c_eX h2]; repeat (first | rw [Option.bind_some] | rw [Sum.elim_inl] | rw [Sum.elim_inr])
      rw [if_pos (isK_t h2 rfl), c_eY h2]; repeat (first | rw [Option.bind_some] | rw [Sum.elim_inl] | rw [Sum.elim_inr])
      rw [if_pos (isK_t h1 rfl), c_hasL hg hl h1 (by omega) (by omega)]; repeat (first | rw [Option.bind_some] | rw [Sum.elim_inl] | rw [Sum.elim_inr])
      by_cases o2 : onL L l (pHX L m) (pHY L m)
      · rw [if_pos o2, if_neg (by decide), if_pos (isK_t h2 rfl), if_pos (isK_t h2 rfl)]
        obtain ⟨xs', e1, e2⟩ := same _ _ o2 (Or.inr ⟨rfl, rfl⟩)
        rw [if_pos (isK_t hB rfl), e1]; repeat (first | rw [Option.bind_some] | rw [Sum.elim_inl] | rw [Sum.elim_inr])
        exact ⟨xs', rfl, e2⟩
      · rw [if_neg o2, if_pos rfl]
        exact ⟨xs, by rw [id0], fun k => ⟨Or.inl, fun w => w.elim id (fun w => absurd e.symm w.2.1)⟩⟩
  · have ne : ¬ (if pFl L l = true then (1 : Int32) else 0) = (if pFl L m = true then 1 else 0) := by
      cases hF : pFl L l <;> cases hF' : pFl L m <;> first | (rw [hF, hF'] at e; exact absurd rfl e) | decide
    rw [if_neg ne]
    -- the point
    have key : ∀ px py : Nat, px < 25 → py < 25 → (onL L l px py → onL L m px py → ∀ k, (k ≤ pN L l ∧ onL L m (aX L l k) (aY L l k)) ↔ k = px - pX L l + (py - pY L l)) → ((¬ onL L l px py ∨ ¬ onL L m px py) → ∀ k, k ≤ pN L l → ¬ onL L m (aX L l k) (aY L l k)) → ∃ xs', (if isK s [59] a = true then Option.bind (c_870 a (Int32.ofNat px) (Int32.ofNat py) s) (fun x25 => (if x25 = 0 then some s else (if isK s [59] b = true then Option.bind (c_870 b (Int32.ofNat px) (Int32.ofNat py) s) (fun x26 => (if x26 = 0 then some s else (if isK s [3] B = true then Option.bind (bsSet s B (((Int32.ofNat px - Int32.ofNat (pX L l)) + Int32.ofNat py) - Int32.ofNat (pY L l))) (fun s29 => some s29) else none))) else none))) else none) = some (cup s B (true, false, 1003, xs')) ∧ ∀ k, bit xs' k = true ↔ bit xs k = true ∨ (k ≤ pN L l ∧ pFl L m ≠ pFl L l ∧ onL L m (aX L l k) (aY L l k)) := by
      intro px py hx hy w1 w2
      rw [if_pos (isK_t h1 rfl), c_hasL hg hl h1 (by omega) (by omega)]; repeat (first | rw [Option.bind_some] | rw [Sum.elim_inl] | rw [Sum.elim_inr])
      by_cases o1 : onL L l px py
      · rw [if_pos o1, if_neg (by decide), if_pos (isK_t h2 rfl), c_hasL hg hm h2 (by omega) (by omega)]; repeat (first | rw [Option.bind_some] | rw [Sum.elim_inl] | rw [Sum.elim_inr])
        by_cases o2 : onL L m px py
        · rw [if_pos o2, if_neg (by decide), if_pos (isK_t hB rfl)]
          have o1' := o1
          unfold onL at o1'
          rw [i_dst (by omega) (by omega), put _ (by omega)]; repeat (first | rw [Option.bind_some] | rw [Sum.elim_inl] | rw [Sum.elim_inr])
          refine ⟨_, rfl, fun k => ?_⟩
          rw [bit_setB, ← and_assoc, and_comm (a := k ≤ pN L l), and_assoc, w1 o1 o2 k]
          by_cases z : k = px - pX L l + (py - pY L l)
          · rw [if_pos z]; exact ⟨fun _ => Or.inr ⟨fun q => e q.symm, z⟩, fun _ => rfl⟩
          · rw [if_neg z]; exact ⟨Or.inl, fun w => w.elim id (fun w => absurd w.2 z)⟩
        · rw [if_neg o2, if_pos rfl]
          exact ⟨xs, by rw [id0], fun k => ⟨Or.inl, fun w => w.elim id (fun w => absurd w.2.2 (w2 (Or.inr o2) k w.1))⟩⟩
      · rw [if_neg o1, if_pos rfl]
        exact ⟨xs, by rw [id0], fun k => ⟨Or.inl, fun w => w.elim id (fun w => absurd w.2.2 (w2 (Or.inl o1) k w.1))⟩⟩
    rcases (show pFl L l = true ∨ pFl L l = false by cases pFl L l <;> simp) with hF | hF
    · 
      have hF' : pFl L m = false := by cases q : pFl L m with
        | false => rfl
        | true => rw [hF, q] at e; exact absurd rfl e
      have t1 := pHX_t hF; have t2 := pHX_f hF'
      rw [iteF, if_pos hF]; repeat (first | rw [Option.bind_some] | rw [Sum.elim_inl] | rw [Sum.elim_inr])
      rw [iteF, if_pos hF]; repeat (first | rw [Option.bind_some] | rw [Sum.elim_inl] | rw [Sum.elim_inr])
      refine key (pX L m) (pY L l) (by omega) (by omega) (fun o1 o2 k => ?_) (fun o k hk q => ?_)
      · have := aX_t (d := k) hF
        unfold onL at o1 o2 ⊢
        omega
      · have := aX_t (d := k) hF
        unfold onL at o q
        omega
    · 
      have hF' : pFl L m = true := by cases q : pFl L m with
        | true => rfl
        | false => rw [hF, q] at e; exact absurd rfl e
      have t1 := pHX_f hF; have t2 := pHX_t hF'
      have nF : ¬ pFl L l = true := by rw [hF]; decide
      rw [iteF, if_neg nF]; repeat (first | rw [Option.bind_some] | rw [Sum.elim_inl] | rw [Sum.elim_inr])
      rw [iteF, if_neg nF]; repeat (first | rw [Option.bind_some] | rw [Sum.elim_inl] | rw [Sum.elim_inr])
      refine key (pX L l) (pY L m) (by omega) (by omega) (fun o1 o2 k => ?_) (fun o k hk q => ?_)
      · have := aX_f (d := k) hF
        unfold onL at o1 o2 ⊢
        omega
      · have := aX_f (d := k) hF
        unfold onL at o q
        omega
end
