/-! L2: runs of the shadow machine, told by what they come to -/
/-- method n comes to fin, at depth D and any greater, with fuel enough -/
def lSp (E : lE) (prog : Nat → Option lProc) (D n : Nat) (args : List Value) (M : lMem) (fin : lF) : Prop := ∃ f0, ∀ f, f0 ≤ f → ∀ d, D ≤ d → lRunM prog E f d n args M = some fin
/-- from place i of the code cd; callees at depth D -/
def lGo (E : lE) (prog : Nat → Option lProc) (D : Nat) (cd : List lI) (i : Nat) (st : lS) (fin : lF) : Prop := ∃ f0, ∀ f, f0 ≤ f → ∀ d, D ≤ d → ∀ k, f0 ≤ k → lRun E (lRunM prog E f d) (fun i => cd[i]?) k i st = some fin
section LGo
variable {E : lE} {prog : Nat → Option lProc} {D : Nat} {cd : List lI} {i j : Nat} {st st' : lS} {fin : lF} {ins : lI} {lv : lL} {stk : List Value} {M M' : lMem}
theorem lSp.mono {D' n : Nat} {args : List Value} (h : lSp E prog D n args M fin) (hD : D ≤ D') : lSp E prog D' n args M fin := by
  obtain ⟨f0, h⟩ := h
  exact ⟨f0, fun f hf d hd => h f hf d (Nat.le_trans hD hd)⟩
theorem lGo.mono {D' : Nat} (h : lGo E prog D cd i st fin) (hD : D ≤ D') : lGo E prog D' cd i st fin := by
  obtain ⟨f0, h⟩ := h
  exact ⟨f0, fun f hf d hd k hk => h f hf d (Nat.le_trans hD hd) k hk⟩
theorem lGo.sp {n nL : Nat} {args : List Value} (hp : prog n = some (lMk nL cd)) (hl : (lg_sl args).length ≤ nL) (h : lGo E prog D cd 0 (lv_args 0 args, [], M) fin) : lSp E prog (D + 1) n args M fin := by
  obtain ⟨f0, h⟩ := h
  refine ⟨f0, fun f hf d hd => ?_⟩
  obtain ⟨d', rfl⟩ : ∃ d', d = d' + 1 := ⟨d - 1, by omega⟩
  unfold lRunM
  rw [hp]
  dsimp only
  unfold lMk
  rw [if_pos hl]
  exact h f hf d' (by omega) f hf
theorem lGo.step (hi : cd[i]? = some ins) (hs : ∀ rec, ins E rec st = some (.inl (j, st'))) (h : lGo E prog D cd j st' fin) : lGo E prog D cd i st fin := by
  obtain ⟨f0, h⟩ := h
  refine ⟨f0 + 1, fun f hf d hd' k hk => ?_⟩
  obtain ⟨k', rfl⟩ : ∃ k', k = k' + 1 := ⟨k - 1, by omega⟩
  unfold lRun
  rw [hi]
  dsimp only
  rw [hs]
  exact h f (by omega) d hd' k' (by omega)
theorem lGo.done (hi : cd[i]? = some ins) (hs : ∀ rec, ins E rec st = some (.inr fin)) : lGo E prog D cd i st fin := by
  refine ⟨1, fun f hf d hd' k hk => ?_⟩
  obtain ⟨k', rfl⟩ : ∃ k', k = k' + 1 := ⟨k - 1, by omega⟩
  unfold lRun
  rw [hi]
  dsimp only
  rw [hs]
theorem lGo.call {hd : lHd} {n mi : Nat} {v : Option Value} (hi : cd[i]? = some (fCall hd n mi j)) (hn : n ≤ stk.length ∧ ((stk.drop n).map (fun v => v.category)).sum ≤ 8) (hc : lSp E prog D mi (stk.take n).reverse M (.inl v, M')) (h : lGo E prog D cd j (lv, v.toList ++ stk.drop n, M') fin) : lGo E prog D cd i (lv, stk, M) fin := by
  obtain ⟨f0, h⟩ := h
  obtain ⟨f1, h1⟩ := hc
  refine ⟨f0 + f1 + 1, fun f hf d hd' k hk => ?_⟩
  obtain ⟨k', rfl⟩ : ∃ k', k = k' + 1 := ⟨k - 1, by omega⟩
  unfold lRun
  rw [hi]
  dsimp only
  have e : fCall hd n mi j E (lRunM prog E f d) (lv, stk, M) = some (.inl (j, lv, v.toList ++ stk.drop n, M')) := by
    unfold fCall
    rw [if_pos hn]
    dsimp only
    rw [h1 f (by omega) d hd']
  rw [e]
  exact h f (by omega) d hd' k' (by omega)
theorem lGo.callV {hd : lHd} {n mi b ci : Nat} {w : Bool} {fs : List Value} {tab : List (Nat × Nat)} {v : Option Value} (hi : cd[i]? = some (fCallV hd n tab j)) (hb : stk[n]? = some (.ref b)) (hM : M.1 b = some (w, false, ci, fs)) (ht : lLook tab ci = some mi) (hn : n + 1 ≤ stk.length ∧ ((stk.drop (n + 1)).map (fun v => v.category)).sum ≤ 8) (hc : lSp E prog D mi (stk.take (n + 1)).reverse M (.inl v, M')) (h : lGo E prog D cd j (lv, v.toList ++ stk.drop (n + 1), M') fin) : lGo E prog D cd i (lv, stk, M) fin := by
  obtain ⟨f0, h⟩ := h
  obtain ⟨f1, h1⟩ := hc
  refine ⟨f0 + f1 + 1, fun f hf d hd' k hk => ?_⟩
  obtain ⟨k', rfl⟩ : ∃ k', k = k' + 1 := ⟨k - 1, by omega⟩
  unfold lRun
  rw [hi]
  dsimp only
  have e : fCallV hd n tab j E (lRunM prog E f d) (lv, stk, M) = some (.inl (j, lv, v.toList ++ stk.drop (n + 1), M')) := by
    unfold fCallV
    dsimp only
    rw [hb]
    dsimp only
    rw [hM]
    dsimp only
    rw [ht]
    dsimp only
    unfold fCall
    rw [if_pos hn]
    dsimp only
    rw [h1 f (by omega) d hd']
  rw [e]
  exact h f (by omega) d hd' k' (by omega)
/-- a callee that throws: what the handlers make of it -/
theorem lGo.callX {hd : lHd} {n mi q : Nat} {r : lR} (hi : cd[i]? = some (fCall hd n mi j)) (hn : n ≤ stk.length ∧ ((stk.drop n).map (fun v => v.category)).sum ≤ 8) (hc : lSp E prog D mi (stk.take n).reverse M (.inr q, M')) (ht : lThrow hd lv q M' = some r) (h : match r with
    | .inl x => lGo E prog D cd x.1 x.2 fin
    | .inr f => f = fin) : lGo E prog D cd i (lv, stk, M) fin := by
  obtain ⟨f1, h1⟩ := hc
  have e : ∀ f d, f1 ≤ f → D ≤ d → fCall hd n mi j E (lRunM prog E f d) (lv, stk, M) = some r := by
    intro f d hf hd'
    unfold fCall
    rw [if_pos hn]
    dsimp only
    rw [h1 f hf d hd']
    exact ht
  cases r with
  | inl x =>
    obtain ⟨f0, h⟩ := h
    refine ⟨f0 + f1 + 1, fun f hf d hd' k hk => ?_⟩
    obtain ⟨k', rfl⟩ : ∃ k', k = k' + 1 := ⟨k - 1, by omega⟩
    unfold lRun
    rw [hi]
    dsimp only
    rw [e f d (by omega) hd']
    exact h f (by omega) d hd' k' (by omega)
  | inr x =>
    cases h
    refine ⟨f1 + 1, fun f hf d hd' k hk => ?_⟩
    obtain ⟨k', rfl⟩ : ∃ k', k = k' + 1 := ⟨k - 1, by omega⟩
    unfold lRun
    rw [hi]
    dsimp only
    rw [e f d (by omega) hd']
theorem lGo.callVX {hd : lHd} {n mi q b ci : Nat} {w : Bool} {fs : List Value} {tab : List (Nat × Nat)} {r : lR} (hi : cd[i]? = some (fCallV hd n tab j)) (hb : stk[n]? = some (.ref b)) (hM : M.1 b = some (w, false, ci, fs)) (ht : lLook tab ci = some mi) (hn : n + 1 ≤ stk.length ∧ ((stk.drop (n + 1)).map (fun v => v.category)).sum ≤ 8) (hc : lSp E prog D mi (stk.take (n + 1)).reverse M (.inr q, M')) (hx : lThrow hd lv q M' = some r) (h : match r with
    | .inl x => lGo E prog D cd x.1 x.2 fin
    | .inr f => f = fin) : lGo E prog D cd i (lv, stk, M) fin := by
  obtain ⟨f1, h1⟩ := hc
  have e : ∀ f d, f1 ≤ f → D ≤ d → fCallV hd n tab j E (lRunM prog E f d) (lv, stk, M) = some r := by
    intro f d hf hd'
    unfold fCallV
    dsimp only
    rw [hb]
    dsimp only
    rw [hM]
    dsimp only
    rw [ht]
    dsimp only
    unfold fCall
    rw [if_pos hn]
    dsimp only
    rw [h1 f hf d hd']
    exact hx
  cases r with
  | inl x =>
    obtain ⟨f0, h⟩ := h
    refine ⟨f0 + f1 + 1, fun f hf d hd' k hk => ?_⟩
    obtain ⟨k', rfl⟩ : ∃ k', k = k' + 1 := ⟨k - 1, by omega⟩
    unfold lRun
    rw [hi]
    dsimp only
    rw [e f d (by omega) hd']
    exact h f (by omega) d hd' k' (by omega)
  | inr x =>
    cases h
    refine ⟨f1 + 1, fun f hf d hd' k hk => ?_⟩
    obtain ⟨k', rfl⟩ : ∃ k', k = k' + 1 := ⟨k - 1, by omega⟩
    unfold lRun
    rw [hi]
    dsimp only
    rw [e f d (by omega) hd']
end LGo
