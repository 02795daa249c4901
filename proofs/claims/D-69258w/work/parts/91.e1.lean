/-! the frame of the equivalence: parts of the store and of the reference's state -/
def rs (h : lHeap) (own : Nat → Nat) (X : Nat) : lHeap := fun a => if own a = X then h a else none
theorem rs_some {h : lHeap} {own : Nat → Nat} {X a : Nat} {c : lCell} : rs h own X a = some c ↔ own a = X ∧ h a = some c := by
  unfold rs
  split <;> simp_all
theorem rs_upd {h : lHeap} {own : Nat → Nat} {X a : Nat} {c : lCell} (e : own a = X) : rs (lUpd h a c) own X = lUpd (rs h own X) a c := by
  funext q
  simp only [rs, lUpd_at]
  by_cases hq : q = a
  · subst hq; simp [e]
  · simp [hq]
theorem rs_out {h : lHeap} {own : Nat → Nat} {X a : Nat} {c : lCell} (e : own a ≠ X) : rs (lUpd h a c) own X = rs h own X := by
  funext q
  simp only [rs, lUpd_at]
  by_cases hq : q = a
  · subst hq; simp [e]
  · simp [hq]
/-- a new cell is given to a part -/
def giv (own : Nat → Nat) (a X : Nat) : Nat → Nat := fun q => if q = a then X else own q
theorem rs_new {h : lHeap} {own : Nat → Nat} {X a : Nat} {c : lCell} : rs (lUpd h a c) (giv own a X) X = lUpd (rs h own X) a c := by
  funext q
  simp only [rs, lUpd_at, giv]
  by_cases hq : q = a
  · subst hq; simp
  · simp [hq]
theorem rs_not {h : lHeap} {own : Nat → Nat} {X Y a : Nat} {c : lCell} (hn : h a = none) (e : X ≠ Y) : rs (lUpd h a c) (giv own a Y) X = rs h own X := by
  funext q
  simp only [rs, lUpd_at, giv]
  by_cases hq : q = a
  · subst hq; simp [hn, Ne.symm e]
  · simp [hq]
/-! rows of values -/
def rowC (f : Nat → Value) (n : Nat) : List Value := (List.range n).map f
theorem rowC_len (f : Nat → Value) (n : Nat) : (rowC f n).length = n := by simp [rowC]
theorem rowC_get (f : Nat → Value) (n k : Nat) : (rowC f n)[k]? = if k < n then some (f k) else none := by
  unfold rowC
  rw [List.getElem?_map]
  by_cases h : k < n
  · rw [List.getElem?_range h, if_pos h]; rfl
  · rw [if_neg h, List.getElem?_eq_none (by simpa using Nat.le_of_not_lt h)]; rfl
theorem rowC_ext {l : List Value} {f : Nat → Value} {n : Nat} (h1 : l.length = n) (h2 : ∀ k, k < n → l[k]? = some (f k)) : l = rowC f n := by
  apply List.ext_getElem?
  intro k
  rw [rowC_get]
  by_cases hk : k < n
  · rw [if_pos hk, h2 k hk]
  · rw [if_neg hk, List.getElem?_eq_none (by omega)]
theorem rowC_set (f : Nat → Value) (n k : Nat) (v : Value) : (rowC f n).set k v = rowC (fun j => if j = k then v else f j) n := by
  apply rowC_ext (by simp [rowC_len])
  intro j hj
  rw [List.getElem?_set]
  by_cases e : k = j
  · subst e; simp [rowC_len, hj]
  · rw [if_neg e, rowC_get, if_pos hj, if_neg (fun q => e q.symm)]
theorem rowC_app (f : Nat → Value) (n : Nat) (v : Value) : rowC f n ++ [v] = rowC (fun j => if j = n then v else f j) (n + 1) := by
  apply rowC_ext (by simp [rowC_len])
  intro j hj
  rw [List.getElem?_append]
  by_cases e : j < n
  · rw [rowC_len, if_pos e, rowC_get, if_pos e, if_neg (by omega)]
  · have : j = n := by omega
    subst this
    simp [rowC_len]
theorem rowC_congr {f g : Nat → Value} {n : Nat} (h : ∀ k, k < n → f k = g k) : rowC f n = rowC g n := by
  apply rowC_ext (rowC_len f n)
  intro k hk
  rw [rowC_get, if_pos hk, h k hk]
/-! parts: 1 house, 2 plan, 3 permits, 4 gate, 5 program, 6 bus, 7 warden, 8 lifts, 9 cells, 10 the program's points; 99 the last answer's kind -/
def mI (c : Nat) : Nat := if c = 0 then 99 else if c < 9 then 1 else if c < 100 then 4 else if c < 200 then 2 else if c < 300 then 3 else if c < 400 then 7 else if c < 500 then 5 else if c < 600 then 6 else 8
def mR (c : Nat) : Nat := if c = 136 then 10 else if c < 44 then 4 else if c < 50 then 9 else if c < 76 then (if c = 75 then 99 else 2) else if c < 99 then 3 else if c < 125 then 7 else if c < 141 then 5 else if c < 158 then 6 else 8
def rt (t : TS) (X : Nat) : TS := (fun c => if mI c = X then t.1 c else 0, fun c => if mI c = X then t.2.1 c else 0, fun c k => if mR c = X then t.2.2.1 c k else 0, fun c k => if mR c = X then t.2.2.2 c k else 0)
theorem rt_1 {t : TS} {X c : Nat} (h : mI c = X) : (rt t X).1 c = t.1 c := by simp [rt, h]
theorem rt_2 {t : TS} {X c : Nat} (h : mI c = X) : (rt t X).2.1 c = t.2.1 c := by simp [rt, h]
theorem rt_3 {t : TS} {X c k : Nat} (h : mR c = X) : (rt t X).2.2.1 c k = t.2.2.1 c k := by simp [rt, h]
theorem rt_4 {t : TS} {X c k : Nat} (h : mR c = X) : (rt t X).2.2.2 c k = t.2.2.2 c k := by simp [rt, h]
theorem rt_ptI {t : TS} {X c : Nat} {v : Int32} (h : mI c ≠ X) : rt (ptI t c v) X = rt t X := by
  unfold rt ptI
  refine Prod.ext ?_ rfl
  funext q
  by_cases e : q = c
  · subst e; simp [h]
  · simp [e]
theorem rt_ptL {t : TS} {X c : Nat} {v : Int64} (h : mI c ≠ X) : rt (ptL t c v) X = rt t X := by
  unfold rt ptL
  refine Prod.ext rfl (Prod.ext ?_ rfl)
  funext q
  by_cases e : q = c
  · subst e; simp [h]
  · simp [e]
theorem rt_wrI {t : TS} {X c k : Nat} {v : Int32} (h : mR c ≠ X) : rt (wrI t c k v) X = rt t X := by
  unfold rt wrI
  refine Prod.ext rfl (Prod.ext rfl (Prod.ext ?_ rfl))
  funext q j
  by_cases e : q = c
  · subst e; simp [h]
  · simp [e]
theorem rt_wrL {t : TS} {X c k : Nat} {v : Int64} (h : mR c ≠ X) : rt (wrL t c k v) X = rt t X := by
  unfold rt wrL
  refine Prod.ext rfl (Prod.ext rfl (Prod.ext rfl ?_))
  funext q j
  by_cases e : q = c
  · subst e; simp [h]
  · simp [e]
