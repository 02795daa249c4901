/-! fields of objects -/
theorem xV_o {s : CS} {a ci k : Nat} {w : Bool} {fs : List Value} {tab : List (Nat × Nat)} {v : Value} (h : s.1 a = some (w, false, ci, fs)) (hl : lLook tab ci = some k) (hv : fs[k]? = some v) : xV s tab a = some v := by
  unfold xV; rw [h]; simp only [hl, Option.bind_some, hv]
theorem xI_o {s : CS} {a ci k : Nat} {w : Bool} {fs : List Value} {tab : List (Nat × Nat)} {x : Int32} (h : s.1 a = some (w, false, ci, fs)) (hl : lLook tab ci = some k) (hv : fs[k]? = some (.int x)) : xI s tab a = some x := by
  unfold xI; rw [xV_o h hl hv]; rfl
theorem xL_o {s : CS} {a ci k : Nat} {w : Bool} {fs : List Value} {tab : List (Nat × Nat)} {x : Int64} (h : s.1 a = some (w, false, ci, fs)) (hl : lLook tab ci = some k) (hv : fs[k]? = some (.long x)) : xL s tab a = some x := by
  unfold xL; rw [xV_o h hl hv]; rfl
theorem xN_o {s : CS} {a ci k b : Nat} {w : Bool} {fs : List Value} {tab : List (Nat × Nat)} (h : s.1 a = some (w, false, ci, fs)) (hl : lLook tab ci = some k) (hv : fs[k]? = some (.ref b)) : xN s tab a = some b := by
  unfold xN; rw [xV_o h hl hv]; rfl
theorem xR_o {s : CS} {a ci k b : Nat} {w : Bool} {fs : List Value} {tab : List (Nat × Nat)} (h : s.1 a = some (w, false, ci, fs)) (hl : lLook tab ci = some k) (hv : fs[k]? = some (.ref b)) : xR s tab a = some (some b) := by
  unfold xR; rw [xV_o h hl hv]; rfl
theorem xR_z {s : CS} {a ci k : Nat} {w : Bool} {fs : List Value} {tab : List (Nat × Nat)} (h : s.1 a = some (w, false, ci, fs)) (hl : lLook tab ci = some k) (hv : fs[k]? = some .null) : xR s tab a = some none := by
  unfold xR; rw [xV_o h hl hv]; rfl
theorem xP_o {s : CS} {a ci k : Nat} {fs : List Value} {tab : List (Nat × Nat)} {v : Value} (h : s.1 a = some (true, false, ci, fs)) (hl : lLook tab ci = some k) (hk : k < fs.length) : xP s tab a v = some (cup s a (true, false, ci, fs.set k v)) := by
  unfold xP; rw [h]; simp only [hl, Option.bind_some, if_pos hk]
theorem isK_o {s : CS} {a ci : Nat} {w : Bool} {fs : List Value} {tab : List Nat} (h : s.1 a = some (w, false, ci, fs)) : isK s tab a = tab.contains (ci % 1000) := by
  unfold isK kdo; rw [h]
theorem toN_o {s : CS} {a ci : Nat} {w : Bool} {fs : List Value} {tab : List Nat} (h : s.1 a = some (w, false, ci, fs)) (hc : tab.contains (ci % 1000) = true) : toN s tab (.ref a) = some a := by
  unfold toN; simp only; rw [isK_o h, if_pos hc]
/-! cells of a changed store -/
theorem cup_a (s : CS) (a q : Nat) (c : lCell) : (cup s a c).1 q = if q = a then some c else s.1 q := rfl
theorem cup_2 (s : CS) (a : Nat) (c : lCell) : (cup s a c).2 = s.2 := rfl
theorem cup_eq (s : CS) (a : Nat) (c : lCell) : (cup s a c).1 a = some c := if_pos rfl
theorem cup_ne {s : CS} {a q : Nat} {c : lCell} (h : q ≠ a) : (cup s a c).1 q = s.1 q := if_neg h
theorem cupU (s : CS) (a : Nat) (c d : lCell) : cup (cup s a c) a d = cup s a d := by
  unfold cup; simp only [lUpdU]
theorem chg_1 (s : CS) (n m : Nat) : (chg s n m).1 = s.1 := rfl
theorem cput_at (s : CS) (k a n m q : Nat) (xs : List Value) : (cput s k a n m xs).1 q = if q = a then some (true, false, k, xs) else s.1 q := rfl
theorem cput_eq (s : CS) (k a n m : Nat) (xs : List Value) : (cput s k a n m xs).1 a = some (true, false, k, xs) := if_pos rfl
theorem cput_ne {s : CS} {k a n m q : Nat} {xs : List Value} (h : q ≠ a) : (cput s k a n m xs).1 q = s.1 q := if_neg h
theorem nwc_at (s : CS) (c : lCell) (n m q : Nat) : (nwc s c n m).2.1 q = if q = s.2.1 then some c else s.1 q := rfl
theorem nwc_eq (s : CS) (c : lCell) (n m : Nat) : (nwc s c n m).2.1 s.2.1 = some c := if_pos rfl
theorem nwc_ne {s : CS} {c : lCell} {n m q : Nat} (h : q ≠ s.2.1) : (nwc s c n m).2.1 q = s.1 q := if_neg h
theorem cup_id {s : CS} {a : Nat} {c : lCell} (h : s.1 a = some c) : cup s a c = s := by
  unfold cup
  refine Prod.ext ?_ rfl
  funext q
  show lUpd s.1 a c q = s.1 q
  rw [lUpd_at]
  by_cases e : q = a
  · rw [if_pos e, e, h]
  · rw [if_neg e]
theorem wr_id {t : TS} {c k : Nat} : wrI t c k (t.2.2.1 c k) = t := by
  refine Prod.ext rfl (Prod.ext rfl (Prod.ext ?_ rfl))
  funext q j
  show (if q = c ∧ j = k then t.2.2.1 c k else t.2.2.1 q j) = t.2.2.1 q j
  by_cases e : q = c ∧ j = k
  · rw [if_pos e, e.1, e.2]
  · rw [if_neg e]
theorem wr_wr {t : TS} {c k : Nat} {v w : Int32} : wrI (wrI t c k v) c k w = wrI t c k w := by
  refine Prod.ext rfl (Prod.ext rfl (Prod.ext ?_ rfl))
  funext q j
  show (if q = c ∧ j = k then w else if q = c ∧ j = k then v else t.2.2.1 q j) = if q = c ∧ j = k then w else t.2.2.1 q j
  by_cases e : q = c ∧ j = k
  · rw [if_pos e, if_pos e]
  · rw [if_neg e, if_neg e, if_neg e]
/-- what is run comes to something with Q -/
def Tr {A : Type} (o : Option A) (Q : A → Prop) : Prop := ∃ x, o = some x ∧ Q x
theorem Tr.mono {A : Type} {o : Option A} {P Q : A → Prop} (h : Tr o P) (k : ∀ x, P x → Q x) : Tr o Q := by
  obtain ⟨x, h1, h2⟩ := h; exact ⟨x, h1, k x h2⟩
theorem Tr.bd {A B : Type} {o : Option A} {f : A → Option B} {P : A → Prop} {Q : B → Prop} (h : Tr o P) (k : ∀ x, P x → Tr (f x) Q) : Tr (Option.bind o f) Q := by
  obtain ⟨x, h1, h2⟩ := h
  obtain ⟨y, h3, h4⟩ := k x h2
  exact ⟨y, by rw [h1]; exact h3, h4⟩
theorem Tr.ok {A : Type} {x : A} {Q : A → Prop} (h : Q x) : Tr (some x) Q := ⟨x, rfl, h⟩
theorem i_range {P : Nat → Prop} {n : Nat} (h : ∀ i : Fin n, P i.val) : ∀ i, i < n → P i := fun i hi => h ⟨i, hi⟩
/-- void operations -/
def uC (o : Option (Sum CS (Nat × CS))) : Option (Sum (Unit × CS) (Nat × CS)) := Option.map (Sum.map (fun s => ((), s)) id) o
def uT (o : Option TS) : Option (Unit × TS) := Option.map (fun t => ((), t)) o
def givs (own : Nat → Nat) (a m T : Nat) : Nat → Nat := fun q => if a ≤ q ∧ q < a + m then T else own q
theorem frm_pt {X : Nat → Prop} {own own' : Nat → Nat} {s s' : CS} (S : Nat → Prop) (hS : ∀ q, q < s.2.1 → S q → X (own q)) (hq : ∀ q, q < s.2.1 → ¬ S q → s'.1 q = s.1 q) (hn : s.2.1 ≤ s'.2.1) (ho : ∀ q, q < s.2.1 → own' q = own q) (hnew : ∀ q, s.2.1 ≤ q → q < s'.2.1 → X (own' q)) (hz : wfS s') : Frm X own own' s s' :=
  ⟨hn, ho, fun a ha hx => hq a ha (fun z => hx (hS a ha z)), hnew, hz⟩
theorem aV_r {s : CS} {a n t k : Nat} {w : Bool} {f : Nat → Value} {ts : List Nat} (h : s.1 a = some (w, true, t, rowC f n)) (ht : t < 1000) (hts : ts.contains t = true) (hk : k < n) (hn : n < 2147483648) : aV s ts a (Int32.ofNat k) = some (f k) := by
  unfold aV; rw [aCell_r h ht]; simp only [Option.bind_some]
  rw [if_pos ⟨hts, i_nlt0 (by omega)⟩, i_clamp (by omega), rowC_get, if_pos hk]
theorem aPutR_r {s : CS} {a n t k : Nat} {f : Nat → Value} {o : Option Nat} (h : s.1 a = some (true, true, t, rowC f n)) (ht : t < 1000) (hk : k < n) (hn : n < 2147483648) (ho : (match o with | none => raTab.any (fun q => q.1 == t) | some b => (match kdo s b with | some k => raTab.contains (t, k) | none => false)) = true) : aPutR s a (Int32.ofNat k) o = some (cup s a (true, true, t, rowC (fun j => if j = k then vR o else f j) n)) := by
  unfold aPutR; rw [h]; simp only
  rw [if_pos ⟨ht, i_nlt0 (by omega), by rw [i_clamp (by omega), rowC_len]; exact hk, ho⟩, i_clamp (by omega), rowC_set]
theorem isK_t {s : CS} {a ci : Nat} {w : Bool} {fs : List Value} {tab : List Nat} (h : s.1 a = some (w, false, ci, fs)) (hc : tab.contains (ci % 1000) = true) : isK s tab a = true := by
  rw [isK_o h]; exact hc
def btw (lo v n : Int32) : Bool := decide (¬ v < lo ∧ v < n)
theorem orB2 (lo v n : Int32) : (if v < lo then some (0 : Int32) else if v < n then some 1 else some 0) = some (if btw lo v n = true then 1 else 0) := by
  unfold btw
  by_cases h1 : v < lo
  · simp [h1]
  · by_cases h2 : v < n
    · simp [h1, h2]
    · simp [h1, h2]
theorem getD_app {α : Type} {l m : List α} {j : Nat} {d : α} (h : j < l.length) : (l ++ m).getD j d = l.getD j d := by
  rw [List.getD_eq_getElem?_getD, List.getD_eq_getElem?_getD, List.getElem?_append_left h]
theorem alC_l {s : CS} {a : Nat} {m : Int32} {es : List Value} (h : s.1 a = some (true, false, 1013, .int m :: es)) : alC s a = some (m, es) := by
  unfold alC cc; rw [h]; rfl
theorem alSize_l {s : CS} {a : Nat} {m : Int32} {es : List Value} (h : s.1 a = some (true, false, 1013, .int m :: es)) : alSize s a = some (Int32.ofNat es.length) := by
  unfold alSize; rw [alC_l h]; rfl
theorem alAdd_l {s : CS} {a : Nat} {m : Int32} {es : List Value} {v : Value} (h : s.1 a = some (true, false, 1013, .int m :: es)) (hn : es.length < 500000) (he : elO s v = true) : alAdd s a v = some (cput s 1013 a 1 16 (.int (m + 1) :: (es ++ [v]))) := by
  unfold alAdd; rw [alC_l h, Option.bind_some]; simp only; rw [if_pos ⟨hn, he⟩]
theorem alGet_l {s : CS} {a k : Nat} {m : Int32} {es : List Value} {v : Value} (h : s.1 a = some (true, false, 1013, .int m :: es)) (hk : es[k]? = some v) (hn : k < 2147483648) : alGet s a (Int32.ofNat k) = some v := by
  unfold alGet; rw [alC_l h, Option.bind_some, if_pos (i_nlt0 hn), i_clamp hn, hk]
theorem alMc_l {s : CS} {a : Nat} {m : Int32} {es : List Value} (h : s.1 a = some (true, false, 1013, .int m :: es)) : alMc s a = some (m, chg s 1 4) := by
  unfold alMc; rw [alC_l h]; rfl
theorem alHas_l {s : CS} {a k : Nat} {m : Int32} {es : List Value} (h : s.1 a = some (true, false, 1013, .int m :: es)) (hk : k < 2147483648) (hn : es.length < 2147483648) : alHas s a (Int32.ofNat k) = some (if k = es.length then 0 else 1) := by
  unfold alHas; rw [alC_l h, Option.bind_some]
  simp only [i_32]
  by_cases e : k = es.length
  · rw [if_pos e, if_pos (by rw [e])]
  · rw [if_neg e, if_neg (fun z => e ((i_inj hk hn).mp z))]
theorem alHas_r {s : CS} {a k n : Nat} {m : Int32} {f : Nat → Value} (h : s.1 a = some (true, false, 1013, .int m :: rowC f n)) (hk : k < 2147483648) (hn : n < 2147483648) : alHas s a (Int32.ofNat k) = some (if k = n then 0 else 1) := by
  have := alHas_l h hk (by rw [rowC_len]; exact hn)
  rwa [rowC_len] at this
theorem alNext_l {s : CS} {a k : Nat} {m : Int32} {es : List Value} {v : Value} (h : s.1 a = some (true, false, 1013, .int m :: es)) (hk : es[k]? = some v) (hn : k < 2147483648) : alNext s a m (Int32.ofNat k) = some v := by
  unfold alNext; rw [alC_l h, Option.bind_some, if_pos ⟨rfl, i_nlt0 hn⟩, i_clamp hn, hk]
theorem alNext_r {s : CS} {a k n : Nat} {m : Int32} {f : Nat → Value} (h : s.1 a = some (true, false, 1013, .int m :: rowC f n)) (hk : k < n) (hn : n < 2147483648) : alNext s a m (Int32.ofNat k) = some (f k) := alNext_l h (by rw [rowC_get, if_pos hk]) (by omega)
theorem wf_cup {s : CS} {a : Nat} {c : lCell} (hw : wfS s) (ha : a < s.2.1) : wfS (cup s a c) := by
  intro b hb
  have hb : s.2.1 ≤ b := hb
  rw [cup_ne (by omega)]; exact hw b hb
theorem wf_nwc {s : CS} {c : lCell} {n m : Nat} (hw : wfS s) : wfS (nwc s c n m).2 := by
  intro b hb
  have hb : s.2.1 + 1 ≤ b := hb
  rw [nwc_ne (by omega)]; exact hw b (by omega)
/-! new cells -/
def Nw (s S : CS) (c : lCell) (k m : Nat) : Prop := S.1 s.2.1 = some c ∧ (∀ q, q ≠ s.2.1 → S.1 q = s.1 q) ∧ S.2.1 = s.2.1 + 1 ∧ wfS S ∧ S.2.2.1 = s.2.2.1 + k ∧ S.2.2.2 = s.2.2.2 + m
theorem nwc_o {s : CS} (c : lCell) (k m : Nat) (hw : wfS s) : ∃ S, nwc s c k m = (s.2.1, S) ∧ Nw s S c k m := ⟨_, rfl, nwc_eq .., fun _ hq => nwc_ne hq, rfl, wf_nwc hw, rfl, rfl⟩
theorem nw_o {s : CS} (ci : Nat) (fs : List Value) (hw : wfS s) : ∃ S, nw s ci fs = (s.2.1, S) ∧ Nw s S (true, false, ci, fs) 1 fs.length := nwc_o _ _ _ hw
theorem rep_row (n : Nat) (v : Value) : List.replicate n v = rowC (fun _ => v) n := by
  refine rowC_ext (by simp) (fun k hk => ?_)
  rw [List.getElem?_replicate, if_pos hk]
theorem nwa_o {s : CS} (t : Nat) (dv : Value) (n : Nat) (hn : n ≤ 1000000) (hw : wfS s) : ∃ S, nwa s t dv (Int32.ofNat n) = some (s.2.1, S) ∧ Nw s S (true, true, t, rowC (fun _ => dv) n) 1 n := by
  unfold nwa
  rw [i_clamp (by omega), if_pos ⟨i_nlt0 (by omega), hn⟩, rep_row]
  exact ⟨_, rfl, nwc_eq .., fun _ hq => nwc_ne hq, rfl, wf_nwc hw, rfl, rfl⟩
theorem alInit_o {s : CS} {a : Nat} (h : s.1 a = some (true, false, 13, [.int 0, .null, .int 0])) : alInit s a = some (cup s a (true, false, 1013, [.int 0])) := by
  unfold alInit ccI; rw [h]; rfl
theorem pqInit_o {s : CS} {a : Nat} (h : s.1 a = some (true, false, 37, [.null, .int 0, .null, .int 0])) : pqInit s a = some (chg (cup s a (true, false, 1037, [])) 1 11) := by
  unfold pqInit ccI; rw [h]; rfl
theorem tmInit_o {s : CS} {a : Nat} (h : s.1 a = some (true, false, 42, [.null, .null, .null, .null, .int 0, .int 0, .null, .null, .null])) : tmInit s a = some (cup s a (true, false, 1042, [.int 0])) := by
  unfold tmInit ccI; rw [h]; rfl
theorem adInit_o {s : CS} {a : Nat} (h : s.1 a = some (true, false, 4, [.null, .int 0, .int 0])) : adInit s a = some (chg (cup s a (true, false, 1004, [])) 1 17) := by
  unfold adInit ccI; rw [h]; rfl
theorem bsInit_o {s : CS} {a : Nat} (h : s.1 a = some (true, false, 3, [.null, .int 0, .int 0])) : bsInit s a = some (chg (cup s a (true, false, 1003, [])) 1 1) := by
  unfold bsInit ccI; rw [h]; rfl
theorem sbInit_o {s : CS} {a : Nat} (h : s.1 a = some (true, false, 35, [.null, .int 0, .int 0, .int 0])) : sbInit s a = some (chg (cup s a (true, false, 1035, [])) 1 16) := by
  unfold sbInit ccI; rw [h]; rfl
theorem xP_c {s : CS} {a ci k : Nat} {fs fs' : List Value} {tab : List (Nat × Nat)} {v : Value} (h : s.1 a = some (true, false, ci, fs)) (hl : lLook tab ci = some k) (hk : k < fs.length) (e : fs.set k v = fs') : xP s tab a v = some (cup s a (true, false, ci, fs')) := by
  rw [xP_o h hl hk, e]
