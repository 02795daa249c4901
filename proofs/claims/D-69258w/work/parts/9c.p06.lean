/-! the program: the component's way to the order -/
def SS (s S : CS) (B : Nat → Nat → Nat) (t1 nw od : Int32) (L : List Nat) (lf : Nat → Int32) (pq : List Nat) (c m : Nat) : Prop :=
  (∀ q, q ≠ 115 → q < s.2.1 → S.1 q = s.1 q) ∧ S.1 115 = some (true, false, 100, [.ref 116, .ref 117, .ref s.2.1, .int od, .ref 118, .ref 119, .int nw, .int t1]) ∧ (∃ mc, S.1 s.2.1 = some (true, false, 1013, .int mc :: L.map (fun b => .ref (B b 0)))) ∧ S.1 (s.2.1 + 1) = some (true, true, 0, rowC (fun k => .int (lf k)) 40) ∧ S.1 (s.2.1 + 2) = some (true, false, 1037, pq.map iV) ∧ S.2.1 = s.2.1 + 3 ∧ wfS S ∧ S.2.2.1 ≤ s.2.2.1 + c ∧ S.2.2.2 ≤ s.2.2.2 + m
section
variable {s S : CS} {B : Nat → Nat → Nat} {t1 nw od : Int32} {L : List Nat} {lf : Nat → Int32} {pq : List Nat} {c m : Nat}
theorem SS.chg (h : SS s S B t1 nw od L lf pq c m) (x y : Nat) : SS s (chg S x y) B t1 nw od L lf pq (c + x) (m + y) := by
  obtain ⟨h1, h2, h3, h4, h5, h6, h7, h8, h9⟩ := h
  exact ⟨h1, h2, h3, h4, h5, h6, h7, by show S.2.2.1 + x ≤ _; omega, by show S.2.2.2 + y ≤ _; omega⟩
theorem SS.le (h : SS s S B t1 nw od L lf pq c m) {c' m' : Nat} (hc : c ≤ c') (hm : m ≤ m') : SS s S B t1 nw od L lf pq c' m' := by
  obtain ⟨h1, h2, h3, h4, h5, h6, h7, h8, h9⟩ := h
  exact ⟨h1, h2, h3, h4, h5, h6, h7, by omega, by omega⟩
theorem SS.lef {lf' : Nat → Int32} (h : SS s S B t1 nw od L lf pq c m) (e : ∀ k, k < 40 → lf' k = lf k) : SS s S B t1 nw od L lf' pq c m := by
  obtain ⟨h1, h2, h3, h4, h5, h6, h7, h8, h9⟩ := h
  refine ⟨h1, h2, h3, ?_, h5, h6, h7, h8, h9⟩
  rw [h4]; congr 4; exact rowC_congr (fun k hk => by rw [e k hk])
theorem SS.put (h : SS s S B t1 nw od L lf pq c m) (ha : 179 ≤ s.2.1) {k : Nat} (hk : k < 40) (v : Int32) : ∃ S', aPut S 0 (s.2.1 + 1) (Int32.ofNat k) (.int v) = some S' ∧ SS s S' B t1 nw od L (fun j => if j = k then v else lf j) pq c m := by
  obtain ⟨h1, h2, h3, h4, h5, h6, h7, h8, h9⟩ := h
  refine ⟨_, aPut_r h4 hk (by omega), fun q q1 q2 => by rw [cup_ne (by omega)]; exact h1 q q1 q2, by rw [cup_ne (by omega)]; exact h2, by rw [cup_ne (by omega)]; exact h3, ?_, by rw [cup_ne (by omega)]; exact h5, h6, wf_cup h7 (by omega), h8, h9⟩
  rw [cup_eq]; congr 4; refine rowC_congr (fun j hj => ?_); by_cases e : j = k <;> simp [e]
theorem SS.get (h : SS s S B t1 nw od L lf pq c m) {k : Nat} (hk : k < 40) : aI S [0, 12] (s.2.1 + 1) (Int32.ofNat k) = some (lf k) := aI_r h.2.2.2.1 (by omega) rfl hk (by omega) rfl
theorem SS.pqa (h : SS s S B t1 nw od L lf pq c m) (ha : 179 ≤ s.2.1) (hl : pq.length ≤ 40) (hp : ∀ y ∈ pq, y < 40) {k : Nat} (hk : k < 40) : ∃ S', pqAdd S (s.2.1 + 2) (.int (Int32.ofNat k)) = some S' ∧ SS s S' B t1 nw od L lf (nins k pq) (c + 1) (m + 120) := by
  obtain ⟨h1, h2, h3, h4, h5, h6, h7, h8, h9⟩ := h
  refine ⟨cput S 1037 (s.2.1 + 2) 1 (2 * (pq.map iV).length + 40) (pins (Int32.ofNat k) (pq.map iV)), ?_, fun q q1 q2 => by rw [cput_ne (by omega)]; exact h1 q q1 q2, by rw [cput_ne (by omega)]; exact h2, by rw [cput_ne (by omega)]; exact h3, by rw [cput_ne (by omega)]; exact h4, ?_, h6, ?_, ?_, ?_⟩
  · unfold pqAdd pqC cc
    rw [h5]
    simp only [if_true, Option.bind_some, toI, List.length_map]
    rw [if_pos (by omega)]
  · rw [cput_eq, pins_n (by omega) (fun y hy => by have := hp y hy; omega)]
  · exact wf_cup h7 (by omega)
  · show S.2.2.1 + 1 ≤ _; omega
  · show S.2.2.2 + (2 * (pq.map iV).length + 40) ≤ _; rw [List.length_map]; omega
theorem SS.poll {b : Nat} {r : List Nat} (h : SS s S B t1 nw od L lf (b :: r) c m) (ha : 179 ≤ s.2.1) : ∃ S', pqPoll S (s.2.1 + 2) = some (iV b, S') ∧ SS s S' B t1 nw od L lf r c m := by
  obtain ⟨h1, h2, h3, h4, h5, h6, h7, h8, h9⟩ := h
  refine ⟨cput S 1037 (s.2.1 + 2) 0 0 (r.map iV), ?_, fun q q1 q2 => by rw [cput_ne (by omega)]; exact h1 q q1 q2, by rw [cput_ne (by omega)]; exact h2, by rw [cput_ne (by omega)]; exact h3, by rw [cput_ne (by omega)]; exact h4, cput_eq .., h6, wf_cup h7 (by omega), h8, h9⟩
  unfold pqPoll pqC cc
  rw [h5]
  rfl
theorem SS.emp (h : SS s S B t1 nw od L lf pq c m) : pqEmpty S (s.2.1 + 2) = some (if pq.length = 0 then 1 else 0) := by
  unfold pqEmpty pqC cc
  rw [h.2.2.2.2.1]
  simp
theorem SS.add (h : SS s S B t1 nw od L lf pq c m) (ha : 179 ≤ s.2.1) (hl : L.length ≤ 40) (b : Nat) (he : elO S (.ref (B b 0)) = true) : ∃ S', alAdd S s.2.1 (.ref (B b 0)) = some S' ∧ SS s S' B t1 nw od (L ++ [b]) lf pq (c + 1) (m + 16) := by
  obtain ⟨h1, h2, ⟨mc, h3⟩, h4, h5, h6, h7, h8, h9⟩ := h
  refine ⟨_, alAdd_l h3 (by rw [List.length_map]; omega) he, fun q q1 q2 => by rw [cput_ne (by omega)]; exact h1 q q1 q2, by rw [cput_ne (by omega)]; exact h2, ⟨mc + 1, by rw [cput_eq, List.map_append]; rfl⟩, by rw [cput_ne (by omega)]; exact h4, by rw [cput_ne (by omega)]; exact h5, h6, wf_cup h7 (by omega), ?_, ?_⟩
  · show S.2.2.1 + 1 ≤ _; omega
  · show S.2.2.2 + 16 ≤ _; omega
theorem SS.k2 (h : SS s S B t1 nw od L lf pq c m) : isK S [37] (s.2.1 + 2) = true := isK_t h.2.2.2.2.1 rfl
theorem SS.k0 (h : SS s S B t1 nw od L lf pq c m) : isK S [13] s.2.1 = true := by
  obtain ⟨mc, h3⟩ := h.2.2.1
  exact isK_t h3 rfl
theorem SS.f1 (h : SS s S B t1 nw od L lf pq c m) : xN S [(100, 1)] 115 = some 117 := xN_o h.2.1 rfl rfl
theorem SS.f2 (h : SS s S B t1 nw od L lf pq c m) : xN S [(100, 2)] 115 = some s.2.1 := xN_o h.2.1 rfl rfl
end
/-- what sorting needs to know of the blocks -/
def BB (s : CS) (t : TS) (n : Nat) (B : Nat → Nat → Nat) (mc : Int32) : Prop := 179 ≤ s.2.1 ∧ n ≤ 40 ∧ RK s.1 ∧ (∀ k, k < n → R5b s.1 t n B k) ∧ injB n B ∧ s.1 117 = some (true, false, 1013, .int mc :: rowC (fun k => .ref (B k 0)) n) ∧ wfS s
theorem R5b_h {h h' : lHeap} {t : TS} {n k : Nat} {B : Nat → Nat → Nat} (r : R5b h t n B k) (c : ∀ j, j < 3 → h' (B k j) = h (B k j)) : R5b h' t n B k := R5b_cg r c (fun _ _ => rfl) (fun _ => rfl) (fun _ _ => rfl)
theorem SS.bb {s S : CS} {B : Nat → Nat → Nat} {t1 nw od mc : Int32} {L : List Nat} {lf : Nat → Int32} {pq : List Nat} {c m n : Nat} {t : TS} (h : SS s S B t1 nw od L lf pq c m) (hb : BB s t n B mc) : RK S.1 ∧ (∀ k, k < n → R5b S.1 t n B k) ∧ S.1 117 = some (true, false, 1013, .int mc :: rowC (fun k => .ref (B k 0)) n) := by
  obtain ⟨b1, b2, b3, b4, b5, b6, b7⟩ := hb
  have ne : ∀ q c, q ≠ 115 → s.1 q = some c → S.1 q = some c := fun q c hq e => by rw [h.1 q hq (wf_lt b7 e), e]
  refine ⟨⟨fun k hk => ?_, ne _ _ (by omega) b3.2.1, ne _ _ (by omega) b3.2.2.1, ne _ _ (by omega) b3.2.2.2⟩, fun k hk => R5b_h (b4 k hk) (fun j hj => ?_), ne _ _ (by omega) b6⟩
  · refine ne _ _ ?_ (b3.1 k hk)
    have : ∀ K : Fin 26, kid K.val ≠ 115 := by decide
    exact this ⟨k, hk⟩
  · have g := b5.2 k j hk hj
    obtain ⟨r1, r2, r3, _⟩ := b4 k hk
    have : j = 0 ∨ j = 1 ∨ j = 2 := by omega
    rcases this with rfl | rfl | rfl
    · rw [ne _ _ (by omega) r1, r1]
    · rw [ne _ _ (by omega) r2, r2]
    · rw [ne _ _ (by omega) r3, r3]
def cnt (t : TS) (n b : Nat) : Nat := ((List.range n).filter (dep t b)).length
def cntU (t : TS) (n : Nat) (acc : List Nat) (b : Nat) : Nat := ((List.range n).filter (fun w => dep t b w && !acc.contains w)).length
theorem flen (n : Nat) (p : Nat → Bool) : ((List.range n).filter p).length ≤ n := by
  have := List.length_filter_le p (List.range n)
  simpa using this
theorem flen_suc (n : Nat) (p : Nat → Bool) : ((List.range (n + 1)).filter p).length = ((List.range n).filter p).length + (if p n = true then 1 else 0) := by
  rw [List.range_succ, List.filter_append, List.length_append]
  cases h : p n <;> simp [h]
theorem nins_end {x : Nat} {l : List Nat} (h : ∀ y ∈ l, y < x) : nins x l = l ++ [x] := by
  induction l with
  | nil => rfl
  | cons y r ih =>
    unfold nins
    rw [if_neg (by have := h y (by simp); omega), ih (fun z hz => h z (List.mem_cons_of_mem _ hz))]; rfl
theorem cntU_nil (t : TS) (n b : Nat) : cntU t n [] b = cnt t n b := by
  unfold cntU cnt; simp
theorem flen_dec {n b0 : Nat} {p p' : Nat → Bool} (hb : b0 < n) (h1 : p b0 = true) (h2 : p' b0 = false) (h3 : ∀ x, x ≠ b0 → p' x = p x) : ((List.range n).filter p).length = ((List.range n).filter p').length + 1 := by
  induction n with
  | zero => omega
  | succ n ih =>
    rw [flen_suc, flen_suc]
    by_cases e : n = b0
    · subst e
      rw [h1, h2]
      have : (List.range n).filter p = (List.range n).filter p' := List.filter_congr (fun x hx => (h3 x (by have := List.mem_range.mp hx; omega)).symm)
      rw [this]; simp
    · rw [ih (by omega), h3 n e]; omega
theorem cntU_add {t : TS} {n b b0 : Nat} {acc : List Nat} (hb : b0 < n) (hn : b0 ∉ acc) : cntU t n acc b = cntU t n (acc ++ [b0]) b + (if dep t b b0 = true then 1 else 0) := by
  unfold cntU
  cases hd : dep t b b0 with
  | false =>
    simp only [Bool.false_eq_true, if_false, Nat.add_zero]
    congr 1
    refine List.filter_congr (fun x _ => ?_)
    by_cases e : x = b0
    · subst e; simp [hd]
    · simp [e]
  | true =>
    simp only [if_true]
    refine flen_dec hb (by simp [hd, hn]) (by simp) (fun x hx => by simp [hx])
theorem cntU_may {t : TS} {n b : Nat} {acc : List Nat} (hn : b ∉ acc) : cntU t n acc b = 0 ↔ mayC t n acc b = true := by
  unfold cntU
  rw [mayC_t, List.length_eq_zero_iff, List.filter_eq_nil_iff]
  simp only [List.mem_range, Bool.and_eq_true, Bool.not_eq_true', List.contains_eq_mem, decide_eq_false_iff_not, not_and, Classical.not_not]
  exact ⟨fun h => ⟨hn, h⟩, fun h => h.2⟩
