/-! the bus: station by station -/
theorem eight {own : Nat → Nat} {s : CS} {t : TS} {N Ne Nd M : Nat} {F : CS × Int32 → Option ((CS × Int32) ⊕ CS)} {G : TS × Int32 → Option ((TS × Int32) ⊕ TS)} {I : TS → Prop} (hF : ∀ u, F (u, 8) = some (.inr u)) (hG : ∀ u, G (u, 8) = some (.inr u)) (hw : wfS s) (r : R6x (rs s.1 own 6) t N Ne Nd M) (h0 : I t)
    (h : ∀ k s1 t1, k < 8 → wfS s1 → R6x (rs s1.1 own 6) t1 N Ne Nd M → I t1 → ∃ s2 t2, F (s1, Int32.ofNat k) = some (.inl (s2, Int32.ofNat k + 1)) ∧ G (t1, Int32.ofNat k) = some (.inl (t2, Int32.ofNat k + 1)) ∧ R6x (rs s2.1 own 6) t2 N Ne Nd M ∧ BS own own 0 0 s1 t1 s2 t2 ∧ I t2) :
    ∃ s' t', wh F (s, 0) = some s' ∧ wh G (t, 0) = some t' ∧ R6x (rs s'.1 own 6) t' N Ne Nd M ∧ BS own own 0 0 s t s' t' ∧ I t' := by
  refine wh_two (Q := fun s' t' => R6x (rs s'.1 own 6) t' N Ne Nd M ∧ BS own own 0 0 s t s' t' ∧ I t') 8 (fun k (a : CS × Int32) (b : TS × Int32) => a.2 = Int32.ofNat k ∧ b.2 = Int32.ofNat k ∧ R6x (rs a.1.1 own 6) b.1 N Ne Nd M ∧ BS own own 0 0 s t a.1 b.1 ∧ I b.1) (a := (s, 0)) (b := (t, 0)) ?_ ?_ ⟨rfl, rfl, r, BS.rf hw, h0⟩
  · rintro k ⟨s1, _⟩ ⟨t1, _⟩ hk ⟨e1, e2, e3, e4, e5⟩
    obtain rfl : _ = Int32.ofNat k := e1
    obtain rfl : _ = Int32.ofNat k := e2
    obtain ⟨s2, t2, f1, f2, f3, f4, f5⟩ := h k s1 t1 hk e4.wf e3 e5
    exact Or.inr ⟨_, _, f1, f2, i_suc k, i_suc k, f3, e4.tr0 f4, f5⟩
  · rintro ⟨s1, _⟩ ⟨t1, _⟩ ⟨e1, e2, e3, e4, e5⟩
    obtain rfl : _ = Int32.ofNat 8 := e1
    obtain rfl : _ = Int32.ofNat 8 := e2
    exact ⟨s1, t1, hF s1, hG t1, e3, e4, e5⟩
theorem lt8 {k : Nat} (hk : k < 8) : Int32.ofNat k < 8 := (i_lt (j := k) (k := 8) (by omega) (by omega)).mpr hk
theorem lp_begin {own : Nat → Nat} {s : CS} {t : TS} {N Ne Nd M : Nat} (hw : wfS s) (r : R6x (rs s.1 own 6) t N Ne Nd M) {y : Int32} (hy : YI t N y) :
    ∃ s' t', wh (S := CS × Int32) (X := CS) (fun p8 => (if p8.2 < 8 then Option.bind (α := Nat) (xN p8.1 [(122, 0)] 120) (fun a3 => (if isK p8.1 [13] a3 = true then Option.bind (α := Value) (alGet p8.1 a3 p8.2) (fun e4 => Option.bind (α := Nat) (toN p8.1 [46] e4) (fun a5 => Option.bind (α := Int32) (xI p8.1 [(122, 10)] 120) (fun x6 => (if isK p8.1 [46] a5 = true then Option.bind (α := CS) (c_477 a5 x6 p8.1) (fun x7 => some (.inl (x7, p8.2 + 1))) else none)))) else none)) else some (.inr p8.1))) (s, 0) = some s' ∧
      wh (S := TS × Int32) (X := TS) (fun p11 => (if p11.2 < 8 then Option.bind (α := TS) (t_832 p11.2 y p11.1) (fun x3 => some (.inl (x3, p11.2 + 1))) else some (.inr p11.1))) (t, 0) = some t' ∧ R6x (rs s'.1 own 6) t' N Ne Nd M ∧ BS own own 0 0 s t s' t' ∧ Fr RSt t t' := by
  refine eight (I := Fr RSt t) (fun u => if_neg (show ¬ ((8 : Int32) < 8) by decide)) (fun u => if_neg (show ¬ ((8 : Int32) < 8) by decide)) hw r Fr.rf ?_
  intro k s1 t1 hk hw1 r1 f1
  obtain ⟨f0, k13, _⟩ := bus_g r1
  obtain ⟨l1, l2, l3⟩ := st_at r1 hk
  have r2 := r1
  obtain ⟨⟨⟨d, gi, gd⟩, _⟩, _⟩ := r2
  obtain ⟨_, _, _, _, _, _, _, _, _, x10, _⟩ := bD_f (rs_in gd).1
  have hd := (hy.cg (fun j => f1.2 141 j (by omega))) d gi
  obtain ⟨s2, t2, c1, c2, c3, c4⟩ := bus_begin hw1 hk r1 hd.1 hd.2
  refine ⟨s2, t2, ?_, ?_, c3, c4, (fr_832 f1).2 _ c2⟩
  · simp only [if_pos (lt8 hk), f0, k13, l1, l2, l3, x10, c1, Option.bind_some, if_true]
  · simp only [if_pos (lt8 hk), c2, Option.bind_some]
theorem lp_hears {own : Nat → Nat} {s : CS} {t : TS} {N Ne Nd M l : Nat} (hw : wfS s) (r : R6x (rs s.1 own 6) t N Ne Nd M) (hl : l = 0 ∨ l = 1) (hline : t.2.2.1 141 M = Int32.ofNat l) :
    ∃ s' t', wh (S := CS × Int32) (X := CS) (fun p66 => (if p66.2 < 8 then Option.bind (α := Nat) (xN p66.1 [(122, 0)] 120) (fun a25 => (if isK p66.1 [13] a25 = true then Option.bind (α := Value) (alGet p66.1 a25 p66.2) (fun e26 => Option.bind (α := Nat) (toN p66.1 [46] e26) (fun a27 => Option.bind (α := Int32) (xI p66.1 [(122, 9)] 120) (fun x28 => (if isK p66.1 [46] a27 = true then Option.bind (α := CS) (c_481 a27 (Int32.ofNat l) x28 p66.1) (fun x29 => some (.inl (x29, p66.2 + 1))) else none)))) else none)) else some (.inr p66.1))) (s, 0) = some s' ∧
      wh (S := TS × Int32) (X := TS) (fun p71 => (if p71.2 < 8 then Option.bind (α := TS) (t_838 p71.2 p71.1) (fun x10 => some (.inl (x10, p71.2 + 1))) else some (.inr p71.1))) (t, 0) = some t' ∧ R6x (rs s'.1 own 6) t' N Ne Nd M ∧ BS own own 0 0 s t s' t' ∧ Fr RSt t t' := by
  refine eight (I := Fr RSt t) (fun u => if_neg (show ¬ ((8 : Int32) < 8) by decide)) (fun u => if_neg (show ¬ ((8 : Int32) < 8) by decide)) hw r Fr.rf ?_
  intro k s1 t1 hk hw1 r1 f1
  obtain ⟨f0, k13, _, _, _, _, _, _, x9, _⟩ := bus_g r1
  obtain ⟨l1, l2, l3⟩ := st_at r1 hk
  obtain ⟨s2, t2, c1, c2, c3, c4, _⟩ := bus_hears hw1 hk r1 hl (by rw [f1.2 141 M (by omega)]; exact hline)
  refine ⟨s2, t2, ?_, ?_, c3, c4, (fr_838 f1).2 _ c2⟩
  · simp only [if_pos (lt8 hk), f0, k13, l1, l2, l3, x9, c1, Option.bind_some, if_true]
  · simp only [if_pos (lt8 hk), c2, Option.bind_some]
theorem lp_look {own : Nat → Nat} {s : CS} {t : TS} {N Ne Nd M : Nat} (hw : wfS s) (r : R6x (rs s.1 own 6) t N Ne Nd M) :
    ∃ s' t', wh (S := CS × Int32) (X := CS) (fun p111 => (if p111.2 < 8 then Option.bind (α := Nat) (xN p111.1 [(122, 0)] 120) (fun a39 => (if isK p111.1 [13] a39 = true then Option.bind (α := Value) (alGet p111.1 a39 p111.2) (fun e40 => Option.bind (α := Nat) (toN p111.1 [46] e40) (fun a41 => Option.bind (α := Int32) (xI p111.1 [(122, 8)] 120) (fun x42 => Option.bind (α := Int32) (xI p111.1 [(122, 9)] 120) (fun x43 => (if isK p111.1 [46] a41 = true then Option.bind (α := CS) (c_482 a41 x42 x43 p111.1) (fun x44 => some (.inl (x44, p111.2 + 1))) else none))))) else none)) else some (.inr p111.1))) (s, 0) = some s' ∧
      wh (S := TS × Int32) (X := TS) (fun p83 => (if p83.2 < 8 then Option.bind (α := TS) (t_842 p83.2 p83.1) (fun x12 => some (.inl (x12, p83.2 + 1))) else some (.inr p83.1))) (t, 0) = some t' ∧ R6x (rs s'.1 own 6) t' N Ne Nd M ∧ BS own own 0 0 s t s' t' ∧ Fr RSt t t' := by
  refine eight (I := Fr RSt t) (fun u => if_neg (show ¬ ((8 : Int32) < 8) by decide)) (fun u => if_neg (show ¬ ((8 : Int32) < 8) by decide)) hw r Fr.rf ?_
  intro k s1 t1 hk hw1 r1 f1
  obtain ⟨f0, k13, _, _, _, _, _, x8, x9, _⟩ := bus_g r1
  obtain ⟨l1, l2, l3⟩ := st_at r1 hk
  obtain ⟨s2, t2, c1, c2, c3, c4, _⟩ := bus_look hw1 hk r1
  refine ⟨s2, t2, ?_, ?_, c3, c4, (fr_842 f1).2 _ c2⟩
  · simp only [if_pos (lt8 hk), f0, k13, l1, l2, l3, x8, x9, c1, Option.bind_some, if_true]
  · simp only [if_pos (lt8 hk), c2, Option.bind_some]
/-- the line: what all stations send at once -/
theorem lp_send {own : Nat → Nat} {s : CS} {t : TS} {N Ne Nd M a : Nat} (r : R6x (rs s.1 own 6) t N Ne Nd M) (ha : a = 0 ∨ a = 1) :
    ∃ l, (l = 0 ∨ l = 1) ∧ wh (S := Int32 × Int32) (X := Int32) (fun p50 => (if p50.2 < 8 then Option.bind (α := Nat) (xN s [(122, 0)] 120) (fun a21 => (if isK s [13] a21 = true then Option.bind (α := Value) (alGet s a21 p50.2) (fun e22 => Option.bind (α := Nat) (toN s [46] e22) (fun a23 => (if isK s [46] a23 = true then Option.bind (α := Int32) (c_480 a23 s) (fun x24 => some (.inl (p50.1 &&& x24, p50.2 + 1))) else none))) else none)) else some (.inr p50.1))) (Int32.ofNat a, 0) = some (Int32.ofNat l) ∧
      wh (S := Int32 × Int32) (X := Int32) (fun p48 => (if p48.2 < 8 then Option.bind (α := Int32) ((if p48.1 = 0 then some 0 else Option.bind (α := Int32) (t_834 p48.2 t) (fun x8 => (if x8 = 0 then some 0 else some 1)))) (fun v60 => some (.inl (v60, p48.2 + 1))) else some (.inr p48.1))) (Int32.ofNat a, 0) = some (Int32.ofNat l) := by
  obtain ⟨f0, k13, _⟩ := bus_g r
  have lp := wh_two (f := fun p50 : Int32 × Int32 => (if p50.2 < 8 then Option.bind (α := Nat) (xN s [(122, 0)] 120) (fun a21 => (if isK s [13] a21 = true then Option.bind (α := Value) (alGet s a21 p50.2) (fun e22 => Option.bind (α := Nat) (toN s [46] e22) (fun a23 => (if isK s [46] a23 = true then Option.bind (α := Int32) (c_480 a23 s) (fun x24 => some (Sum.inl (β := Int32) (p50.1 &&& x24, p50.2 + 1))) else none))) else none)) else some (.inr p50.1)))
    (g := fun p48 : Int32 × Int32 => (if p48.2 < 8 then Option.bind (α := Int32) ((if p48.1 = 0 then some 0 else Option.bind (α := Int32) (t_834 p48.2 t) (fun x8 => (if x8 = 0 then some 0 else some 1)))) (fun v60 => some (Sum.inl (β := Int32) (v60, p48.2 + 1))) else some (.inr p48.1)))
    (Q := fun x y => ∃ l, (l = 0 ∨ l = 1) ∧ x = Int32.ofNat l ∧ y = Int32.ofNat l) 8 (fun k p q => p.2 = Int32.ofNat k ∧ q.2 = Int32.ofNat k ∧ ∃ l, (l = 0 ∨ l = 1) ∧ p.1 = Int32.ofNat l ∧ q.1 = Int32.ofNat l) (a := (Int32.ofNat a, 0)) (b := (Int32.ofNat a, 0)) ?_ ?_ ⟨rfl, rfl, a, ha, rfl, rfl⟩
  · obtain ⟨x, y, e1, e2, l, hl, rfl, rfl⟩ := lp
    exact ⟨l, hl, e1, e2⟩
  · rintro k ⟨p, _⟩ ⟨q, _⟩ hk ⟨e1, e2, l, hl, e3, e4⟩
    obtain rfl : _ = Int32.ofNat k := e1
    obtain rfl : _ = Int32.ofNat k := e2
    obtain rfl : p = Int32.ofNat l := e3
    obtain rfl : q = Int32.ofNat l := e4
    obtain ⟨l1, l2, l3⟩ := st_at r hk
    have r2 := r
    obtain ⟨_, _, _, n, ti, bi, m, _, _, rr⟩ := r2
    have c1 := c_sb (s := s) (fun q c h => (rs_in h).1) (rr k hk)
    have c2 := t_sb hk (rr k hk)
    right
    have sb2 := sb_2 t k
    generalize sb t k = w at c1 c2 sb2
    refine ⟨(Int32.ofNat (l * w), Int32.ofNat k + 1), (Int32.ofNat (l * w), Int32.ofNat k + 1), ?_, ?_, i_suc k, i_suc k, l * w, ?_, rfl, rfl⟩
    · simp only [if_pos (lt8 hk), f0, k13, l1, l2, l3, c1, Option.bind_some, if_true]
      rcases hl with rfl | rfl <;> rcases sb2 with rfl | rfl <;> rfl
    · simp only [if_pos (lt8 hk), c2, Option.bind_some]
      rcases hl with rfl | rfl <;> rcases sb2 with rfl | rfl <;> rfl
    · rcases hl with rfl | rfl <;> rcases sb2 with rfl | rfl <;> simp
  · rintro ⟨p, _⟩ ⟨q, _⟩ ⟨e1, e2, l, hl, e3, e4⟩
    obtain rfl : _ = Int32.ofNat 8 := e1
    obtain rfl : _ = Int32.ofNat 8 := e2
    exact ⟨p, q, if_neg (by show ¬ (Int32.ofNat 8 < 8); decide), if_neg (by show ¬ (Int32.ofNat 8 < 8); decide), l, hl, e3, e4⟩
