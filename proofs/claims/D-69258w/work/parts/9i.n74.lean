/-! the plan: a line is moved -/
section
variable {own : Nat → Nat} {s : CS} {t T : TS}
theorem bind_r {A : Type} (o : Option A) : Option.bind o (fun v => some v) = o := by cases o <;> rfl
theorem c_mvG {A : Type} (g : Int32 → Option A) {L : PLn} {LD : Nat → Nat} {a k : Nat} (h : s.1 a = some (lcC L LD k)) (v2 v3 : Int32) : by classical exact (Option.bind (c_50 v2.toInt64 s) (fun x3 => Option.bind ((if 0 < (lg_cmp x3 24) then some 0 else Option.bind (c_50 v3.toInt64 s) (fun x4 => (if 0 < (lg_cmp x4 24) then some 0 else Option.bind (xI s [(59, 3)] a) (fun x5 => Option.bind (c_891 (x5 + v2) s) (fun x6 => (if x6 = 0 then some 0 else Option.bind (xI s [(59, 4)] a) (fun x7 => Option.bind (c_891 (x7 + v3) s) (fun x8 => (if x8 = 0 then some 0 else (if isK s [59] a = true then Option.bind (c_867 a s) (fun x9 => Option.bind (c_891 (x9 + v2) s) (fun x10 => (if x10 = 0 then some 0 else (if isK s [59] a = true then Option.bind (c_868 a s) (fun x11 => Option.bind (c_891 (x11 + v3) s) (fun x12 => (if x12 = 0 then some 0 else some 1))) else none)))) else none)))))))))) : Option Int32) g) = g (if mvA L k v2 v3 then 1 else 0)) := by
  classical
  have m := c_mvA h v2 v3
  obtain ⟨y2, e2, _⟩ := ab24 (s := s) v2
  rw [e2, Option.bind_some, bind_r] at m
  rw [e2, Option.bind_some, m, Option.bind_some]
theorem t_move {L : PLn} {k nl : Nat} {v2 v3 : Int32} (hl : ln1 t L k) {F : Bool} (hF : t_677 (Int32.ofNat k) (wrI (wrI (ptI t 0 0) 50 k (Int32.ofNat (pX L k) + v2)) 51 k (Int32.ofNat (pY L k) + v3)) = some (if F = true then 1 else 0)) (h110 : v01 (t.1 110)) : ∃ T, t_682 (Int32.ofNat k) v2 v3 (ptI t 0 0) = some (if F = true then 1 else 0, T) ∧ agr [0, 110] [50, 51] t T ∧ T.1 0 = 0 ∧ T.1 110 = (if F = true then 0 else t.1 110) ∧ (∀ l, T.2.2.1 50 l = if l = k ∧ F = true then Int32.ofNat (pX L k) + v2 else t.2.2.1 50 l) ∧ ∀ l, T.2.2.1 51 l = if l = k ∧ F = true then Int32.ofNat (pY L k) + v3 else t.2.2.1 51 l := by
  obtain ⟨hk, g0, g1, _, _⟩ := hl
  unfold t_682
  rw [rdI_n hk (by decide), show (ptI t 0 0).2.2.1 50 k = Int32.ofNat (pX L k) from g0, Option.bind_some, stI_n hk (by decide), Option.bind_some, rdI_n hk (by decide), wr_at, if_neg (fun z => by have := z.1; omega), show (ptI t 0 0).2.2.1 51 k = Int32.ofNat (pY L k) from g1, Option.bind_some, stI_n hk (by decide), Option.bind_some, hF, Option.bind_some]
  have r0 : ∀ (v : Int32), (if (ptI t 0 0).1 110 = 0 then (some 0 : Option Int32) else if v = 0 then some 1 else some 0) = some (if t.1 110 = 0 then 0 else if v = 0 then 1 else 0) := fun v => by
    by_cases z : t.1 110 = 0
    · rw [if_pos z]; rw [if_pos (show (ptI t 0 0).1 110 = 0 from z)]
    · rw [if_neg z]; rw [if_neg (show ¬ (ptI t 0 0).1 110 = 0 from z)]
      by_cases w : v = 0
      · rw [if_pos w, if_pos w]
      · rw [if_neg w, if_neg w]
  rw [rdI_n hk (by decide), wr_at, if_neg (fun z => by have := z.1; omega), wr_at, if_pos ⟨rfl, rfl⟩, Option.bind_some]
  cases F with
  | true =>
    have e1' : (if true = true then (1 : Int32) else 0) = 1 := rfl
    rw [e1'] at hF ⊢
    rw [if_neg (show ¬ (1 : Int32) = 0 by decide), Option.bind_some, stI_n hk (by decide), Option.bind_some, rdI_n hk (by decide), wr_at, if_neg (fun z => by have := z.1; omega), wr_at, if_pos ⟨rfl, rfl⟩, Option.bind_some, if_neg (show ¬ (1 : Int32) = 0 by decide), Option.bind_some, stI_n hk (by decide), Option.bind_some]
    rw [show (if (wrI (wrI (wrI (wrI (ptI t 0 0) 50 k (Int32.ofNat (pX L k) + v2)) 51 k (Int32.ofNat (pY L k) + v3)) 50 k (Int32.ofNat (pX L k) + v2 - 0)) 51 k (Int32.ofNat (pY L k) + v3 - 0)).1 110 = 0 then (some 0 : Option Int32) else (if (1 : Int32) = 0 then some 1 else some 0)) = some 0 from (r0 1).trans (by rw [if_neg (show ¬ (1 : Int32) = 0 by decide)]; split <;> rfl), Option.bind_some, if_pos (Or.inl rfl), Option.bind_some, if_pos (Or.inr rfl)]
    refine ⟨_, rfl, agr_p (agr_w (agr_w (agr_w (agr_w (agr_p agr_refl (by simp)) (by simp)) (by simp)) (by simp)) (by simp)) (by simp), rfl, rfl, fun l => ?_, fun l => ?_⟩
    · show (wrI _ 51 k _).2.2.1 50 l = _
      rw [wr_at, if_neg (fun z => by have := z.1; omega), wr_at]
      by_cases z : l = k
      · rw [if_pos ⟨rfl, z⟩, if_pos ⟨z, rfl⟩, Int32.sub_zero]
      · rw [if_neg (fun w => z w.2), if_neg (fun w => z w.1), wr_at, if_neg (fun w => z w.2), wr_at, if_neg (fun w => z w.2)]; rfl
    · show (wrI _ 51 k _).2.2.1 51 l = _
      rw [wr_at]
      by_cases z : l = k
      · rw [if_pos ⟨rfl, z⟩, if_pos ⟨z, rfl⟩, Int32.sub_zero]
      · rw [if_neg (fun w => z w.2), if_neg (fun w => z w.1), wr_at, if_neg (fun w => z w.2), wr_at, if_neg (fun w => z w.2), wr_at, if_neg (fun w => z w.2)]; rfl
  | false =>
    have e0' : (if false = true then (1 : Int32) else 0) = 0 := rfl
    rw [e0'] at hF ⊢
    rw [if_pos rfl, Option.bind_some, stI_n hk (by decide), Option.bind_some, rdI_n hk (by decide), wr_at, if_neg (fun z => by have := z.1; omega), wr_at, if_pos ⟨rfl, rfl⟩, Option.bind_some, if_pos rfl, Option.bind_some, stI_n hk (by decide), Option.bind_some]
    have e0 : (if t.1 110 = 0 then (0 : Int32) else if (0 : Int32) = 0 then 1 else 0) = t.1 110 := by
      rcases h110 with z | z <;> rw [z] <;> decide
    rw [show (if (wrI (wrI (wrI (wrI (ptI t 0 0) 50 k (Int32.ofNat (pX L k) + v2)) 51 k (Int32.ofNat (pY L k) + v3)) 50 k (Int32.ofNat (pX L k) + v2 - v2)) 51 k (Int32.ofNat (pY L k) + v3 - v3)).1 110 = 0 then (some 0 : Option Int32) else (if (0 : Int32) = 0 then some 1 else some 0)) = some (t.1 110) from (r0 0).trans (by rw [e0]), Option.bind_some, if_pos (show t.1 110 = 0 ∨ t.1 110 = 1 from h110), Option.bind_some, if_pos (Or.inl rfl)]
    refine ⟨_, rfl, agr_p (agr_w (agr_w (agr_w (agr_w (agr_p agr_refl (by simp)) (by simp)) (by simp)) (by simp)) (by simp)) (by simp), rfl, rfl, fun l => ?_, fun l => ?_⟩
    · rw [if_neg (fun w => by cases w.2)]
      show (wrI _ 51 k _).2.2.1 50 l = _
      rw [wr_at, if_neg (fun z => by have := z.1; omega), wr_at]
      by_cases z : l = k
      · rw [if_pos ⟨rfl, z⟩, Int32.add_sub_cancel, z, g0]
      · rw [if_neg (fun w => z w.2), wr_at, if_neg (fun w => z w.2), wr_at, if_neg (fun w => z w.2)]; rfl
    · rw [if_neg (fun w => by cases w.2)]
      show (wrI _ 51 k _).2.2.1 51 l = _
      rw [wr_at]
      by_cases z : l = k
      · rw [if_pos ⟨rfl, z⟩, Int32.add_sub_cancel, z, g1]
      · rw [if_neg (fun w => z w.2), wr_at, if_neg (fun w => z w.2), wr_at, if_neg (fun w => z w.2), wr_at, if_neg (fun w => z w.2)]; rfl
theorem mv_R2 (hw : wfS s) {L : PLn} {nl : Nat} {LC LD : Nat → Nat} {DC : Nat → Nat → Nat} {nd : Nat → Nat} {fo be co : Value} {fi : Nat} (r : R2x (rs s.1 own 2) t L nl LC LD DC nd fo be co fi) {S : CS} {k : Nat} {V : Nat × Nat × Bool × Nat} (hk : k < nl) (hV : V.2.2 = (L k).2.2) (hg : gdL (updL L k V) nl) (hS : S.1 (LC k) = some (lcC (updL L k V) LD k)) (h102 : S.1 102 = some (true, false, 67, [.ref 103, fo, be, co, .int (T.1 110), .int (t.1 111), .int (t.1 1)])) (hq : ∀ q, q ≠ LC k → q ≠ 102 → S.1 q = s.1 q) (ac : agr [0, 110] [50, 51] t T) (h50 : ∀ l, T.2.2.1 50 l = if l = k then Int32.ofNat V.1 else t.2.2.1 50 l) (h51 : ∀ l, T.2.2.1 51 l = if l = k then Int32.ofNat V.2.1 else t.2.2.1 51 l) (h110 : T.1 110 = 0 ∨ (T.1 110 = t.1 110 ∧ V = L k)) : R2 (rs S.1 own 2) T := by
  obtain ⟨r1, r2, r3, r4, ⟨l1, l2, ⟨ml, l3⟩, l6⟩, ⟨d1, d2⟩, r7⟩ := r
  have eF : ∀ l, pFl (updL L k V) l = pFl L l := fun l => by
    unfold pFl
    by_cases z : l = k
    · rw [z, updL_eq, hV]
    · rw [updL_ne z]
  have eN : ∀ l, pN (updL L k V) l = pN L l := fun l => by
    unfold pN
    by_cases z : l = k
    · rw [z, updL_eq, hV]
    · rw [updL_ne z]
  have kr : ∀ b c, rs s.1 own 2 b = some c → c.2.2.1 ≠ 59 → c.2.2.1 ≠ 67 → rs S.1 own 2 b = some c := by
    intro b c e h1 h2
    obtain ⟨x1, x2⟩ := rs_some.mp e
    refine rs_some.mpr ⟨x1, ?_⟩
    rw [hq b (fun w => ?_) (fun w => ?_)]
    · exact x2
    · rw [w, l3.2.1 k hk] at e; cases e; exact h1 rfl
    · rw [w, r1] at e; cases e; exact h2 rfl
  refine ⟨updL L k V, nl, LC, LD, DC, nd, fo, be, co, fi, ?_, ?_, ?_, r4, ⟨hg, ⟨by rw [ac.1 100 (by simp)]; exact l2.1, fun l hl => ?_⟩, ⟨ml, kr _ _ l3.1 (by show ¬ (1013 : Nat) = 59; decide) (by show ¬ (1013 : Nat) = 67; decide), fun l hl => ?_, l3.2.2⟩, l6⟩, ⟨fun l hl => ?_, d2⟩, ?_⟩
  · refine rs_some.mpr ⟨(rs_some.mp r1).1, ?_⟩
    rw [ac.1 111 (by simp), ac.1 1 (by simp)]
    exact h102
  · rw [ac.1 1 (by simp)]; exact r2
  · rw [ac.1 111 (by simp)]; exact r3
  · obtain ⟨a, b, c, d⟩ := l2.2 l hl
    rw [h50, h51, ac.2.2.1 52 (by simp), ac.2.2.1 53 (by simp), eF, eN]
    refine ⟨?_, ?_, c, d⟩
    · unfold pX
      by_cases z : l = k
      · rw [if_pos z, z, updL_eq]
      · rw [if_neg z, updL_ne z]; exact a
    · unfold pY
      by_cases z : l = k
      · rw [if_pos z, z, updL_eq]
      · rw [if_neg z, updL_ne z]; exact b
  · by_cases z : l = k
    · rw [z]
      exact rs_some.mpr ⟨(rs_some.mp (l3.2.1 k hk)).1, hS⟩
    · rw [lcC_c (L' := updL L k V) (updL_ne z) rfl]
      obtain ⟨x1, x2⟩ := rs_some.mp (l3.2.1 l hl)
      refine rs_some.mpr ⟨x1, ?_⟩
      rw [hq _ (fun w => z (l3.2.2 l k hl hk w)) (fun w => ?_)]
      · exact x2
      · rw [w, (rs_some.mp r1).2] at x2; cases x2
  · obtain ⟨x1, x2, x3, ⟨m', x4⟩, x5⟩ := d1 l hl
    refine ⟨by rw [ac.2.2.1 54 (by simp)]; exact x1, x2, x3, ⟨m', kr _ _ x4 (by show ¬ (1013 : Nat) = 59; decide) (by show ¬ (1013 : Nat) = 67; decide)⟩, fun i hi => ?_⟩
    obtain ⟨y1, y2, y3⟩ := x5 i hi
    have ed : dcC T l i = dcC t l i := by unfold dcC; rw [ac.2.2.1 55 (by simp), ac.2.2.1 56 (by simp), ac.2.2.1 57 (by simp)]
    refine ⟨by rw [ed]; exact kr _ _ y1 (by show ¬ (60 : Nat) = 59; decide) (by show ¬ (60 : Nat) = 67; decide), y2, ?_⟩
    unfold okDoor
    rw [ac.2.2.1 55 (by simp), ac.2.2.1 56 (by simp), ac.2.2.1 57 (by simp), eN]
    exact y3
  · rw [ac.1 109 (by simp)]
    rcases r7 with ⟨w1, w2, w3⟩ | ⟨fd, w1, w2, w3, w4⟩
    · refine Or.inl ⟨w1, w2, ?_⟩
      rcases h110 with h | h
      · exact h
      · rw [h.1]; exact w3
    · refine Or.inr ⟨fd, w1, w2, ?_, F2_up w4 (fun b c hb hc => kr b c hb (by omega) (by omega)) ac (by simp) (by simp) (by simp) (fun l hl => by rw [ac.2.2.1 52 (by simp)]) (Nat.le_refl _) (fun l hl => eF l) (fun l hl => rfl) (fun h => ?_) (fun l hl => Or.inl ⟨hl, rfl⟩)⟩
      · rcases h110 with h | h
        · exact Or.inl h
        · rw [h.1]; exact w3
      · rcases h110 with z | z
        · rw [z] at h; cases h
        · refine ⟨by rw [← z.1]; exact h, rfl, fun l hl => ?_⟩
          by_cases w : l = k
          · rw [w, updL_eq, z.2]
          · exact updL_ne w
end
