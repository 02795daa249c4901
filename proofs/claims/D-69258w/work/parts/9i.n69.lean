/-! the plan: a door is put into a line -/
section
variable {own : Nat → Nat} {s : CS} {t T : TS}
def updD (DC : Nat → Nat → Nat) (k j v : Nat) : Nat → Nat → Nat := fun l i => if l = k ∧ i = j then v else DC l i
theorem updD_eq {DC : Nat → Nat → Nat} {k j v : Nat} : updD DC k j v k j = v := if_pos ⟨rfl, rfl⟩
theorem updD_ne {DC : Nat → Nat → Nat} {k j v l i : Nat} (h : ¬ (l = k ∧ i = j)) : updD DC k j v l i = DC l i := if_neg h
/-- the reference's rows after it -/
def drT (t : TS) (k n : Nat) (v2 v3 v4 : Int32) : TS := wrI (wrI (wrI (wrI (ptI t 0 0) 55 (6 * k + n) v2) 56 (6 * k + n) v3) 57 (6 * k + n) v4) 54 k (Int32.ofNat (n + 1))
theorem drT_a {k n : Nat} {v2 v3 v4 : Int32} : agr [0] [54, 55, 56, 57] t (drT t k n v2 v3 v4) := agr_w (agr_w (agr_w (agr_w (agr_p agr_refl (by simp)) (by simp)) (by simp)) (by simp)) (by simp)
theorem t_door {k n : Nat} {v2 v3 v4 : Int32} (hk : k < 20) (hn : n < 6) (h : t.2.2.1 54 k = Int32.ofNat n) : t_684 (Int32.ofNat k) v2 v3 v4 (ptI t 0 0) = some (Int32.ofNat (n + 1), drT t k n v2 v3 v4) := by
  have h0 : (ptI t 0 0).2.2.1 54 k = Int32.ofNat n := h
  unfold t_684
  rw [rdI_n hk (by decide), h0, Option.bind_some, i_mulL, i_add, stI_n (by show 6 * k + n < 120; omega) (by decide), Option.bind_some]
  rw [rdI_n hk (by decide), wr_at, if_neg (fun z => by have := z.1; omega), h0, Option.bind_some, i_add, stI_n (by show 6 * k + n < 120; omega) (by decide), Option.bind_some]
  rw [rdI_n hk (by decide), wr_at, if_neg (fun z => by have := z.1; omega), wr_at, if_neg (fun z => by have := z.1; omega), h0, Option.bind_some, i_add, stI_n (by show 6 * k + n < 120; omega) (by decide), Option.bind_some]
  rw [rdI_n hk (by decide), wr_at, if_neg (fun z => by have := z.1; omega), wr_at, if_neg (fun z => by have := z.1; omega), wr_at, if_neg (fun z => by have := z.1; omega), h0, Option.bind_some, i_suc, stI_n hk (by decide), Option.bind_some]
  rw [rdI_n hk (by decide), wr_at, if_pos ⟨rfl, rfl⟩, Option.bind_some]
  rfl
theorem drT_54 {k n l : Nat} {v2 v3 v4 : Int32} : (drT t k n v2 v3 v4).2.2.1 54 l = if l = k then Int32.ofNat (n + 1) else t.2.2.1 54 l := by
  unfold drT
  rw [wr_at]
  by_cases z : l = k
  · rw [if_pos ⟨rfl, z⟩, if_pos z]
  · rw [if_neg (fun q => z q.2), if_neg z, wr_at, if_neg (fun z => by have := z.1; omega), wr_at, if_neg (fun z => by have := z.1; omega), wr_at, if_neg (fun z => by have := z.1; omega)]
    rfl
theorem drT_d {k n l i : Nat} {v2 v3 v4 : Int32} (h1 : n < 6) (h2 : i < 6) : (drT t k n v2 v3 v4).2.2.1 55 (6 * l + i) = (if l = k ∧ i = n then v2 else t.2.2.1 55 (6 * l + i)) ∧ (drT t k n v2 v3 v4).2.2.1 56 (6 * l + i) = (if l = k ∧ i = n then v3 else t.2.2.1 56 (6 * l + i)) ∧ (drT t k n v2 v3 v4).2.2.1 57 (6 * l + i) = (if l = k ∧ i = n then v4 else t.2.2.1 57 (6 * l + i)) := by
  unfold drT
  by_cases z : l = k ∧ i = n
  · obtain ⟨rfl, rfl⟩ := z
    rw [if_pos ⟨rfl, rfl⟩, if_pos ⟨rfl, rfl⟩, if_pos ⟨rfl, rfl⟩]
    refine ⟨?_, ?_, ?_⟩
    · rw [wr_at, if_neg (fun z => by have := z.1; omega), wr_at, if_neg (fun z => by have := z.1; omega), wr_at, if_neg (fun z => by have := z.1; omega), wr_at, if_pos ⟨rfl, rfl⟩]
    · rw [wr_at, if_neg (fun z => by have := z.1; omega), wr_at, if_neg (fun z => by have := z.1; omega), wr_at, if_pos ⟨rfl, rfl⟩]
    · rw [wr_at, if_neg (fun z => by have := z.1; omega), wr_at, if_pos ⟨rfl, rfl⟩]
  · have ne : ¬ 6 * l + i = 6 * k + n := by omega
    rw [if_neg z, if_neg z, if_neg z]
    refine ⟨?_, ?_, ?_⟩ <;> (rw [wr_at, if_neg (fun z => by have := z.1; omega), wr_at, if_neg (fun z => by have := z.1; have := z.2; omega), wr_at, if_neg (fun z => by have := z.1; have := z.2; omega), wr_at, if_neg (fun z => by have := z.1; have := z.2; omega)]; rfl)
theorem c_doorI {S : CS} {a : Nat} {v2 v3 v4 : Int32} (h : S.1 a = some (true, false, 60, [.int 0, .int 0, .int 0])) : ∃ S', c_871 a v2 v3 v4 S = some S' ∧ S'.1 a = some (true, false, 60, [.int v2, .int v3, .int v4]) ∧ (∀ q, q ≠ a → S'.1 q = S.1 q) ∧ S'.2 = S.2 := by
  unfold c_871
  rw [if_pos (isK_t h rfl), xP_o (k := 0) h rfl (by decide), Option.bind_some]
  rw [xP_o (k := 1) (show (cup S a (true, false, 60, [Value.int 0, .int 0, .int 0].set 0 (.int v2))).1 a = some (true, false, 60, [.int v2, .int 0, .int 0]) from cup_eq ..) rfl (by show 1 < 3; decide), Option.bind_some]
  rw [xP_o (k := 2) (show (cup (cup S a (true, false, 60, [Value.int 0, .int 0, .int 0].set 0 (.int v2))) a (true, false, 60, [Value.int v2, .int 0, .int 0].set 1 (.int v3))).1 a = some (true, false, 60, [.int v2, .int v3, .int 0]) from cup_eq ..) rfl (by show 2 < 3; decide), Option.bind_some]
  exact ⟨_, rfl, cup_eq .., fun q hq => by rw [cup_ne hq, cup_ne hq, cup_ne hq], rfl⟩
theorem pl_door (hw : wfS s) (r : R2 (rs s.1 own 2) t) (h179 : 179 ≤ s.2.1) (v1 v2 v3 v4 : Int32) : Rg thr0 (fun X => X = 2) 2 (R2k t) own s t 2 19 (c_895 102 v1 v2 v3 v4 s) (t_561 v1 v2 v3 v4 t) := by
  have hR : R2k t (rs s.1 own) t := ⟨r, Or.inr rfl⟩
  obtain ⟨L, nl, LC, LD, DC, nd, fo, be, co, fi, r⟩ := r
  obtain ⟨g1, ⟨ml, g2⟩, g3, g4, g5, g6⟩ := pl_lnk r
  have q := r
  obtain ⟨r1, r2, r3, r4, ⟨l1, l2, ⟨ml', l3⟩, l6⟩, ⟨d1, d2⟩, r7⟩ := r
  unfold c_895 t_561
  rw [if_pos (isK_t g1 rfl), c_lineOf q, g5, isInB, Option.bind_some]
  by_cases z : inB v1 (Int32.ofNat nl) = true
  · obtain ⟨k, hk, rfl⟩ := inB_nat nl (by omega) z
    have hk20 : k < 20 := by omega
    rw [if_pos z, if_pos z, if_neg (show ¬ (1 : Int32) = 0 by decide), Option.bind_some, Sum.elim_inl, i_clamp (by omega)]
    dsimp only
    have e83 : t_683 (Int32.ofNat k) t = some (Int32.ofNat (pN L k)) := by
      unfold t_683
      rw [(ln1_r (g6 k hk).2).2.2.2, Option.bind_some]
    rw [xI_o (x := Int32.ofNat (pN L k)) (g3 k hk) rfl rfl, e83, drA_eq, Option.bind_some, Option.bind_some, need_eq]
    obtain ⟨q1, q2, q3, ⟨m, q4⟩, q5⟩ := d1 k hk
    have q4' := (rs_some.mp q4).2
    have lN : pN L k < 1000 := by
      have := (g6 k hk).1
      unfold smL pHX pHY at this
      by_cases w : pFl L k = true
      · rw [if_pos w, if_pos w] at this; omega
      · rw [if_neg w, if_neg w] at this; omega
    by_cases a : drA (pN L k) v2 v3 v4
    · rw [if_pos a, if_neg (show ¬ (1 : Int32) = 0 by decide), if_neg (show ¬ (1 : Int32) = 0 by decide), Option.bind_some, Sum.elim_inl, xI_o (x := t.1 1) g1 rfl rfl, Option.bind_some, xN_o (b := LD k) (g3 k hk) rfl rfl, Option.bind_some, if_pos (isK_t q4' rfl), alSize_r q4', Option.bind_some, rdI_n hk20 (by decide), q1, Option.bind_some]
      have st : (if t.1 1 = 0 then (if Int32.ofNat (nd k) < 6 then some (1 : Int32) else some 0) else some 0) = some (if t.1 1 = 0 ∧ nd k < 6 then 1 else 0) := by
        by_cases y : t.1 1 = 0
        · rw [if_pos y]
          by_cases w : nd k < 6
          · rw [if_pos ((i_ltL (by omega) (by decide)).mpr w), if_pos ⟨y, w⟩]
          · rw [if_neg (fun p => w ((i_ltL (by omega) (by decide)).mp p)), if_neg (fun p => w p.2)]
        · rw [if_neg y, if_neg (fun p => y p.1)]
      rw [st, Option.bind_some, Option.bind_some, may_eq]
      by_cases y : t.1 1 = 0 ∧ nd k < 6
      · rw [if_pos y, if_neg (show ¬ (1 : Int32) = 0 by decide), goes_1 t (show ¬ (1 : Int32) = 0 by decide), Option.bind_some, Option.bind_some, Sum.elim_inl, xN_o (b := LD k) (g3 k hk) rfl rfl, Option.bind_some]
        dsimp only
        rw [if_neg (show ¬ (1 : Int32) = 0 by decide), t_door hk20 y.2 q1, Option.bind_some]
        obtain ⟨S1, e1, w1⟩ := nw_o (s := s) 60 [.int 0, .int 0, .int 0] hw
        rw [e1, Option.bind_some]
        dsimp only
        rw [if_pos (isK_t w1.1 rfl)]
        obtain ⟨S2, e2, p1, p2, p3⟩ := c_doorI (v2 := v2) (v3 := v3) (v4 := v4) w1.1
        rw [e2, Option.bind_some]
        have lLD := wf_lt hw q4'
        have k2 : ∀ b c, s.1 b = some c → S2.1 b = some c := fun b c e => by
          have := wf_lt hw e
          rw [p2 b (by omega), w1.2.1 b (by omega)]; exact e
        rw [if_pos (isK_t (k2 _ _ q4') rfl), alAdd_r (k2 _ _ q4') (by omega) (elO_o p1), Option.bind_some]
        obtain ⟨S3, hS3⟩ : ∃ S3, S3 = cput S2 1013 (LD k) 1 16 (.int (m + 1) :: rowC (fun j => if j = nd k then Value.ref s.2.1 else .ref (DC k j)) (nd k + 1)) := ⟨_, rfl⟩
        rw [← hS3]
        have a3 : S3.1 (LD k) = some (true, false, 1013, .int (m + 1) :: rowC (fun j => if j = nd k then Value.ref s.2.1 else .ref (DC k j)) (nd k + 1)) := by rw [hS3]; exact cput_eq ..
        have n3 : ∀ b, b ≠ LD k → S3.1 b = S2.1 b := fun b hb => by rw [hS3]; exact cput_ne hb
        have k3 : ∀ b c, s.1 b = some c → b ≠ LD k → S3.1 b = some c := fun b c e h => by rw [n3 b h]; exact k2 b c e
        have nLD : ∀ b c, s.1 b = some c → c.2.2.1 ≠ 1013 → b ≠ LD k := fun b c e h w => by rw [w, q4'] at e; cases e; exact h rfl
        rw [xN_o (b := LD k) (k3 _ _ (g3 k hk) (nLD _ _ (g3 k hk) (by show ¬ (59 : Nat) = 1013; decide))) rfl rfl, Option.bind_some, if_pos (isK_t a3 rfl), alSize_r a3, Option.bind_some]
        have c3 : S3.2.1 = s.2.1 + 1 ∧ S3.2.2.1 = s.2.2.1 + 2 ∧ S3.2.2.2 = s.2.2.2 + 19 := by
          rw [hS3]
          refine ⟨?_, ?_, ?_⟩
          · show S2.2.1 = _; rw [p3]; exact w1.2.2.1
          · show S2.2.2.1 + 1 = _; rw [p3, w1.2.2.2.2.1]
          · show S2.2.2.2 + 16 = _; rw [p3, w1.2.2.2.2.2]; rfl
        have kr : ∀ b c, rs s.1 own 2 b = some c → b ≠ LD k → rs S3.1 (ow2 own s.2.1) 2 b = some c := by
          intro b c e h
          obtain ⟨x1, x2⟩ := rs_some.mp e
          have := wf_lt hw x2
          exact rs_some.mpr ⟨by unfold ow2; rw [if_neg (by omega)]; exact x1, k3 _ _ x2 h⟩
        have nr' : ∀ b c, rs s.1 own 2 b = some c → c.2.2.1 ≠ 1013 → b ≠ LD k := fun b c e h => nLD b c (rs_some.mp e).2 h
        have ac := drT_a (t := t) (k := k) (n := nd k) (v2 := v2) (v3 := v3) (v4 := v4)
        have wS3 : wfS S3 := by
          intro b hb
          rw [n3 b (by omega), p2 b (by omega), w1.2.1 b (by omega)]
          exact hw b (by omega)
        refine Or.inl ⟨Int32.ofNat (nd k + 1), S3, drT t k (nd k) v2 v3 v4, ow2 own s.2.1, rfl, rfl, rfl, fun Z h1 h2 => agr_rt ac (fun c hc => ?_) (fun c hc => ?_), ⟨by omega, fun b hb => if_neg (by omega), fun b hb hx => ?_, fun b h1 h2 => if_pos h1, wS3⟩, ⟨?_, Or.inl y.1⟩, by omega, by omega⟩
        · simp only [List.mem_cons, List.not_mem_nil, or_false] at hc
          rw [hc]; exact fun w => h2 w.symm
        · simp only [List.mem_cons, List.not_mem_nil, or_false] at hc
          rcases hc with rfl | rfl | rfl | rfl <;> exact fun w => h1 w.symm
        · rw [n3 b (fun w => hx (by rw [w]; exact (rs_some.mp q4).1)), p2 b (by omega), w1.2.1 b (by omega)]
        · refine ⟨L, nl, LC, LD, updD DC k (nd k) s.2.1, upd1 nd k (nd k + 1), fo, be, co, fi, ?_, ?_, ?_, r4, ⟨l1, lnR_cg l2 ac (by simp) (by simp), ⟨ml', kr _ _ l3.1 (by omega), fun l hl => kr _ _ (l3.2.1 l hl) (nr' _ _ (l3.2.1 l hl) (by show ¬ (59 : Nat) = 1013; decide)), l3.2.2⟩, l6⟩, ⟨fun l hl => ?_, d2⟩, ?_⟩
          · rw [ac.1 110 (by simp), ac.1 111 (by simp), ac.1 1 (by simp)]
            exact kr _ _ r1 (nr' _ _ r1 (by show ¬ (67 : Nat) = 1013; decide))
          · rw [ac.1 1 (by simp)]; exact r2
          · rw [ac.1 111 (by simp)]; exact r3
          · obtain ⟨x1, x2, x3, ⟨m', x4⟩, x5⟩ := d1 l hl
            by_cases w : l = k
            · subst w
              obtain ⟨a', b', r', f1, f2, f3, f4⟩ := drA_n lN a
              rw [upd1_eq rfl]
              refine ⟨by rw [drT_54, if_pos rfl], by omega, x3, ⟨m + 1, rs_some.mpr ⟨?_, ?_⟩⟩, fun i hi => ?_⟩
              · unfold ow2; rw [if_neg (by omega)]; exact (rs_some.mp q4).1
              · rw [a3]
                congr 4
                congr 1
                refine rowC_congr (fun i hi => ?_)
                by_cases e : i = nd l
                · rw [if_pos e, e, updD_eq]
                · rw [if_neg e, updD_ne (fun z => e z.2)]
              · obtain ⟨o1, o2, o3⟩ := drT_d (t := t) (k := l) (l := l) (v2 := v2) (v3 := v3) (v4 := v4) y.2 (show i < 6 by omega)
                by_cases e : i = nd l
                · rw [if_pos ⟨rfl, e⟩] at o1 o2 o3
                  rw [e] at o1 o2 o3 ⊢
                  rw [updD_eq]
                  refine ⟨rs_some.mpr ⟨if_pos (Nat.le_refl _), ?_⟩, h179, ?_⟩
                  · rw [n3 _ (by omega), p1]
                    unfold dcC
                    rw [o1, o2, o3]
                  · unfold okDoor
                    rw [o1, o2, o3]
                    exact ⟨a', b', r', f1, f2, f3, f4⟩
                · rw [if_neg (fun z => e z.2)] at o1 o2 o3
                  rw [updD_ne (fun z => e z.2)]
                  obtain ⟨y1, y2, y3⟩ := x5 i (by omega)
                  refine ⟨?_, y2, ?_⟩
                  · unfold dcC
                    rw [o1, o2, o3]
                    exact kr _ _ y1 (nr' _ _ y1 (by show ¬ (60 : Nat) = 1013; decide))
                  · unfold okDoor
                    rw [o1, o2, o3]
                    exact y3
            · rw [upd1_ne w]
              refine ⟨by rw [drT_54, if_neg w]; exact x1, x2, x3, ⟨m', by rw [show (fun i => Value.ref (updD DC k (nd k) s.2.1 l i)) = fun i => Value.ref (DC l i) from funext (fun i => by rw [updD_ne (fun z => w z.1)])]; exact kr _ _ x4 (fun e => w (d2 l k hl hk e))⟩, fun i hi => ?_⟩
              obtain ⟨o1, o2, o3⟩ := drT_d (t := t) (k := k) (l := l) (v2 := v2) (v3 := v3) (v4 := v4) y.2 (show i < 6 by omega)
              rw [if_neg (fun z => w z.1)] at o1 o2 o3
              rw [updD_ne (fun z => w z.1)]
              obtain ⟨y1, y2, y3⟩ := x5 i hi
              refine ⟨?_, y2, ?_⟩
              · unfold dcC
                rw [o1, o2, o3]
                exact kr _ _ y1 (nr' _ _ y1 (by show ¬ (60 : Nat) = 1013; decide))
              · unfold okDoor
                rw [o1, o2, o3]
                exact y3
          · rw [ac.1 109 (by simp), ac.1 110 (by simp)]
            rcases r7 with w | ⟨fd, w1, w2, w3, w4⟩
            · exact Or.inl w
            · exact Or.inr ⟨fd, w1, w2, w3, F2_up w4 (fun b c hb hc => kr b c hb (fun e => by
                rcases hc with hc | hc | hc | hc
                · exact nr' b c hb (by omega) e
                · exact nr' b c hb (by omega) e
                · exact nr' b c hb (by omega) e
                · exact hc.2.2 k hk e)) ac (by simp) (by simp) (by simp) (fun l _ => by rw [ac.2.2.1 52 (by simp)]) (Nat.le_refl _) (fun _ _ => rfl) (fun _ _ => rfl) (fun h => ⟨by rw [← ac.1 110 (by simp)]; exact h, rfl, fun _ _ => rfl⟩) (fun l hl => Or.inl ⟨hl, rfl⟩)⟩
      · rw [if_neg y, if_pos rfl, goes_2 t, Option.bind_some, Option.bind_some]
        exact Rg.sta (x := 0) (a := 0) (b := 0) hw hR rfl rfl (Nat.zero_le _) (Nat.zero_le _)
    · rw [if_neg a, if_pos rfl, if_pos rfl]
      have gz : ∀ y : Int32, t_558 0 y t = some (0, ptI t 0 1) := fun y => goes_0 y t
      refine Rg.arg (x := 0) (a := 0) (b := 0) hw hR rfl ?_ (Nat.zero_le _) (Nat.zero_le _)
      by_cases y : t.1 1 = 0
      · rw [if_pos y, Option.bind_some, gz]; rfl
      · rw [if_neg y, Option.bind_some, gz]; rfl
  · rw [if_neg z, if_neg z, if_pos rfl]
    refine Rg.arg (x := 0) (a := 0) (b := 0) hw hR rfl ?_ (Nat.zero_le _) (Nat.zero_le _)
    rw [Option.bind_some, if_pos rfl]
    by_cases y : t.1 1 = 0
    · rw [if_pos y, Option.bind_some, goes_0]; rfl
    · rw [if_neg y, Option.bind_some, goes_0]; rfl
end
