/-! cells: findWays -/
theorem smN_cg {p q : Nat → Nat} {n : Nat} (h : ∀ k, k < n → q k = p k) : smN q n = smN p n := Nat.le_antisymm (smN_le (fun k hk => by rw [h k hk]; exact Nat.le_refl _)) (smN_le (fun k hk => by rw [h k hk]; exact Nat.le_refl _))
def wsT (T : TS) : Nat := smN (wgt (fun c => bN (T.2.2.1 46 c))) 576
theorem lw_ws {t T : TS} {nl : Nat} {f : Nat → Nat} (h : lwI t nl T f) : wsT T = smN (wgt f) 576 := by
  obtain ⟨_, _, u3, _, _, _, u7⟩ := h
  refine smN_cg (fun k hk => ?_)
  have := u7 k
  have := ctB_le (fun j => decide (f j ≠ 0)) 576
  show (if bN (T.2.2.1 46 k) = 0 then 1000 else bN (T.2.2.1 46 k)) = if f k = 0 then 1000 else f k
  rw [u3 k hk, bN_of (by omega)]
theorem t_fw {t : TS} {nl : Nat} (hl : lns t nl) (h46 : ∀ c, c < 576 → t.2.2.1 46 c = 0) : by classical exact (∃ T f, t_587 t = some T ∧ T.1 = t.1 ∧ (∀ c, c ≠ 46 → T.2.2.1 c = t.2.2.1 c) ∧ (∀ c, c < 576 → T.2.2.1 46 c = Int32.ofNat (f c)) ∧ (∀ c, f c ≤ 577) ∧ wnR (exA t nl) (adN t nl) f ∧ (∀ Z, Z ≠ 9 → rt T Z = rt t Z)) := by
  classical
  have main : Tr (t_587 t) (fun T => ∃ f, lwI t nl T f ∧ ∀ c, c < 576 → stF t nl f c 4) := by
    unfold t_587
    refine Tr.bd (t_fw1 hl h46) ?_
    rintro T1 ⟨a1, a2, a3, a4⟩
    have hI : lwI t nl T1 (fun c => if exA t nl c then 1 else 0) := by
      have hx : ∀ c, c < 576 → (exA t nl c ↔ exC t nl 4 c) := fun c hc => ⟨fun h => h.2, fun h => ⟨hc, h⟩⟩
      refine ⟨a1, a2, fun c hc => ?_, a4, fun c hc => ?_, fun c hc => if_pos hc, fun c => ?_⟩
      · rw [a3 c hc]
        show _ = Int32.ofNat (if exA t nl c then 1 else 0)
        by_cases w : exC t nl 4 c
        · rw [if_pos w, if_pos ((hx c hc).mpr w)]; rfl
        · rw [if_neg w, if_neg (fun h => w ((hx c hc).mp h))]; rfl
      · by_cases w : exA t nl c
        · show c < 576 ∧ rcW (exA t nl) (adN t nl) (if exA t nl c then 1 else 0) c
          rw [if_pos w]; exact ⟨w.1, Or.inl w⟩
        · exact absurd (if_neg w) hc
      · show (if exA t nl c then 1 else 0) ≤ 1 + _
        split <;> omega
    refine Tr.bd (P := fun T => ∃ f, lwI t nl T f ∧ ∀ c, c < 576 → stF t nl f c 4) ?_ (fun T h => Tr.ok h)
    refine wh_ind (step := ((fun p64 => (if p64.2 = 0 then some (.inr p64.1) else Option.bind (wh (S := TS × Int32 × Int32) (X := TS × Int32) (fun p70 => (if p70.2.2 < 576 then Option.bind (wh (S := TS × Int32 × Int32) (X := TS × Int32) (fun p75 => (if p75.2.2 < 4 then Option.bind (t_588 (p70.2.2 - p70.2.2 / (24 : Int32) * (24 : Int32)) (p70.2.2 / 24) p75.1) (fun x8 => (if x8 = 0 then Option.bind (t_589 (p70.2.2 - p70.2.2 / (24 : Int32) * (24 : Int32)) p75.2.2 p75.1) (fun x9 => Option.bind (t_590 (p70.2.2 / 24) p75.2.2 p75.1) (fun x10 => Option.bind (t_588 x9 x10 p75.1) (fun x11 => Option.bind ((if x11 = 0 then Option.bind (t_591 (p70.2.2 - p70.2.2 / (24 : Int32) * (24 : Int32)) (p70.2.2 / 24) p75.2.2 p75.1) (fun x12 => (if x12 = 0 then some (0 : Int32) else Option.bind (rdI p75.1 46 576 ((24 * x10) + x9)) (fun x13 => some x13))) else some (0 : Int32))) (fun v124 => Option.bind ((if 0 < v124 then Option.bind (rdI p75.1 46 576 p70.2.2) (fun x14 => Option.bind ((if x14 = 0 then some (.inl ()) else Option.bind (rdI p75.1 46 576 p70.2.2) (fun x15 => (if (v124 + 1) < x15 then some (.inl ()) else some (.inr (p75.1, p75.2.1)))))) (Sum.elim (fun v140 => Option.bind (stI p75.1 46 576 p70.2.2 (v124 + 1)) (fun s16 => some (s16, 1))) (fun z => some z))) else some (p75.1, p75.2.1))) (fun v149 => some (.inl (v149.1, v149.2, p75.2.2 + 1))))))) else some (.inr (p75.1, p75.2.1)))) else some (.inr (p75.1, p75.2.1)))) (p70.1, p70.2.1, 0)) (fun v151 => some (.inl (v151.1, v151.2, p70.2.2 + 1))) else some (.inr (p70.1, p70.2.1)))) (p64.1, 0, 0)) (fun v153 => some (.inl (v153.1, v153.2))))) : TS × Int32 → Option (Sum (TS × Int32) TS))) (P := fun a => ∃ f, lwI t nl a.1 f ∧ (a.2 = 1 ∨ (a.2 = 0 ∧ ∀ c, c < 576 → stF t nl f c 4))) (fun a => 2 * wsT a.1 + if a.2 = 0 then 0 else 1) ?_ ⟨_, hI, Or.inl rfl⟩
    rintro ⟨T, ch⟩ ⟨f, h1, h2⟩
    dsimp only at h1 h2 ⊢
    rcases h2 with rfl | ⟨rfl, h2⟩
    · right
      rw [if_neg (show ¬ (1 : Int32) = 0 by decide)]
      have hm : Tr (wh (S := TS × Int32 × Int32) (X := TS × Int32) (fun p70 => (if p70.2.2 < 576 then Option.bind (wh (S := TS × Int32 × Int32) (X := TS × Int32) (fun p75 => (if p75.2.2 < 4 then Option.bind (t_588 (p70.2.2 - p70.2.2 / (24 : Int32) * (24 : Int32)) (p70.2.2 / 24) p75.1) (fun x8 => (if x8 = 0 then Option.bind (t_589 (p70.2.2 - p70.2.2 / (24 : Int32) * (24 : Int32)) p75.2.2 p75.1) (fun x9 => Option.bind (t_590 (p70.2.2 / 24) p75.2.2 p75.1) (fun x10 => Option.bind (t_588 x9 x10 p75.1) (fun x11 => Option.bind ((if x11 = 0 then Option.bind (t_591 (p70.2.2 - p70.2.2 / (24 : Int32) * (24 : Int32)) (p70.2.2 / 24) p75.2.2 p75.1) (fun x12 => (if x12 = 0 then some (0 : Int32) else Option.bind (rdI p75.1 46 576 ((24 * x10) + x9)) (fun x13 => some x13))) else some (0 : Int32))) (fun v124 => Option.bind ((if 0 < v124 then Option.bind (rdI p75.1 46 576 p70.2.2) (fun x14 => Option.bind ((if x14 = 0 then some (.inl ()) else Option.bind (rdI p75.1 46 576 p70.2.2) (fun x15 => (if (v124 + 1) < x15 then some (.inl ()) else some (.inr (p75.1, p75.2.1)))))) (Sum.elim (fun v140 => Option.bind (stI p75.1 46 576 p70.2.2 (v124 + 1)) (fun s16 => some (s16, 1))) (fun z => some z))) else some (p75.1, p75.2.1))) (fun v149 => some (.inl (v149.1, v149.2, p75.2.2 + 1))))))) else some (.inr (p75.1, p75.2.1)))) else some (.inr (p75.1, p75.2.1)))) (p70.1, p70.2.1, 0)) (fun v151 => some (.inl (v151.1, v151.2, p70.2.2 + 1))) else some (.inr (p70.1, p70.2.1)))) (T, 0, 0)) (fun a => lwP t nl f a.1 a.2 (∀ c, c < 576 → stF t nl f c 4)) := by
        refine wh_cnt (f := ((fun p70 => (if p70.2.2 < 576 then Option.bind (wh (S := TS × Int32 × Int32) (X := TS × Int32) (fun p75 => (if p75.2.2 < 4 then Option.bind (t_588 (p70.2.2 - p70.2.2 / (24 : Int32) * (24 : Int32)) (p70.2.2 / 24) p75.1) (fun x8 => (if x8 = 0 then Option.bind (t_589 (p70.2.2 - p70.2.2 / (24 : Int32) * (24 : Int32)) p75.2.2 p75.1) (fun x9 => Option.bind (t_590 (p70.2.2 / 24) p75.2.2 p75.1) (fun x10 => Option.bind (t_588 x9 x10 p75.1) (fun x11 => Option.bind ((if x11 = 0 then Option.bind (t_591 (p70.2.2 - p70.2.2 / (24 : Int32) * (24 : Int32)) (p70.2.2 / 24) p75.2.2 p75.1) (fun x12 => (if x12 = 0 then some (0 : Int32) else Option.bind (rdI p75.1 46 576 ((24 * x10) + x9)) (fun x13 => some x13))) else some (0 : Int32))) (fun v124 => Option.bind ((if 0 < v124 then Option.bind (rdI p75.1 46 576 p70.2.2) (fun x14 => Option.bind ((if x14 = 0 then some (.inl ()) else Option.bind (rdI p75.1 46 576 p70.2.2) (fun x15 => (if (v124 + 1) < x15 then some (.inl ()) else some (.inr (p75.1, p75.2.1)))))) (Sum.elim (fun v140 => Option.bind (stI p75.1 46 576 p70.2.2 (v124 + 1)) (fun s16 => some (s16, 1))) (fun z => some z))) else some (p75.1, p75.2.1))) (fun v149 => some (.inl (v149.1, v149.2, p75.2.2 + 1))))))) else some (.inr (p75.1, p75.2.1)))) else some (.inr (p75.1, p75.2.1)))) (p70.1, p70.2.1, 0)) (fun v151 => some (.inl (v151.1, v151.2, p70.2.2 + 1))) else some (.inr (p70.1, p70.2.1)))) : TS × Int32 × Int32 → Option (Sum (TS × Int32 × Int32) (TS × Int32)))) 576 (fun k a => a.2.2 = Int32.ofNat k ∧ lwP t nl f a.1 a.2.1 (∀ c, c < k → stF t nl f c 4)) ?_ ?_ ⟨rfl, f, h1, Or.inl ⟨rfl, rfl, fun c hc => absurd hc (by omega)⟩⟩
        · rintro k ⟨U, c', _⟩ hk ⟨rfl, hP⟩
          right
          dsimp only at hP ⊢
          rw [if_pos ((i_ltL (by omega) (by omega)).mpr hk), i_modL (by omega) (by omega), i_divL (by omega) (by omega)]
          obtain ⟨V, e1, f2, hf1, hf2⟩ := lwi_in hl hk hP
          rw [e1, Option.bind_some, i_suc]
          refine ⟨_, rfl, rfl, f2, hf1, hf2.imp (fun g => ⟨g.1, g.2.1, fun c hc => ?_⟩) id⟩
          by_cases w : c = k
          · rw [w]; exact g.2.2.2
          · exact g.2.2.1 c (by omega)
        · rintro ⟨U, c', _⟩ ⟨rfl, hP⟩
          exact ⟨(U, c'), by dsimp only; rw [if_neg (show ¬ Int32.ofNat 576 < (576 : Int32) by decide)], hP⟩
      obtain ⟨V, e1, f2, hf1, hf2⟩ := hm
      rw [e1, Option.bind_some]
      refine ⟨_, rfl, ⟨f2, hf1, ?_⟩, ?_⟩
      · rcases hf2 with ⟨g1, g2, g3⟩ | ⟨g1, _⟩
        · exact Or.inr ⟨g1, by rw [g2]; exact g3⟩
        · exact Or.inl g1
      · dsimp only
        rw [lw_ws h1, lw_ws hf1]
        rcases hf2 with ⟨g1, g2, g3⟩ | ⟨g1, g2⟩
        · rw [g1, g2, if_pos rfl, if_neg (show ¬ (1 : Int32) = 0 by decide)]; omega
        · rw [g1, if_neg (show ¬ (1 : Int32) = 0 by decide)]; omega
    · left
      exact ⟨T, by rw [if_pos rfl], f, h1, h2⟩
  obtain ⟨T, e1, f, ⟨u1, u2, u3, u4, u5, u6, u7⟩, hs⟩ := main
  refine ⟨T, f, e1, u1, u2, u3, fun c => ?_, ⟨fun c hc => (u5 c hc).2, u6, fun c b hcb hb => ?_⟩, u4⟩
  · have := u7 c
    have := ctB_le (fun j => decide (f j ≠ 0)) 576
    omega
  · obtain ⟨hc, h1, h2, d, hd, rfl, h3⟩ := hcb
    exact hs c hc d hd h1 h2 h3 hb
