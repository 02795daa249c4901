/-! cells: walking numbers, the reference whole -/
/-- no way from a cell in a direction below m lowers its number -/
def stF (t : TS) (nl : Nat) (f : Nat → Nat) (c m : Nat) : Prop := ∀ d, d < m → ¬ ouT t c → ¬ ouT t (bsd c d) → psB t nl d (cX c) (cY c) → f (bsd c d) ≠ 0 → f c ≠ 0 ∧ f c ≤ f (bsd c d) + 1
def lwP (t : TS) (nl : Nat) (f0 : Nat → Nat) (T : TS) (ch : Int32) (st : Prop) : Prop := ∃ f, lwI t nl T f ∧ ((ch = 0 ∧ f = f0 ∧ st) ∨ (ch = 1 ∧ smN (wgt f) 576 < smN (wgt f0) 576))
theorem lwi_in {t : TS} {nl : Nat} (hl : lns t nl) {f0 : Nat → Nat} {T : TS} {ch : Int32} {k : Nat} (hk : k < 576) {st : Prop} (h : lwP t nl f0 T ch st) : by classical exact (Tr (wh (S := TS × Int32 × Int32) (X := TS × Int32) (fun p75 => (if p75.2.2 < 4 then Option.bind (t_588 (Int32.ofNat (k % 24)) (Int32.ofNat (k / 24)) p75.1) (fun x8 => (if x8 = 0 then Option.bind (t_589 (Int32.ofNat (k % 24)) p75.2.2 p75.1) (fun x9 => Option.bind (t_590 (Int32.ofNat (k / 24)) p75.2.2 p75.1) (fun x10 => Option.bind (t_588 x9 x10 p75.1) (fun x11 => Option.bind ((if x11 = 0 then Option.bind (t_591 (Int32.ofNat (k % 24)) (Int32.ofNat (k / 24)) p75.2.2 p75.1) (fun x12 => (if x12 = 0 then some (0 : Int32) else Option.bind (rdI p75.1 46 576 ((24 * x10) + x9)) (fun x13 => some x13))) else some (0 : Int32))) (fun v124 => Option.bind ((if 0 < v124 then Option.bind (rdI p75.1 46 576 (Int32.ofNat k)) (fun x14 => Option.bind ((if x14 = 0 then some (.inl ()) else Option.bind (rdI p75.1 46 576 (Int32.ofNat k)) (fun x15 => (if (v124 + 1) < x15 then some (.inl ()) else some (.inr (p75.1, p75.2.1)))))) (Sum.elim (fun v140 => Option.bind (stI p75.1 46 576 (Int32.ofNat k) (v124 + 1)) (fun s16 => some (s16, 1))) (fun z => some z))) else some (p75.1, p75.2.1))) (fun v149 => some (.inl (v149.1, v149.2, p75.2.2 + 1))))))) else some (.inr (p75.1, p75.2.1)))) else some (.inr (p75.1, p75.2.1)))) (T, ch, 0)) (fun a => lwP t nl f0 a.1 a.2 (st ∧ stF t nl f0 k 4))) := by
  classical
  refine wh_cnt (f := ((fun p75 => (if p75.2.2 < 4 then Option.bind (t_588 (Int32.ofNat (k % 24)) (Int32.ofNat (k / 24)) p75.1) (fun x8 => (if x8 = 0 then Option.bind (t_589 (Int32.ofNat (k % 24)) p75.2.2 p75.1) (fun x9 => Option.bind (t_590 (Int32.ofNat (k / 24)) p75.2.2 p75.1) (fun x10 => Option.bind (t_588 x9 x10 p75.1) (fun x11 => Option.bind ((if x11 = 0 then Option.bind (t_591 (Int32.ofNat (k % 24)) (Int32.ofNat (k / 24)) p75.2.2 p75.1) (fun x12 => (if x12 = 0 then some (0 : Int32) else Option.bind (rdI p75.1 46 576 ((24 * x10) + x9)) (fun x13 => some x13))) else some (0 : Int32))) (fun v124 => Option.bind ((if 0 < v124 then Option.bind (rdI p75.1 46 576 (Int32.ofNat k)) (fun x14 => Option.bind ((if x14 = 0 then some (.inl ()) else Option.bind (rdI p75.1 46 576 (Int32.ofNat k)) (fun x15 => (if (v124 + 1) < x15 then some (.inl ()) else some (.inr (p75.1, p75.2.1)))))) (Sum.elim (fun v140 => Option.bind (stI p75.1 46 576 (Int32.ofNat k) (v124 + 1)) (fun s16 => some (s16, 1))) (fun z => some z))) else some (p75.1, p75.2.1))) (fun v149 => some (.inl (v149.1, v149.2, p75.2.2 + 1))))))) else some (.inr (p75.1, p75.2.1)))) else some (.inr (p75.1, p75.2.1)))) : TS × Int32 × Int32 → Option (Sum (TS × Int32 × Int32) (TS × Int32)))) 4 (fun m a => a.2.2 = Int32.ofNat m ∧ lwP t nl f0 a.1 a.2.1 (st ∧ stF t nl f0 k m)) ?_ ?_ ⟨rfl, ?_⟩
  · rintro m ⟨U, c', _⟩ hm ⟨rfl, f, hI, hc⟩
    dsimp only at hI hc ⊢
    have hI0 := hI
    obtain ⟨u1, u2, u3, u4, u5, u6, u7⟩ := hI
    have l1 : lns U nl := by unfold lns at *; rw [u1, u2 54 (by omega)]; exact hl
    have l2 : ∀ d x y, psB U nl d x y ↔ psB t nl d x y := fun d x y => psB_cg (fun c hc => u2 c (by simp at hc; omega)) nl d x y
    have l3 : ∀ b, ouT U b ↔ ouT t b := fun b => ouT_cg (u2 47 (by decide)) b
    have fb : ∀ c, f c ≤ 577 := fun c => by have := u7 c; have := ctB_le (fun j => decide (f j ≠ 0)) 576; omega
    rw [if_pos ((i_ltL (by omega) (by omega)).mpr hm), t_outC hk, Option.bind_some]
    by_cases o : ouT U k
    · left
      rw [if_pos o, if_neg (show ¬ (1 : Int32) = 0 by decide)]
      refine ⟨(U, c'), rfl, f, hI0, ?_⟩
      rcases hc with ⟨g1, g2, g3⟩ | g
      · exact Or.inl ⟨g1, g2, g3.1, fun d _ ho => absurd ((l3 k).mp o) ho⟩
      · exact Or.inr g
    · right
      have oi : ¬ ouT t k := fun h => o ((l3 k).mpr h)
      have hbl := bsd_le (d := m) hk
      rw [if_neg o, if_pos rfl, (t_nx hm U).1, (t_nx hm U).2, Option.bind_some, Option.bind_some, t_out hk hm, Option.bind_some, t_ps l1 hm, Option.bind_some]
      have hv : (if (if ouT U (bsd k m) then (1 : Int32) else 0) = 0 then (if (if psB U nl m (Int32.ofNat (k % 24)) (Int32.ofNat (k / 24)) then (1 : Int32) else 0) = 0 then some (0 : Int32) else Option.bind (rdI U 46 576 (24 * (Int32.ofNat (k / 24) + dY m) + (Int32.ofNat (k % 24) + dX m))) (fun x13 => some x13)) else some 0) = some (if ¬ ouT t (bsd k m) ∧ psB t nl m (cX k) (cY k) then Int32.ofNat (f (bsd k m)) else 0) := by
        by_cases g1 : ouT U (bsd k m)
        · rw [if_pos g1, if_neg (show ¬ (1 : Int32) = 0 by decide), if_neg (fun h => h.1 ((l3 _).mp g1))]
        · have g1' : ¬ ouT t (bsd k m) := fun h => g1 ((l3 _).mpr h)
          have hz : bsd k m ≠ 576 := fun z => g1 (Or.inl z)
          rw [if_neg g1, if_pos rfl]
          by_cases g2 : psB U nl m (Int32.ofNat (k % 24)) (Int32.ofNat (k / 24))
          · rw [if_pos g2, if_neg (show ¬ (1 : Int32) = 0 by decide), if_pos ⟨g1', (l2 _ _ _).mp g2⟩, nx_at hk hm hz, rdI_n (by omega) (by omega), u3 _ (by omega)]; rfl
          · rw [if_neg g2, if_pos rfl, if_neg (fun h => g2 ((l2 _ _ _).mpr h.2))]
      rw [hv, Option.bind_some]
      -- what is stored
      have stay : (∀ d, d = m → ¬ ouT t k → ¬ ouT t (bsd k d) → psB t nl d (cX k) (cY k) → f (bsd k d) ≠ 0 → f k ≠ 0 ∧ f k ≤ f (bsd k d) + 1) → lwP t nl f0 U c' (st ∧ stF t nl f0 k (m + 1)) := fun hs => by
        refine ⟨f, hI0, ?_⟩
        rcases hc with ⟨g1, g2, g3⟩ | g
        · refine Or.inl ⟨g1, g2, g3.1, fun d hd => ?_⟩
          by_cases w : d = m
          · rw [← g2]; exact hs d w
          · exact g3.2 d (by omega)
        · exact Or.inr g
      obtain ⟨f', hf⟩ := lw_one hI0 hk hm oi
      by_cases hh : ¬ ouT t (bsd k m) ∧ psB t nl m (cX k) (cY k)
      · have hz : bsd k m ≠ 576 := fun z => hh.1 (Or.inl z)
        have hb576 : bsd k m < 576 := by omega
        rw [if_pos hh]
        by_cases e0 : f (bsd k m) = 0
        · rw [e0, if_neg (show ¬ (0 : Int32) < Int32.ofNat 0 by decide), Option.bind_some, i_suc]
          exact ⟨_, rfl, rfl, stay (fun d hd _ _ _ h => by rw [hd] at h; exact absurd e0 h)⟩
        · have fb1 := fb (bsd k m)
          have fb2 := fb k
          have hpos : (0 : Int32) < Int32.ofNat (f (bsd k m)) := (i_lt (j := 0) (by omega) (by omega)).mpr (by omega)
          rw [if_pos hpos, rdI_n hk (by omega), u3 k hk, Option.bind_some, Option.bind_some, i_suc, i_suc]
          rcases hf with ⟨_, hs⟩ | ⟨hn, ⟨_, _, _, g4⟩, hfe⟩
          · obtain ⟨q1, q2⟩ := hs hh.1 hh.2 e0
            rw [if_neg (show ¬ Int32.ofNat (f k) = 0 from fun z => q1 ((i_inj (k := 0) (by omega) (by omega)).mp z)), if_neg (show ¬ Int32.ofNat (f (bsd k m) + 1) < Int32.ofNat (f k) by rw [i_lt (by omega) (by omega)]; omega)]
            exact ⟨_, rfl, rfl, stay (fun d hd _ _ _ _ => by rw [hd]; exact ⟨q1, q2⟩)⟩
          · have hgo : (if Int32.ofNat (f k) = 0 then some (Sum.inl (β := TS × Int32) ()) else (if Int32.ofNat (f (bsd k m) + 1) < Int32.ofNat (f k) then some (.inl ()) else some (.inr (U, c')))) = some (.inl ()) := by
              by_cases y : Int32.ofNat (f k) = 0
              · rw [if_pos y]
              · rw [if_neg y, if_pos ((i_lt (by omega) (by omega)).mpr (by
                  rcases g4 with g4 | g4
                  · exact absurd (by rw [g4]; rfl) y
                  · exact g4))]
            rw [hgo, Option.bind_some, Sum.elim_inl, stI_n hk (by omega), Option.bind_some, Option.bind_some]
            have hlt : smN (wgt f') 576 < smN (wgt f) 576 := by
              refine smN_lt (k := k) (fun j _ => ?_) hk ?_
              · rw [hfe]; unfold wgt
                by_cases w : j = k
                · simp only [w, if_true]; rw [if_neg (by omega)]; split <;> omega
                · simp only [w, if_false]; exact Nat.le_refl _
              · rw [hfe]; unfold wgt
                simp only [if_true]; rw [if_neg (by omega)]; split <;> omega
            rw [u3 _ hb576, i_suc] at hn
            refine ⟨_, rfl, rfl, f', hn, Or.inr ⟨rfl, ?_⟩⟩
            rcases hc with ⟨_, g2, _⟩ | ⟨_, g2⟩
            · rw [← g2]; exact hlt
            · omega
      · rw [if_neg hh, if_neg (show ¬ (0 : Int32) < 0 by decide), Option.bind_some, i_suc]
        exact ⟨_, rfl, rfl, stay (fun d hd _ h1 h2 _ => by rw [hd] at h1 h2; exact absurd ⟨h1, h2⟩ hh)⟩
  · rintro ⟨U, c', _⟩ ⟨rfl, h⟩
    exact ⟨(U, c'), by dsimp only; rw [if_neg (show ¬ Int32.ofNat 4 < (4 : Int32) by decide)], h⟩
  · obtain ⟨f, h1, h2⟩ := h
    refine ⟨f, h1, h2.imp (fun g => ⟨g.1, g.2.1, g.2.2, fun d hd => absurd hd (by omega)⟩) id⟩
