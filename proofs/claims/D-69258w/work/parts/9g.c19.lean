/-! cells: walking numbers, the reference's exits -/
/-- a cell beside the outside, with a way -/
def exC (t : TS) (nl m c : Nat) : Prop := ¬ ouT t c ∧ ∃ d, d < m ∧ ouT t (bsd c d) ∧ psB t nl d (cX c) (cY c)
theorem ouT_cg {t T : TS} (e : T.2.2.1 47 = t.2.2.1 47) (b : Nat) : ouT T b ↔ ouT t b := by unfold ouT; rw [e]
theorem t_fw1 {t : TS} {nl : Nat} (hl : lns t nl) (h46 : ∀ c, c < 576 → t.2.2.1 46 c = 0) : by classical exact (Tr (wh (S := TS × Int32) (X := TS) (fun p4 => (if p4.2 < 576 then Option.bind (wh (S := TS × Int32) (X := TS) (fun p9 => (if p9.2 < 4 then Option.bind (t_588 (p4.2 - p4.2 / (24 : Int32) * (24 : Int32)) (p4.2 / 24) p9.1) (fun x1 => (if x1 = 0 then Option.bind (t_589 (p4.2 - p4.2 / (24 : Int32) * (24 : Int32)) p9.2 p9.1) (fun x2 => Option.bind (t_590 (p4.2 / 24) p9.2 p9.1) (fun x3 => Option.bind (t_588 x2 x3 p9.1) (fun x4 => Option.bind ((if x4 = 0 then some (0 : Int32) else Option.bind (t_591 (p4.2 - p4.2 / (24 : Int32) * (24 : Int32)) (p4.2 / 24) p9.2 p9.1) (fun x5 => (if x5 = 0 then some (0 : Int32) else some (1 : Int32))))) (fun v47 => Option.bind ((if v47 = 0 then Option.bind (rdI p9.1 46 576 p4.2) (fun x6 => some x6) else some (1 : Int32))) (fun v59 => Option.bind (stI p9.1 46 576 p4.2 v59) (fun s7 => some (.inl (s7, p9.2 + 1)))))))) else some (.inr p9.1))) else some (.inr p9.1))) (p4.1, 0)) (fun v62 => some (.inl (v62, p4.2 + 1))) else some (.inr p4.1))) (t, 0)) (fun T => T.1 = t.1 ∧ (∀ c, c ≠ 46 → T.2.2.1 c = t.2.2.1 c) ∧ (∀ c, c < 576 → T.2.2.1 46 c = if exC t nl 4 c then 1 else 0) ∧ (∀ Z, Z ≠ 9 → rt T Z = rt t Z))) := by
  classical
  have lT : ∀ T : TS, T.1 = t.1 → (∀ c, c ≠ 46 → T.2.2.1 c = t.2.2.1 c) → lns T nl ∧ (∀ d x y, psB T nl d x y ↔ psB t nl d x y) ∧ ∀ b, ouT T b ↔ ouT t b := fun T h1 h2 => by
    refine ⟨?_, fun d x y => psB_cg (fun c hc => h2 c (by simp at hc; omega)) nl d x y, fun b => ouT_cg (h2 47 (by decide)) b⟩
    unfold lns at *
    rw [h1, h2 54 (by omega)]; exact hl
  refine wh_cnt (f := ((fun p4 => (if p4.2 < 576 then Option.bind (wh (S := TS × Int32) (X := TS) (fun p9 => (if p9.2 < 4 then Option.bind (t_588 (p4.2 - p4.2 / (24 : Int32) * (24 : Int32)) (p4.2 / 24) p9.1) (fun x1 => (if x1 = 0 then Option.bind (t_589 (p4.2 - p4.2 / (24 : Int32) * (24 : Int32)) p9.2 p9.1) (fun x2 => Option.bind (t_590 (p4.2 / 24) p9.2 p9.1) (fun x3 => Option.bind (t_588 x2 x3 p9.1) (fun x4 => Option.bind ((if x4 = 0 then some (0 : Int32) else Option.bind (t_591 (p4.2 - p4.2 / (24 : Int32) * (24 : Int32)) (p4.2 / 24) p9.2 p9.1) (fun x5 => (if x5 = 0 then some (0 : Int32) else some (1 : Int32))))) (fun v47 => Option.bind ((if v47 = 0 then Option.bind (rdI p9.1 46 576 p4.2) (fun x6 => some x6) else some (1 : Int32))) (fun v59 => Option.bind (stI p9.1 46 576 p4.2 v59) (fun s7 => some (.inl (s7, p9.2 + 1)))))))) else some (.inr p9.1))) else some (.inr p9.1))) (p4.1, 0)) (fun v62 => some (.inl (v62, p4.2 + 1))) else some (.inr p4.1))) : TS × Int32 → Option (Sum (TS × Int32) TS))) 576 (fun k a => a.2 = Int32.ofNat k ∧ a.1.1 = t.1 ∧ (∀ c, c ≠ 46 → a.1.2.2.1 c = t.2.2.1 c) ∧ (∀ c, c < 576 → a.1.2.2.1 46 c = if c < k then (if exC t nl 4 c then 1 else 0) else 0) ∧ (∀ Z, Z ≠ 9 → rt a.1 Z = rt t Z)) ?_ ?_ ⟨rfl, rfl, fun _ _ => rfl, fun c hc => by rw [if_neg (by omega)]; exact h46 c hc, fun _ _ => rfl⟩
  · rintro k ⟨T, _⟩ hk ⟨rfl, h1, h2, h3, h4⟩
    right
    dsimp only at h1 h2 h3 h4 ⊢
    rw [if_pos ((i_ltL (by omega) (by omega)).mpr hk), i_modL (by omega) (by omega), i_divL (by omega) (by omega)]
    have hin : Tr (wh (S := TS × Int32) (X := TS) (fun p9 => (if p9.2 < 4 then Option.bind (t_588 (Int32.ofNat (k % 24)) (Int32.ofNat (k / 24)) p9.1) (fun x1 => (if x1 = 0 then Option.bind (t_589 (Int32.ofNat (k % 24)) p9.2 p9.1) (fun x2 => Option.bind (t_590 (Int32.ofNat (k / 24)) p9.2 p9.1) (fun x3 => Option.bind (t_588 x2 x3 p9.1) (fun x4 => Option.bind ((if x4 = 0 then some (0 : Int32) else Option.bind (t_591 (Int32.ofNat (k % 24)) (Int32.ofNat (k / 24)) p9.2 p9.1) (fun x5 => (if x5 = 0 then some (0 : Int32) else some (1 : Int32))))) (fun v47 => Option.bind ((if v47 = 0 then Option.bind (rdI p9.1 46 576 (Int32.ofNat k)) (fun x6 => some x6) else some (1 : Int32))) (fun v59 => Option.bind (stI p9.1 46 576 (Int32.ofNat k) v59) (fun s7 => some (.inl (s7, p9.2 + 1)))))))) else some (.inr p9.1))) else some (.inr p9.1))) (T, 0)) (fun a => a.1 = t.1 ∧ (∀ c, c ≠ 46 → a.2.2.1 c = t.2.2.1 c) ∧ (∀ c, c < 576 → a.2.2.1 46 c = if c < k + 1 then (if exC t nl 4 c then 1 else 0) else 0) ∧ (∀ Z, Z ≠ 9 → rt a Z = rt t Z)) := by
      refine wh_cnt (f := ((fun p9 => (if p9.2 < 4 then Option.bind (t_588 (Int32.ofNat (k % 24)) (Int32.ofNat (k / 24)) p9.1) (fun x1 => (if x1 = 0 then Option.bind (t_589 (Int32.ofNat (k % 24)) p9.2 p9.1) (fun x2 => Option.bind (t_590 (Int32.ofNat (k / 24)) p9.2 p9.1) (fun x3 => Option.bind (t_588 x2 x3 p9.1) (fun x4 => Option.bind ((if x4 = 0 then some (0 : Int32) else Option.bind (t_591 (Int32.ofNat (k % 24)) (Int32.ofNat (k / 24)) p9.2 p9.1) (fun x5 => (if x5 = 0 then some (0 : Int32) else some (1 : Int32))))) (fun v47 => Option.bind ((if v47 = 0 then Option.bind (rdI p9.1 46 576 (Int32.ofNat k)) (fun x6 => some x6) else some (1 : Int32))) (fun v59 => Option.bind (stI p9.1 46 576 (Int32.ofNat k) v59) (fun s7 => some (.inl (s7, p9.2 + 1)))))))) else some (.inr p9.1))) else some (.inr p9.1))) : TS × Int32 → Option (Sum (TS × Int32) TS))) 4 (fun m a => a.2 = Int32.ofNat m ∧ a.1.1 = t.1 ∧ (∀ c, c ≠ 46 → a.1.2.2.1 c = t.2.2.1 c) ∧ (∀ c, c < 576 → c ≠ k → a.1.2.2.1 46 c = if c < k then (if exC t nl 4 c then 1 else 0) else 0) ∧ (a.1.2.2.1 46 k = if exC t nl m k then 1 else 0) ∧ (∀ Z, Z ≠ 9 → rt a.1 Z = rt t Z)) ?_ ?_ ⟨rfl, h1, h2, fun c hc _ => h3 c hc, ?_, h4⟩
      · rintro m ⟨U, _⟩ hm ⟨rfl, u1, u2, u3, u4, u5⟩
        dsimp only at u1 u2 u3 u4 u5 ⊢
        obtain ⟨l1, l2, l3⟩ := lT U u1 u2
        rw [if_pos ((i_ltL (by omega) (by omega)).mpr hm), t_outC hk, Option.bind_some]
        by_cases o : ouT U k
        · left
          rw [if_pos o, if_neg (show ¬ (1 : Int32) = 0 by decide)]
          refine ⟨U, rfl, u1, u2, fun c hc => ?_, u5⟩
          have no : ∀ m, ¬ exC t nl m k := fun m h => h.1 ((l3 k).mp o)
          by_cases w : c = k
          · rw [w, u4, if_neg (no m), if_pos (show k < k + 1 by omega), if_neg (no 4)]
          · rw [u3 c hc w]
            by_cases w2 : c < k
            · rw [if_pos w2, if_pos (show c < k + 1 by omega)]
            · rw [if_neg w2, if_neg (show ¬ c < k + 1 by omega)]
        · right
          have hbl := bsd_le (d := m) hk
          rw [if_neg o, if_pos rfl, (t_nx hm U).1, (t_nx hm U).2, Option.bind_some, Option.bind_some, t_out hk hm, Option.bind_some, t_ps l1 hm, rdI_n (by omega) (by omega)]
          have hE : ∀ {A : Type} (f : Int32 → Option A), Option.bind (if (if ouT U (bsd k m) then (1 : Int32) else 0) = 0 then some (0 : Int32) else Option.bind (some (if psB U nl m (Int32.ofNat (k % 24)) (Int32.ofNat (k / 24)) then (1 : Int32) else 0)) (fun x5 => if x5 = 0 then some 0 else some 1)) (fun v47 => Option.bind (if v47 = 0 then Option.bind (some (U.2.2.1 46 k)) (fun x6 => some x6) else some 1) f) = f (if exC t nl (m + 1) k then 1 else 0) := fun f => by
            have hx : exC t nl (m + 1) k ↔ exC t nl m k ∨ (ouT t (bsd k m) ∧ psB t nl m (cX k) (cY k)) := by
              constructor
              · rintro ⟨g1, d, g2, g3, g4⟩
                by_cases w : d = m
                · rw [w] at g3 g4; exact Or.inr ⟨g3, g4⟩
                · exact Or.inl ⟨g1, d, by omega, g3, g4⟩
              · rintro (⟨g1, d, g2, g3, g4⟩ | ⟨g3, g4⟩)
                · exact ⟨g1, d, by omega, g3, g4⟩
                · exact ⟨fun h => o ((l3 k).mpr h), m, by omega, g3, g4⟩
            have hp : psB U nl m (Int32.ofNat (k % 24)) (Int32.ofNat (k / 24)) ↔ psB t nl m (cX k) (cY k) := l2 _ _ _
            rw [u4]
            by_cases g1 : ouT U (bsd k m)
            · rw [if_pos g1, if_neg (show ¬ (1 : Int32) = 0 by decide), Option.bind_some]
              by_cases g2 : psB U nl m (Int32.ofNat (k % 24)) (Int32.ofNat (k / 24))
              · rw [if_pos g2, if_neg (show ¬ (1 : Int32) = 0 by decide), Option.bind_some, if_neg (show ¬ (1 : Int32) = 0 by decide), Option.bind_some, if_pos (hx.mpr (Or.inr ⟨(l3 _).mp g1, hp.mp g2⟩))]
              · rw [if_neg g2, if_pos rfl, Option.bind_some, if_pos rfl, Option.bind_some, Option.bind_some]
                by_cases y : exC t nl m k
                · rw [if_pos y, if_pos (hx.mpr (Or.inl y))]
                · rw [if_neg y, if_neg (fun h => by rcases hx.mp h with h | h; exact y h; exact g2 (hp.mpr h.2))]
            · rw [if_neg g1, if_pos rfl, Option.bind_some, if_pos rfl, Option.bind_some, Option.bind_some]
              by_cases y : exC t nl m k
              · rw [if_pos y, if_pos (hx.mpr (Or.inl y))]
              · rw [if_neg y, if_neg (fun h => by rcases hx.mp h with h | h; exact y h; exact g1 ((l3 _).mpr h.1))]
          rw [hE, stI_n hk (by omega), Option.bind_some, i_suc]
          refine ⟨_, rfl, rfl, u1, fun c hc => funext (fun j => (wr_ne hc j).trans (congrFun (u2 c hc) j)), fun c hc hne => ?_, ?_, fun Z hZ => ?_⟩
          · dsimp only; rw [wr_nk hne]; exact u3 c hc hne
          · dsimp only; rw [wr_at, if_pos ⟨rfl, rfl⟩]
          · dsimp only; rw [rt_wrI (by show (9 : Nat) ≠ Z; omega)]; exact u5 Z hZ
      · rintro ⟨U, _⟩ ⟨rfl, u1, u2, u3, u4, u5⟩
        dsimp only at u1 u2 u3 u4 u5 ⊢
        refine ⟨U, by rw [if_neg (show ¬ Int32.ofNat 4 < (4 : Int32) by decide)], u1, u2, fun c hc => ?_, u5⟩
        by_cases w : c = k
        · rw [w, u4, if_pos (show k < k + 1 by omega)]
        · rw [u3 c hc w]
          by_cases w2 : c < k
          · rw [if_pos w2, if_pos (show c < k + 1 by omega)]
          · rw [if_neg w2, if_neg (show ¬ c < k + 1 by omega)]
      · dsimp only
        rw [h3 k hk, if_neg (by omega), if_neg (fun h : exC t nl 0 k => by obtain ⟨_, d, hd, _⟩ := h; omega)]
    obtain ⟨U, e1, e2, e3, e4, e5⟩ := hin
    rw [e1, Option.bind_some, i_suc]
    exact ⟨_, rfl, rfl, e2, e3, e4, e5⟩
  · rintro ⟨T, _⟩ ⟨rfl, h1, h2, h3, h4⟩
    dsimp only at h1 h2 h3 h4 ⊢
    refine ⟨T, by rw [if_neg (show ¬ Int32.ofNat 576 < (576 : Int32) by decide)], h1, h2, fun c hc => ?_, h4⟩
    rw [h3 c hc, if_pos hc]
