/-! cells: smoke spreads, the reference -/
def opp (d : Nat) : Nat := if d = 0 then 1 else if d = 1 then 0 else if d = 2 then 3 else 2
theorem opp_lt {d : Nat} (h : d < 4) : opp d < 4 := by rcases (show d = 0 ∨ d = 1 ∨ d = 2 ∨ d = 3 by omega) with rfl | rfl | rfl | rfl <;> decide
theorem bsd_opp {c d : Nat} (hc : c < 576) (hd : d < 4) (h : bsd c d ≠ 576) : bsd (bsd c d) (opp d) = c := by
  rcases (show d = 0 ∨ d = 1 ∨ d = 2 ∨ d = 3 by omega) with rfl | rfl | rfl | rfl
  all_goals
    unfold bsd opp at *
    simp at h ⊢
    repeat' split
    all_goals first | omega | (split at * <;> omega)
theorem lnb_sat {t : TS} {w : Nat} {x y : Int32} {n l : Nat} (hn : n < 1000) (hl : l < 1000) (h : lnb t w x y n = Int32.ofNat l) : by classical exact (lnC t w x y l) := by
  classical
  induction n with
  | zero => exact absurd h.symm (i_ne1 (by omega))
  | succ n ih =>
    have h : (if lnC t w x y n then Int32.ofNat n else lnb t w x y n) = Int32.ofNat l := h
    by_cases z : lnC t w x y n
    · rw [if_pos z] at h
      rw [← (i_inj (by omega) (by omega)).mp h]; exact z
    · rw [if_neg z] at h
      exact ih (by omega) h
theorem lnb_eq {t : TS} {w w' : Nat} {x y x' y' : Int32} (h : ∀ l, lnC t w x y l ↔ lnC t w' x' y' l) (n : Nat) : lnb t w x y n = lnb t w' x' y' n := by
  classical
  induction n with
  | zero => rfl
  | succ n ih =>
    show (if lnC t w x y n then Int32.ofNat n else lnb t w x y n) = (if lnC t w' x' y' n then Int32.ofNat n else lnb t w' x' y' n)
    rw [ih]
    by_cases z : lnC t w x y n
    · rw [if_pos z, if_pos ((h n).mp z)]
    · rw [if_neg z, if_neg (fun u => z ((h n).mpr u))]
theorem psB_opp {t : TS} {nl c d : Nat} (hn : nl ≤ 20) (hc : c < 576) (hd : d < 4) (h : bsd c d ≠ 576) : psB t nl d (cX c) (cY c) ↔ psB t nl (opp d) (cX (bsd c d)) (cY (bsd c d)) := by
  obtain ⟨e1, e2, e3⟩ := (grd hc hd).2 h
  have e1 : cX (bsd c d) = cX c + dX d := e1.symm
  have e2 : cY (bsd c d) = cY c + dY d := e2.symm
  rw [e1, e2]
  generalize cX c = x
  generalize cY c = y
  have z0 : ∀ u : Int32, u + 0 = u := fun u => by simp
  have z1 : ∀ u : Int32, u + -1 + 1 = u := fun u => by rw [Int32.add_assoc]; simp
  have key : ∀ (w w' : Nat) (x' y' : Int32), (∀ l, lnC t w x y l ↔ lnC t w' x' y' l) → (∀ l k, lnC t w x y l → (isT t l k x y ↔ isT t l k x' y')) → (psB t nl w x y ↔ psB t nl w' x' y') := fun w w' x' y' h1 h2 => by
    unfold psB
    rw [← lnb_eq h1]
    rcases lnb_o t w x y nl with g | ⟨l, hl, g⟩
    · exact ⟨fun _ => Or.inl g, fun _ => Or.inl g⟩
    · have hs := lnb_sat (by omega) (by omega) g
      have : dsL t (bN (lnb t w x y nl)) x y = dsL t (bN (lnb t w x y nl)) x' y' := by
        rw [g, bN_of (by omega)]
        unfold dsL
        exact congrArg _ (List.filter_congr (fun k _ => decide_eq_decide.mpr (h2 l k hs)))
      rw [this]
  rcases (show d = 0 ∨ d = 1 ∨ d = 2 ∨ d = 3 by omega) with rfl | rfl | rfl | rfl
  · refine key 0 1 _ _ (fun l => ?_) (fun l k hl => ?_)
    · unfold lnC; simp [dX, dY]
    · have : t.2.2.1 52 l = 0 := by unfold lnC at hl; simp at hl; exact hl.1
      unfold isT; simp [this, dX, dY]
  · refine key 1 0 _ _ (fun l => ?_) (fun l k hl => ?_)
    · unfold lnC; simp [dX, dY, z1]
    · have : t.2.2.1 52 l = 0 := by unfold lnC at hl; simp at hl; exact hl.1
      unfold isT; simp [this, dX, dY]
  · refine key 2 3 _ _ (fun l => ?_) (fun l k hl => ?_)
    · unfold lnC; simp [dX, dY]
    · have : ¬ t.2.2.1 52 l = 0 := by unfold lnC at hl; simp at hl; exact hl.1
      unfold isT; simp [this, dX, dY]
  · refine key 3 2 _ _ (fun l => ?_) (fun l k hl => ?_)
    · unfold lnC; simp [dX, dY, z1]
    · have : ¬ t.2.2.1 52 l = 0 := by unfold lnC at hl; simp at hl; exact hl.1
      unfold isT; simp [this, dX, dY]
/-- smoke comes from beside -/
def frB (t : TS) (nl k d : Nat) : Prop := bsd k d ≠ 576 ∧ t.2.2.1 44 (bsd k d) = 1 ∧ psB t nl d (cX k) (cY k)
def nsB (t : TS) (nl k m : Nat) : Prop := t.2.2.1 44 k = 1 ∨ ∃ d, d < m ∧ frB t nl k d
theorem t_spr {t : TS} {nl : Nat} (hv : ∀ c, c < 576 → v01 (t.2.2.1 44 c)) (hl : lns t nl) : by classical exact (∃ T, t_664 t = some T ∧ T.1 = t.1 ∧ (∀ c, c ≠ 44 → c ≠ 45 → T.2.2.1 c = t.2.2.1 c) ∧ (∀ c, c < 576 → v01 (T.2.2.1 44 c) ∧ (T.2.2.1 44 c = 1 ↔ nsB t nl c 4)) ∧ (∀ Z, Z ≠ 9 → rt T Z = rt t Z)) := by
  classical
  have v1 : ∀ x : Int32, v01 x → x &&& 1 = x := fun x h => i_and1 h
  unfold t_664
  have lT : ∀ T : TS, T.1 = t.1 → (∀ c, c ≠ 45 → T.2.2.1 c = t.2.2.1 c) → lns T nl ∧ ∀ d x y, psB T nl d x y ↔ psB t nl d x y := fun T h1 h2 => by
    refine ⟨?_, fun d x y => psB_cg (fun c hc => h2 c (by simp at hc; omega)) nl d x y⟩
    unfold lns at *
    rw [h1, h2 54 (by omega)]; exact hl
  refine Tr.bd (P := fun T : TS => T.1 = t.1 ∧ (∀ c, c ≠ 45 → T.2.2.1 c = t.2.2.1 c) ∧ (∀ c, c < 576 → v01 (T.2.2.1 45 c) ∧ (T.2.2.1 45 c = 1 ↔ nsB t nl c 4)) ∧ (∀ Z, Z ≠ 9 → rt T Z = rt t Z)) (wh_cnt 576 (fun k a => a.2 = Int32.ofNat k ∧ a.1.1 = t.1 ∧ (∀ c, c ≠ 45 → a.1.2.2.1 c = t.2.2.1 c) ∧ (∀ c, c < k → v01 (a.1.2.2.1 45 c) ∧ (a.1.2.2.1 45 c = 1 ↔ nsB t nl c 4)) ∧ (∀ Z, Z ≠ 9 → rt a.1 Z = rt t Z)) ?_ ?_ ⟨rfl, rfl, fun _ _ => rfl, fun c hc => absurd hc (by omega), fun _ _ => rfl⟩) ?_
  · rintro k ⟨T, _⟩ hk ⟨rfl, h1, h2, h3, h4⟩
    right
    dsimp only at h1 h2 h3 h4 ⊢
    rw [if_pos ((i_ltL (by omega) (by omega)).mpr hk), rdI_n (by omega) (by omega), Option.bind_some, stI_n (by omega) (by omega), Option.bind_some, h2 44 (by omega), v1 _ (hv k hk), i_modL (by omega) (by omega), i_divL (by omega) (by omega)]
    have hin : Tr (wh (S := TS × Int32) (X := TS) (fun p15 : TS × Int32 => (if p15.2 < 4 then Option.bind (t_589 (Int32.ofNat (k % 24)) p15.2 p15.1) (fun x3 => Option.bind (t_590 (Int32.ofNat (k / 24)) p15.2 p15.1) (fun x4 => Option.bind (rdI p15.1 45 576 (Int32.ofNat k)) (fun x5 => Option.bind ((if x5 = 0 then Option.bind (t_569 x3 x4 p15.1) (fun x6 => (if x6 = 0 then some 0 else Option.bind (rdI p15.1 44 576 ((24 * x4) + x3)) (fun x7 => (if x7 = 0 then some 0 else Option.bind (t_591 (Int32.ofNat (k % 24)) (Int32.ofNat (k / 24)) p15.2 p15.1) (fun x8 => (if x8 = 0 then some 0 else some 1)))))) else some 1)) (fun v64 => Option.bind (stI p15.1 45 576 (Int32.ofNat k) (v64 &&& 1)) (fun s9 => some (Sum.inl (β := TS) (s9, p15.2 + 1))))))) else some (.inr p15.1))) (wrI T 45 k (t.2.2.1 44 k), 0)) (fun a => a.1 = t.1 ∧ (∀ c, c ≠ 45 → a.2.2.1 c = t.2.2.1 c) ∧ (∀ c, c < k + 1 → v01 (a.2.2.1 45 c) ∧ (a.2.2.1 45 c = 1 ↔ nsB t nl c 4)) ∧ (∀ Z, Z ≠ 9 → rt a Z = rt t Z)) := by
      refine wh_cnt 4 (fun m a => a.2 = Int32.ofNat m ∧ a.1.1 = t.1 ∧ (∀ c, c ≠ 45 → a.1.2.2.1 c = t.2.2.1 c) ∧ (∀ c, c < k → v01 (a.1.2.2.1 45 c) ∧ (a.1.2.2.1 45 c = 1 ↔ nsB t nl c 4)) ∧ (v01 (a.1.2.2.1 45 k) ∧ (a.1.2.2.1 45 k = 1 ↔ nsB t nl k m)) ∧ (∀ Z, Z ≠ 9 → rt a.1 Z = rt t Z)) ?_ ?_ ⟨rfl, h1, fun c hc => funext (fun j => (wr_ne hc j).trans (congrFun (h2 c hc) j)), fun c hc => ?_, ?_, fun Z hz => ?_⟩
      · rintro m ⟨U, _⟩ hm ⟨rfl, u1, u2, u3, ⟨u4, u5⟩, u6⟩
        right
        dsimp only at u1 u2 u3 u4 u5 u6 ⊢
        obtain ⟨l1, l2⟩ := lT U u1 u2
        rw [if_pos ((i_ltL (by omega) (by omega)).mpr hm), (t_nx hm U).1, (t_nx hm U).2, Option.bind_some, Option.bind_some, t_nxC hk hm, rdI_n (by omega) (by omega), Option.bind_some, Option.bind_some, t_ps l1 hm]
        have hstep : ∃ v, v01 v ∧ (v = 1 ↔ nsB t nl k (m + 1)) ∧ (if U.2.2.1 45 k = 0 then (if (if bsd k m = 576 then (0 : Int32) else 1) = 0 then some (0 : Int32) else Option.bind (rdI U 44 576 (24 * (Int32.ofNat (k / 24) + dY m) + (Int32.ofNat (k % 24) + dX m))) (fun x7 => if x7 = 0 then some 0 else Option.bind (some (if psB U nl m (Int32.ofNat (k % 24)) (Int32.ofNat (k / 24)) then (1 : Int32) else 0)) (fun x8 => if x8 = 0 then some 0 else some 1))) else some 1) = some v := by
          rcases u4 with z | z
          · rw [z, if_pos rfl]
            have no : ¬ nsB t nl k m := fun g => by rw [z] at u5; exact absurd (u5.mpr g) (by decide)
            have nx : nsB t nl k (m + 1) ↔ frB t nl k m := by
              constructor
              · rintro (g | ⟨d, hd, g⟩)
                · exact absurd (Or.inl g) no
                · by_cases e : d = m
                  · rw [← e]; exact g
                  · exact absurd (Or.inr ⟨d, by omega, g⟩) no
              · exact fun g => Or.inr ⟨m, by omega, g⟩
            rw [nx]
            by_cases hb : bsd k m = 576
            · exact ⟨0, Or.inl rfl, ⟨fun g => absurd g (by decide), fun g => absurd hb g.1⟩, by rw [if_pos hb, if_pos rfl]⟩
            · have hlt := ((grd hk hm).2 hb).2.2
              rw [if_neg hb, if_neg (by decide), nx_at hk hm hb, rdI_n (by omega) (by omega), Option.bind_some, u2 44 (by omega)]
              rcases hv _ hlt with w | w
              · exact ⟨0, Or.inl rfl, ⟨fun g => absurd g (by decide), fun g => by have := g.2.1; rw [w] at this; exact absurd this (by decide)⟩, by rw [w, if_pos rfl]⟩
              · rw [w, if_neg (by decide), Option.bind_some]
                by_cases g : psB U nl m (Int32.ofNat (k % 24)) (Int32.ofNat (k / 24))
                · exact ⟨1, Or.inr rfl, ⟨fun _ => ⟨hb, w, (l2 _ _ _).mp g⟩, fun _ => rfl⟩, by rw [if_pos g, if_neg (by decide)]⟩
                · exact ⟨0, Or.inl rfl, ⟨fun g => absurd g (by decide), fun g' => absurd ((l2 _ _ _).mpr g'.2.2) g⟩, by rw [if_neg g, if_pos rfl]⟩
          · rw [z, if_neg (by decide)]
            refine ⟨1, Or.inr rfl, ⟨fun _ => ?_, fun _ => rfl⟩, rfl⟩
            rcases u5.mp z with g | ⟨d, hd, g⟩
            · exact Or.inl g
            · exact Or.inr ⟨d, by omega, g⟩
        obtain ⟨v, g1, g2, g3⟩ := hstep
        rw [g3, Option.bind_some, v1 _ g1, stI_n (by omega) (by omega), Option.bind_some, i_suc]
        refine ⟨(wrI U 45 k v, Int32.ofNat (m + 1)), rfl, rfl, u1, fun c hc => funext (fun j => (wr_ne hc j).trans (congrFun (u2 c hc) j)), fun c hc => ?_, ?_, fun Z hz => ?_⟩
        · dsimp only; rw [wr_nk (show c ≠ k by omega)]; exact u3 c hc
        · dsimp only; rw [wr_at, if_pos ⟨rfl, rfl⟩]; exact ⟨g1, g2⟩
        · dsimp only; rw [rt_wrI (by show (9 : Nat) ≠ Z; omega)]; exact u6 Z hz
      · rintro ⟨U, _⟩ ⟨rfl, u1, u2, u3, u4, u6⟩
        dsimp only at u1 u2 u3 u4 u6 ⊢
        refine ⟨U, by rw [if_neg (show ¬ Int32.ofNat 4 < (4 : Int32) by decide)], u1, u2, fun c hc => ?_, u6⟩
        by_cases e : c = k
        · rw [e]; exact u4
        · exact u3 c (by omega)
      · dsimp only; rw [wr_nk (show c ≠ k by omega)]; exact h3 c hc
      · dsimp only; rw [wr_at, if_pos ⟨rfl, rfl⟩]
        refine ⟨hv k hk, fun g => Or.inl g, ?_⟩
        rintro (g | ⟨d, hd, _⟩)
        · exact g
        · omega
      · dsimp only; rw [rt_wrI (by show (9 : Nat) ≠ Z; omega)]; exact h4 Z hz
    obtain ⟨U, e1, e2, e3, e4, e5⟩ := hin
    rw [e1, Option.bind_some, i_suc]
    exact ⟨(U, Int32.ofNat (k + 1)), rfl, rfl, e2, e3, e4, e5⟩
  · rintro ⟨T, _⟩ ⟨rfl, h1, h2, h3, h4⟩
    dsimp only at h1 h2 h3 h4 ⊢
    exact ⟨T, by rw [if_neg (show ¬ Int32.ofNat 576 < (576 : Int32) by decide)], h1, h2, h3, h4⟩
  · rintro T0 ⟨h1, h2, h3, h4⟩
    refine Tr.bd (P := fun T : TS => T.1 = t.1 ∧ (∀ c, c ≠ 44 → c ≠ 45 → T.2.2.1 c = t.2.2.1 c) ∧ (∀ c, c < 576 → v01 (T.2.2.1 44 c) ∧ (T.2.2.1 44 c = 1 ↔ nsB t nl c 4)) ∧ (∀ Z, Z ≠ 9 → rt T Z = rt t Z)) (wh_cnt 576 (fun k a => a.2 = Int32.ofNat k ∧ a.1.1 = t.1 ∧ (∀ c, c ≠ 44 → a.1.2.2.1 c = T0.2.2.1 c) ∧ (∀ c, c < k → a.1.2.2.1 44 c = T0.2.2.1 45 c) ∧ (∀ Z, Z ≠ 9 → rt a.1 Z = rt t Z)) ?_ ?_ ⟨rfl, h1, fun _ _ => rfl, fun c hc => absurd hc (by omega), h4⟩) (fun T h => Tr.ok h)
    · rintro k ⟨T, _⟩ hk ⟨rfl, g1, g2, g3, g4⟩
      right
      dsimp only at g1 g2 g3 g4 ⊢
      rw [if_pos ((i_ltL (by omega) (by omega)).mpr hk), rdI_n (by omega) (by omega), Option.bind_some, g2 45 (by omega), v1 _ (h3 k hk).1, stI_n (by omega) (by omega), Option.bind_some, i_suc]
      refine ⟨(wrI T 44 k (T0.2.2.1 45 k), Int32.ofNat (k + 1)), rfl, rfl, g1, fun c hc => funext (fun j => (wr_ne hc j).trans (congrFun (g2 c hc) j)), fun c hc => ?_, fun Z hz => ?_⟩
      · dsimp only
        by_cases e : c = k
        · rw [e, wr_at, if_pos ⟨rfl, rfl⟩]
        · rw [wr_nk e]; exact g3 c (by omega)
      · dsimp only; rw [rt_wrI (by show (9 : Nat) ≠ Z; omega)]; exact g4 Z hz
    · rintro ⟨T, _⟩ ⟨rfl, g1, g2, g3, g4⟩
      dsimp only at g1 g2 g3 g4 ⊢
      refine ⟨T, by rw [if_neg (show ¬ Int32.ofNat 576 < (576 : Int32) by decide)], g1, fun c e1 e2 => (g2 c e1).trans (h2 c e2), fun c hc => ?_, g4⟩
      rw [g3 c hc]; exact h3 c hc
