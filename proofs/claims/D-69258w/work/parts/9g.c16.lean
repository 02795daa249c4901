/-! cells: leave, whole -/
def atV (t : TS) (k : Nat) : Int32 := if t.2.2.1 24 k < t.1 9 ∧ t.2.2.1 27 k < 0 then nmC t (bN (24 * t.2.2.1 26 k + t.2.2.1 25 k)) else -1
section
variable {own : Nat → Nat} {s : CS} {t : TS} {nl nr nd sm : Nat} {W : Nat → Nat} {e q g wn : Nat → Int32} {sc : Nat → Nat}
/-- the component's row of numbers -/
theorem c_lvf {K zn nr' nS nT nC nR nP nL a A : Nat} {rel : Int32} {S C CS' CM CT E RS RM' RT P G D L F : Nat → Nat} {RW : Nat → Nat → Nat} (hw : wfS s) (r : R9x s.1 t nl nr nd sm W e q g wn sc) (p : R4x s.1 t K zn nr' nS nT nC nR nP nL a rel S C CS' CM CT E RS RM' RT P G D L F RW) (hb : t.1 1 ≠ 0) (hA : s.1 A = some (true, true, 0, rowC (fun _ => .int 0) nS)) (h179 : 179 ≤ A) : ∃ s', wh (S := CS × Int32) (X := CS) (fun p6 => Option.bind (aLen p6.1 A) (fun x3 => (if p6.2 < x3 then (if isK p6.1 [13] 111 = true then Option.bind (alGet p6.1 111 p6.2) (fun e4 => Option.bind (toN p6.1 [81] e4) (fun a5 => (if isK p6.1 [81] a5 = true then Option.bind (c_997 a5 p6.1) (fun x6 => Option.bind ((if x6 = 0 then some (-1 : Int32) else Option.bind (xN p6.1 [(50, 6)] 170) (fun a7 => Option.bind (xI p6.1 [(81, 5)] a5) (fun x8 => Option.bind (xI p6.1 [(81, 4)] a5) (fun x9 => Option.bind (aI p6.1 [0, 12] a7 ((24 * x8) + x9)) (fun x10 => some x10)))))) (fun v32 => Option.bind (aPut p6.1 0 A p6.2 (.int v32)) (fun s11 => some (.inl (s11, p6.2 + 1))))) else none))) else none) else some (.inr p6.1)))) (s, 0) = some s' ∧ s'.1 A = some (true, true, 0, rowC (fun k => .int (atV t k)) nS) ∧ (∀ q, q ≠ A → s'.1 q = s.1 q) ∧ s'.2 = s.2 ∧ wfS s' := by
  obtain ⟨b1, b2, b3, b4, b5, b6, b7⟩ := r.2.2.2.2.1 hb
  have a1 := r.1.1
  have a6 := r.1.2.2.2.2.2.1
  obtain ⟨⟨mc, x1⟩, x2, x3, x4, _⟩ := p.2.1
  have lA := wf_lt hw hA
  refine wh_cnt (f := ((fun p6 => Option.bind (aLen p6.1 A) (fun x3 => (if p6.2 < x3 then (if isK p6.1 [13] 111 = true then Option.bind (alGet p6.1 111 p6.2) (fun e4 => Option.bind (toN p6.1 [81] e4) (fun a5 => (if isK p6.1 [81] a5 = true then Option.bind (c_997 a5 p6.1) (fun x6 => Option.bind ((if x6 = 0 then some (-1 : Int32) else Option.bind (xN p6.1 [(50, 6)] 170) (fun a7 => Option.bind (xI p6.1 [(81, 5)] a5) (fun x8 => Option.bind (xI p6.1 [(81, 4)] a5) (fun x9 => Option.bind (aI p6.1 [0, 12] a7 ((24 * x8) + x9)) (fun x10 => some x10)))))) (fun v32 => Option.bind (aPut p6.1 0 A p6.2 (.int v32)) (fun s11 => some (.inl (s11, p6.2 + 1))))) else none))) else none) else some (.inr p6.1)))) : CS × Int32 → Option (Sum (CS × Int32) CS))) nS (fun k a => a.2 = Int32.ofNat k ∧ a.1.1 A = some (true, true, 0, rowC (fun j => .int (if j < k then atV t j else 0)) nS) ∧ (∀ q, q ≠ A → a.1.1 q = s.1 q) ∧ a.1.2 = s.2 ∧ wfS a.1) ?_ ?_ ⟨rfl, ?_, fun _ _ => rfl, rfl, hw⟩
  · rintro k ⟨U, _⟩ hk ⟨rfl, u1, u2, u3, u4⟩
    right
    dsimp only at u1 u2 u3 u4 ⊢
    obtain ⟨dS, okS, S179⟩ := x4 k hk
    have hSA : S k ≠ A := fun z => by rw [z, hA] at dS; cases dS
    have dS' : U.1 (S k) = _ := (u2 _ hSA).trans dS
    have a1' : U.1 170 = _ := (u2 170 (by omega)).trans a1
    have a6' : U.1 175 = _ := (u2 175 (by omega)).trans a6
    have x1' : U.1 111 = _ := (u2 111 (by omega)).trans x1
    rw [aLen_r u1 (by omega), Option.bind_some, if_pos ((i_lt (by omega) (by omega)).mpr hk), if_pos (isK_t x1' rfl), alGet_r x1' hk (by omega), Option.bind_some, toN_o dS' rfl, Option.bind_some, if_pos (isK_t dS' rfl), xN_o (b := 175) a1' rfl rfl, xI_o (x := t.2.2.1 26 k) dS' rfl rfl, xI_o (x := t.2.2.1 25 k) dS' rfl rfl, Option.bind_some, Option.bind_some, Option.bind_some]
    have h997 : c_997 (S k) U = c_997 (S k) s := by
      unfold c_997
      rw [xI_o (x := t.2.2.1 25 k) dS' rfl rfl, xI_o (x := t.2.2.1 27 k) dS' rfl rfl, xI_o (x := t.2.2.1 25 k) dS rfl rfl, xI_o (x := t.2.2.1 27 k) dS rfl rfl]
    have hv : ∀ {A' : Type} (f : Int32 → Option A'), Option.bind (c_997 (S k) U) (fun x6 => Option.bind ((if x6 = 0 then some (-1 : Int32) else Option.bind (aI U [0, 12] 175 (24 * t.2.2.1 26 k + t.2.2.1 25 k)) (fun x10 => some x10))) f) = f (atV t k) := fun f => by
      rw [h997]
      rcases in_p p hk with ⟨j1, j2, j3, c, hc, j4, j5⟩ | ⟨j1, j2⟩
      · rw [j1, Option.bind_some, if_neg (show ¬ (1 : Int32) = 0 by decide), j4, j5, cXY, aI_r a6' (by omega) rfl hc (by omega) rfl, Option.bind_some, Option.bind_some, (b5 c hc).2]
        unfold atV
        rw [if_pos ⟨j2, j3⟩, j4, j5, cXY, bN_of (by omega)]
      · rw [j1, Option.bind_some, if_pos rfl, Option.bind_some]
        unfold atV
        rw [if_neg (fun h => by
          rcases j2 with ⟨z, _⟩ | ⟨_, z⟩
          · exact z h.1
          · exact z h.2)]
    rw [hv, aPut_r u1 hk (by omega), Option.bind_some, i_suc]
    refine ⟨_, rfl, rfl, ?_, fun q hq => (cup_ne hq).trans (u2 q hq), u3, wf_cup u4 (wf_lt u4 u1)⟩
    dsimp only
    rw [cup_eq]
    refine congrArg (fun l => some (true, true, 0, l)) (rowC_congr (fun j hj => ?_))
    by_cases w : j = k
    · rw [if_pos w, w, if_pos (by omega)]
    · rw [if_neg w]
      by_cases w2 : j < k
      · rw [if_pos w2, if_pos (by omega)]
      · rw [if_neg w2, if_neg (by omega)]
  · rintro ⟨U, _⟩ ⟨rfl, u1, u2, u3, u4⟩
    dsimp only at u1 u2 u3 u4 ⊢
    refine ⟨U, by rw [aLen_r u1 (by omega), Option.bind_some, if_neg (by rw [i_lt (by omega) (by omega)]; omega)], ?_, u2, u3, u4⟩
    rw [u1]
    refine congrArg (fun l => some (true, true, 0, l)) (rowC_congr (fun j hj => ?_))
    rw [if_pos hj]
  · dsimp only
    rw [hA]
    refine congrArg (fun l => some (true, true, 0, l)) (rowC_congr (fun j hj => ?_))
    rw [if_neg (by omega)]
theorem atV_R {T : TS} {K zn nr' nS nT nC nR nP nL a : Nat} {rel : Int32} {S C CS' CM CT E RS RM' RT P G D L F : Nat → Nat} {RW : Nat → Nat → Nat} (p : R4x s.1 t K zn nr' nS nT nC nR nP nL a rel S C CS' CM CT E RS RM' RT P G D L F RW) (h1 : T.1 = t.1) (h3 : ∀ c, c ≠ 48 → c ≠ 49 → T.2.2.1 c = t.2.2.1 c) {k : Nat} (hk : k < nS) : atR T (atV t k) k := by
  unfold atR nmC
  rw [h1, h3 24 (by decide) (by decide), h3 25 (by decide) (by decide), h3 26 (by decide) (by decide), h3 27 (by decide) (by decide), h3 46 (by decide) (by decide)]
  rcases in_p p hk with ⟨j1, j2, j3, c, hc, j4, j5⟩ | ⟨j1, j2⟩
  · left
    refine ⟨j2, j3, c, hc, j4, j5, ?_⟩
    unfold atV nmC
    rw [if_pos ⟨j2, j3⟩, j4, j5, cXY, bN_of (by omega)]
  · right
    have hn : ¬ (t.2.2.1 24 k < t.1 9 ∧ t.2.2.1 27 k < 0) := fun h => by
      rcases j2 with ⟨z, _⟩ | ⟨_, z⟩
      · exact z h.1
      · exact z h.2
    refine ⟨hn, ?_⟩
    unfold atV
    rw [if_neg hn]
end
