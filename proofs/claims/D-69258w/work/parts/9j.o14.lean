/-! building: cells' spaces and edges, whole loops -/
section
variable {s B U : CS} {t : TS} {L : PLn} {nl nr : Nat} {st ln : Nat → Nat} {lab : Int → Int → Int} {LC LD : Nat → Nat} {DC : Nat → Nat → Nat} {fd fL ou ol mp : Nat} {pid nid aid : Nat → Nat → Nat} {si rc rl sp sl : Nat → Nat} {nd : Nat → Nat}
theorem aLen_cg {V : CS} {a : Nat} (h : V.1 a = B.1 a) : aLen V a = aLen B a := by
  unfold aLen aCell
  rw [h]
/-- the spaces of the cells -/
theorem ce_spc (hw : wfS s) (h179 : 179 ≤ s.2.1) (F : FNx s t L nl nr st ln lab LC fd fL ou ol mp pid nid aid si rc rl sp sl) {f v : List Value} (g : s.1 102 = some (true, false, 67, .ref 103 :: .ref fd :: f)) (g170 : s.1 170 = some (true, false, 50, v)) (hv : v[2]? = some (.ref 171)) {h0 : Nat → Int32} (g171 : s.1 171 = some (true, true, 0, rowC (fun c => .int (h0 c)) 576)) : Tr (wh (S := CS × Int32) (X := CS) (fun p5 => (if p5.2 < 576 then Option.bind (xN p5.1 [(50, 2)] 170) (fun a2 => (if isK p5.1 [67] 102 = true then Option.bind (c_910 102 (p5.2 - p5.2 / (24 : Int32) * (24 : Int32)) (p5.2 / 24) p5.1) (fun x3 => Option.bind (aPut x3.2 0 a2 p5.2 (.int x3.1)) (fun s4 => some (.inl (s4, p5.2 + 1)))) else none)) else some (.inr p5.1))) (s, 0)) (fun U => wfS U ∧ U.2.1 = s.2.1 ∧ (∀ p, p ≠ 171 → U.1 p = s.1 p) ∧ U.1 171 = some (true, true, 0, rowC (fun c => .int (Int32.ofInt (lab (c % 24 : Nat) (c / 24 : Nat)))) 576) ∧ U.2.2.1 = s.2.2.1 + 576 ∧ U.2.2.2 = s.2.2.2 + 2304) := by
  refine wh_cnt 576 (fun n (a : CS × Int32) => a.2 = Int32.ofNat n ∧ wfS a.1 ∧ a.1.2.1 = s.2.1 ∧ (∀ p, p ≠ 171 → a.1.1 p = s.1 p) ∧ a.1.1 171 = some (true, true, 0, rowC (fun c => if c < n then .int (Int32.ofInt (lab (c % 24 : Nat) (c / 24 : Nat))) else .int (h0 c)) 576) ∧ a.1.2.2.1 = s.2.2.1 + n ∧ a.1.2.2.2 = s.2.2.2 + 4 * n) ?_ ?_ ⟨rfl, hw, rfl, fun _ _ => rfl, ?_, rfl, rfl⟩
  · rintro n ⟨U, _⟩ hn ⟨rfl, u1, u2, u3, u4, u5, u6⟩
    right
    dsimp only at u1 u2 u3 u4 u5 u6 ⊢
    have FU : FNx U t L nl nr st ln lab LC fd fL ou ol mp pid nid aid si rc rl sp sl := FN_ext2 F (fun a c h1 h => by rw [u3 a (by omega)]; exact h)
    have gU : U.1 102 = _ := (u3 102 (by decide)).trans g
    have kU : U.1 170 = _ := (u3 170 (by decide)).trans g170
    have l171 := wf_lt u1 u4
    have u4' : (chg U 1 4).1 171 = _ := u4
    rw [if_pos ((i_ltL (by omega) (by decide)).mpr hn), xN_o (b := 171) kU rfl hv, Option.bind_some, if_pos (isK_t gU rfl), i_modL (by omega) (by omega), i_divL (by omega) (by omega), c_spAt FU gU (by omega) (by omega), Option.bind_some]
    dsimp only
    rw [aPut_r u4' hn (by omega), Option.bind_some, i_suc]
    refine ⟨_, rfl, rfl, wf_cup (wf_chg u1) l171, u2, fun p hp => ?_, ?_, ?_, ?_⟩
    · show (cup (chg U 1 4) 171 _).1 p = _
      rw [cup_ne hp]; exact u3 p hp
    · show (cup (chg U 1 4) 171 _).1 171 = _
      rw [cup_eq]
      refine congrArg (fun l => some (true, true, 0, l)) (rowC_congr (fun c _ => ?_))
      by_cases z : c = n
      · rw [if_pos z, if_pos (by omega), z]
      · rw [if_neg z]
        by_cases y : c < n
        · rw [if_pos y, if_pos (by omega)]
        · rw [if_neg y, if_neg (by omega)]
    · show U.2.2.1 + 1 = _; omega
    · show U.2.2.2 + 4 = _; omega
  · rintro ⟨U, _⟩ ⟨rfl, u1, u2, u3, u4, u5, u6⟩
    dsimp only at u1 u2 u3 u4 u5 u6 ⊢
    rw [if_neg (show ¬ Int32.ofNat 576 < 576 by decide)]
    refine ⟨_, rfl, u1, u2, u3, ?_, u5, u6⟩
    rw [u4]
    exact congrArg (fun l => some (true, true, 0, l)) (rowC_congr (fun c hc => if_pos hc))
  · dsimp only
    rw [g171]
    exact congrArg (fun l => some (true, true, 0, l)) (rowC_congr (fun c hc => (if_neg (Nat.not_lt_zero _)).symm))
/-- all edges -/
theorem ce_edg (hB : EdH B t L nl LC LD DC nd) (h61 : aLen B 61 = some 4) {h2 : Nat → Int32} (g172 : B.1 172 = some (true, true, 0, rowC (fun j => .int (h2 j)) 2304)) {mc : Int32} (g173 : B.1 173 = some (true, false, 1013, [.int mc])) {h4 : Nat → Int32} (g174 : B.1 174 = some (true, true, 0, rowC (fun j => .int (h4 j)) 120)) : Tr (wh (S := CS × Int32) (X := CS) (fun p24 => (if p24.2 < 576 then Option.bind (wh (S := CS × Int32) (X := CS) (fun p29 => Option.bind (aLen p29.1 61) (fun x5 => (if p29.2 < x5 then Option.bind (xN p29.1 [(50, 3)] 170) (fun a6 => (if isK p29.1 [50] 170 = true then Option.bind (c_540 170 102 (p24.2 - p24.2 / (24 : Int32) * (24 : Int32)) (p24.2 / 24) p29.2 p29.1) (fun x7 => Option.bind (aPut x7.2 0 a6 ((4 * p24.2) + p29.2) (.int x7.1)) (fun s8 => some (.inl (s8, p29.2 + 1)))) else none)) else some (.inr p29.1)))) (p24.1, 0)) (fun v53 => some (.inl (v53, p24.2 + 1))) else some (.inr p24.1))) (B, 0)) (fun U => ∃ e q W ne, EdS B U t L nl e q W ne 2304) := by
  obtain ⟨hw, h179, _, _, _, _, _, _, _, z1, f7, b170⟩ := id hB
  have s0 : EdS B B t L nl h2 h4 (fun _ => 0) 0 0 := ⟨hw, Nat.le_refl _, fun _ _ _ _ _ => rfl, g172, ⟨mc, g173⟩, g174, Nat.le_refl _, fun k hk => absurd hk (Nat.not_lt_zero _), fun j hj => absurd hj (Nat.not_lt_zero _), by omega, by omega⟩
  refine wh_cnt 576 (fun c (a : CS × Int32) => a.2 = Int32.ofNat c ∧ ∃ e q W ne, EdS B a.1 t L nl e q W ne (4 * c)) ?_ ?_ ⟨rfl, _, _, _, _, s0⟩
  · rintro c ⟨U, _⟩ hc ⟨rfl, e, q, W, ne, u⟩
    right
    dsimp only at u ⊢
    rw [if_pos ((i_ltL (by omega) (by decide)).mpr hc)]
    have key2 : ∀ X : Option CS, Tr X (fun S' => ∃ e q W ne, EdS B S' t L nl e q W ne (4 * (c + 1))) → ∃ a', Option.bind X (fun v53 => (some (.inl (v53, Int32.ofNat c + 1)) : Option (Sum (CS × Int32) CS))) = some (.inl a') ∧ a'.2 = Int32.ofNat (c + 1) ∧ ∃ e q W ne, EdS B a'.1 t L nl e q W ne (4 * (c + 1)) := by
      rintro X ⟨S', rfl, h⟩
      exact ⟨_, rfl, i_suc c, h⟩
    refine key2 _ ?_
    refine wh_cnt 4 (fun d (a : CS × Int32) => a.2 = Int32.ofNat d ∧ ∃ e q W ne, EdS B a.1 t L nl e q W ne (4 * c + d)) ?_ ?_ ⟨rfl, e, q, W, ne, u⟩
    · rintro d ⟨V, _⟩ hd ⟨rfl, e, q, W, ne, v⟩
      right
      dsimp only at v ⊢
      have v61 : aLen V 61 = some 4 := (aLen_cg (v.2.2.1 61 (by omega) (by decide) (by decide) (by decide))).trans h61
      have v170 : V.1 170 = _ := (v.2.2.1 170 (by omega) (by decide) (by decide) (by decide)).trans b170
      rw [v61, Option.bind_some, if_pos ((i_ltL (by omega) (by decide)).mpr hd), xN_o (b := 172) v170 rfl rfl, Option.bind_some, if_pos (isK_t v170 rfl), i_modL (by omega) (by omega), i_divL (by omega) (by omega), i_mulL, i_add]
      obtain ⟨U', e1, e', q', W', ne', h⟩ := ed_step hB v (by omega) (A := Sum (CS × Int32) CS) (fun s8 => some (.inl (s8, Int32.ofNat d + 1)))
      rw [show (4 * c + d) / 4 % 24 = c % 24 by omega, show (4 * c + d) / 96 = c / 24 by omega, show (4 * c + d) % 4 = d by omega] at e1
      rw [e1, i_suc]
      exact ⟨_, rfl, rfl, e', q', W', ne', h⟩
    · rintro ⟨V, _⟩ ⟨rfl, e, q, W, ne, v⟩
      dsimp only at v ⊢
      have v61 : aLen V 61 = some 4 := (aLen_cg (v.2.2.1 61 (by omega) (by decide) (by decide) (by decide))).trans h61
      rw [v61, Option.bind_some, if_neg (show ¬ Int32.ofNat 4 < 4 by decide)]
      exact ⟨_, rfl, e, q, W, ne, v⟩
  · rintro ⟨U, _⟩ ⟨rfl, e, q, W, ne, u⟩
    dsimp only at u ⊢
    rw [if_neg (show ¬ Int32.ofNat 576 < 576 by decide)]
    exact ⟨_, rfl, e, q, W, ne, u⟩
end
