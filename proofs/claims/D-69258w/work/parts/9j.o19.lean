/-! building: the cells, whole -/
section
variable {s B V : CS} {t : TS} {L : PLn} {nl nr : Nat} {st ln : Nat → Nat} {lab : Int → Int → Int} {nm : Nat → Int32} {LC LD : Nat → Nat} {DC : Nat → Nat → Nat} {fd fL ou ol mp : Nat} {pid nid aid : Nat → Nat → Nat} {si rc rl sp sl : Nat → Nat} {nd : Nat → Nat}
/-- the reference's spaces of the cells -/
theorem t_sp9 (F : FT t L nl nr st ln lab nm) : Tr (wh (S := TS × Int32) (X := TS) (fun p75 => (if p75.2 < 576 then Option.bind (t_716 (p75.2 - p75.2 / (24 : Int32) * (24 : Int32)) (p75.2 / 24) p75.1) (fun x9 => Option.bind (stI p75.1 47 576 p75.2 x9) (fun s10 => some (.inl (s10, p75.2 + 1)))) else some (.inr p75.1))) (t, 0)) (fun T => agr [] [47] t T ∧ ∀ c, c < 576 → T.2.2.1 47 c = Int32.ofInt (lab (c % 24 : Nat) (c / 24 : Nat))) := by
  refine wh_cnt 576 (fun n (a : TS × Int32) => a.2 = Int32.ofNat n ∧ agr [] [47] t a.1 ∧ ∀ c, c < n → a.1.2.2.1 47 c = Int32.ofInt (lab (c % 24 : Nat) (c / 24 : Nat))) ?_ ?_ ⟨rfl, ⟨fun _ _ => rfl, rfl, fun _ _ => rfl, rfl⟩, fun c hc => absurd hc (Nat.not_lt_zero _)⟩
  · rintro n ⟨U, _⟩ hn ⟨rfl, u1, u2⟩
    right
    dsimp only at u1 u2 ⊢
    have FU := FT_cg F u1 (by decide) (by decide) (by decide)
    rw [if_pos ((i_ltL (by omega) (by decide)).mpr hn), i_modL (by omega) (by omega), i_divL (by omega) (by omega), t_spAt FU (by omega) (by omega), Option.bind_some, stI_n (show n < 576 from hn) (by omega), Option.bind_some, i_suc]
    refine ⟨_, rfl, rfl, ⟨u1.1, u1.2.1, fun c hc => ?_, u1.2.2.2⟩, fun c hc => ?_⟩
    · rw [← u1.2.2.1 c hc]
      funext j
      exact if_neg (fun w => hc (by rw [w.1]; exact List.mem_singleton.mpr rfl))
    · by_cases z : c = n
      · rw [z]; exact if_pos ⟨rfl, rfl⟩
      · exact (if_neg (fun w => z w.2)).trans (u2 c (by omega))
  · rintro ⟨U, _⟩ ⟨rfl, u1, u2⟩
    dsimp only at u1 u2 ⊢
    rw [if_neg (show ¬ Int32.ofNat 576 < 576 by decide)]
    exact ⟨_, rfl, u1, u2⟩
theorem EdH_mv (h : EdH B t L nl LC LD DC nd) (hV : wfS V) (hn : B.2.1 ≤ V.2.1) (e : ∀ p c, (179 ≤ p ∨ p = 102 ∨ p = 103) → B.1 p = some c → V.1 p = some c) (k : ∃ z f, V.1 170 = some (true, false, 50, .ref 101 :: z :: .ref 171 :: .ref 172 :: .ref 173 :: .ref 174 :: .ref 175 :: f)) : EdH V t L nl LC LD DC nd := by
  obtain ⟨h1, h2, h3, h4, ⟨f, h5⟩, ⟨ml, h6⟩, h7, h8, h9, h10⟩ := h
  exact ⟨hV, by omega, h3, h4, ⟨f, e 102 _ (by omega) h5⟩, ⟨ml, e 103 _ (by omega) h6⟩, DrH_ext2 h7 h9 (fun a c h1 h => e a c (by omega) h), fun l i hl hi => e _ _ (Or.inl ((h9 l hl).2.2 i hi)) (h8 l i hl hi), h9, k⟩
/-- the cells after the build -/
theorem c_bld (hB : EdH s t L nl LC LD DC nd) (F : FNx s t L nl nr st ln lab LC fd fL ou ol mp pid nid aid si rc rl sp sl) {f v : List Value} (g : s.1 102 = some (true, false, 67, .ref 103 :: .ref fd :: f)) {z : Value} (g170 : s.1 170 = some (true, false, 50, .ref 101 :: z :: .ref 171 :: .ref 172 :: .ref 173 :: .ref 174 :: .ref 175 :: v)) {h1 h2 h4 h5 : Nat → Int32} (g171 : s.1 171 = some (true, true, 0, rowC (fun c => .int (h1 c)) 576)) (g172 : s.1 172 = some (true, true, 0, rowC (fun j => .int (h2 j)) 2304)) {mc : Int32} (g173 : s.1 173 = some (true, false, 1013, [.int mc])) (g174 : s.1 174 = some (true, true, 0, rowC (fun j => .int (h4 j)) 120)) (g175 : s.1 175 = some (true, true, 0, rowC (fun c => .int (h5 c)) 576)) (k9 : K9 s.1) (h20 : nl ≤ 20) (n40 : spn L nl st ln nr ≤ 40) (h47 : ∀ c, c < 576 → t.2.2.1 47 c = Int32.ofInt (lab (c % 24 : Nat) (c / 24 : Nat))) : ∃ (U : CS) (e q : Nat → Int32) (W : Nat → Nat) (ne : Nat) (F9 : Nat → Nat), c_539 170 102 s = some U ∧ wfS U ∧ s.2.1 ≤ U.2.1 ∧ (∀ p, p < s.2.1 → p ≠ 170 → p ≠ 171 → p ≠ 172 → p ≠ 173 → p ≠ 174 → p ≠ 175 → U.1 p = s.1 p) ∧ U.1 170 = some (true, false, 50, .ref 101 :: .int 1 :: .ref 171 :: .ref 172 :: .ref 173 :: .ref 174 :: .ref 175 :: v) ∧ U.1 171 = some (true, true, 0, rowC (fun c => .int (t.2.2.1 47 c)) 576) ∧ U.1 172 = some (true, true, 0, rowC (fun j => .int (e j)) 2304) ∧ (∃ mc : Int32, U.1 173 = some (true, false, 1013, .int mc :: rowC (fun k => .ref (W k)) ne)) ∧ U.1 174 = some (true, true, 0, rowC (fun j => .int (q j)) 120) ∧ U.1 175 = some (true, true, 0, rowC (fun c => .int (nuC F9 c)) 576) ∧ ne ≤ 2304 ∧ (∀ k, k < ne → s.2.1 ≤ W k) ∧ (∀ j, j < 2304 → edgR U.1 t nl ne W q (e j) (j / 4) (j % 4)) ∧ wnR (exA t nl) (adN t nl) F9 ∧ (∀ c, F9 c ≤ 577) ∧ U.2.2.1 ≤ s.2.2.1 + 19500 ∧ U.2.2.2 ≤ s.2.2.2 + 491000 := by
  obtain ⟨hw, h179, _⟩ := id hB
  have l170 := wf_lt hw g170
  unfold c_539
  rw [xP_c g170 rfl (by simp) rfl, Option.bind_some]
  obtain ⟨s1, hs1⟩ : ∃ s1, s1 = cup s 170 (true, false, 50, .ref 101 :: .int 1 :: .ref 171 :: .ref 172 :: .ref 173 :: .ref 174 :: .ref 175 :: v) := ⟨_, rfl⟩
  rw [show cup s 170 (true, false, 50, (Value.ref 101 :: z :: .ref 171 :: .ref 172 :: .ref 173 :: .ref 174 :: .ref 175 :: v).set 1 (.int 1)) = s1 from hs1.symm]
  have w1 : wfS s1 := by rw [hs1]; exact wf_cup hw l170
  have n1 : ∀ p, p ≠ 170 → s1.1 p = s.1 p := fun p hp => by rw [hs1]; exact cup_ne hp
  have b170 : s1.1 170 = some (true, false, 50, .ref 101 :: .int 1 :: .ref 171 :: .ref 172 :: .ref 173 :: .ref 174 :: .ref 175 :: v) := by rw [hs1]; exact cup_eq ..
  have c1 : s1.2 = s.2 := by rw [hs1]; rfl
  have F1 := FN_ext2 (S := s1) F (fun a c h1 h => by rw [n1 a (by omega)]; exact h)
  obtain ⟨s2, e2, w2, x2, n2, b171, p2, q2⟩ := ce_spc w1 (by rw [c1]; exact h179) F1 ((n1 102 (by decide)).trans g) b170 rfl ((n1 171 (by decide)).trans g171)
  rw [e2, Option.bind_some]
  have m2 : ∀ p, p ≠ 170 → p ≠ 171 → s2.1 p = s.1 p := fun p h1 h2 => (n2 p h2).trans (n1 p h1)
  have H2 : EdH s2 t L nl LC LD DC nd := EdH_mv hB w2 (by rw [x2, c1]; exact Nat.le_refl _) (fun p c h1 h => by rw [m2 p (by omega) (by omega)]; exact h) ⟨_, _, (n2 170 (by decide)).trans b170⟩
  have a61 : aLen s2 61 = some 4 := by
    obtain ⟨⟨w, k1⟩, _⟩ := k9
    rw [aLen_r ((m2 61 (by decide) (by decide)).trans k1) (by decide)]; rfl
  obtain ⟨s3, e3, e, q, W, ne, u1, u2, u3, u4, ⟨mc', u5⟩, u6, u7, u8, u9, u10, u11⟩ := ce_edg H2 a61 ((m2 172 (by decide) (by decide)).trans g172) ((m2 173 (by decide) (by decide)).trans g173) ((m2 174 (by decide) (by decide)).trans g174)
  rw [e3, Option.bind_some]
  have x2' : s2.2.1 = s.2.1 := by rw [x2, c1]
  rw [x2'] at u2 u3 u8
  have b170' : s3.1 170 = some (true, false, 50, .ref 101 :: .int 1 :: .ref 171 :: .ref 172 :: .ref 173 :: .ref 174 :: .ref 175 :: v) := (u3 170 (by omega) (by decide) (by decide) (by decide)).trans ((n2 170 (by decide)).trans b170)
  have b171' : s3.1 171 = some (true, true, 0, rowC (fun c => .int (t.2.2.1 47 c)) 576) := by
    rw [u3 171 (by omega) (by decide) (by decide) (by decide), b171]
    exact congrArg (fun l => some (true, true, 0, l)) (rowC_congr (fun c hc => by rw [h47 c hc]))
  have m3 : ∀ p, p < s.2.1 → p ≠ 170 → p ≠ 171 → p ≠ 172 → p ≠ 173 → p ≠ 174 → s3.1 p = s.1 p := fun p h0 h1 h2 h3 h4 h5 => (u3 p h0 h3 h4 h5).trans (m2 p h1 h2)
  have b175 : s3.1 175 = some (true, true, 0, rowC (fun c => .int (h5 c)) 576) := (m3 175 (by omega) (by decide) (by decide) (by decide) (by decide) (by decide)).trans g175
  have k9' : K9 s3.1 := by
    obtain ⟨⟨w, k1⟩, ⟨w', k2⟩⟩ := k9
    exact ⟨⟨w, (m3 61 (by omega) (by decide) (by decide) (by decide) (by decide) (by decide)).trans k1⟩, ⟨w', (m3 62 (by omega) (by decide) (by decide) (by decide) (by decide) (by decide)).trans k2⟩⟩
  have b61 : aLen s3 61 = some 4 := by
    obtain ⟨⟨w, k1⟩, _⟩ := k9'
    rw [aLen_r k1 (by decide)]; rfl
  have FT0 := F.1
  have b0 : SpB s3 t nl (spn L nl st ln nr) ne W e q := by
    refine ⟨u1, by omega, k9', ⟨_, _, b170'⟩, b171', u4, h20, ⟨by omega, n40⟩, u9, fun c hc => ?_⟩
    rw [h47 c hc]
    rcases LabN.lt FT0.1 FT0.2.1 FT0.2.2.2.1 (c % 24 : Nat) (c / 24 : Nat) with y | ⟨n, y, hn⟩
    · left; rw [y]; rfl
    · right; rw [y]; exact ⟨n, hn, rfl⟩
  obtain ⟨U, F9, m, e4, r, hm, hf, hf2⟩ := c_spr b0 b61 b175
  rw [if_pos (isK_t b170' rfl), e4, Option.bind_some]
  obtain ⟨r1, r2, r3, r4, r5, r6, r7, r8⟩ := r
  have ct := ctN_le (L := L) nl 2304 (Nat.le_refl _)
  have mm : m * (m + 40) ≤ 576 * 616 := Nat.mul_le_mul hm (by omega)
  have c3 : s2.2.2.1 = s.2.2.1 + 576 := by rw [p2, c1]
  have c4 : s2.2.2.2 = s.2.2.2 + 2304 := by rw [q2, c1]
  refine ⟨U, e, q, W, ne, F9, rfl, r1, by omega, fun p h0 h1 h2 h3 h4 h5 h6 => ?_, ?_, ?_, ?_, ⟨mc', ?_⟩, ?_, r4, u7, u8, fun j hj => ?_, hf, hf2, by omega, by omega⟩
  · rw [r3 p (by omega) h6]; exact m3 p h0 h1 h2 h3 h4 h5
  · rw [r3 170 (by omega) (by decide)]; exact b170'
  · rw [r3 171 (by omega) (by decide)]; exact b171'
  · rw [r3 172 (by omega) (by decide)]; exact u4
  · rw [r3 173 (by omega) (by decide)]; exact u5
  · rw [r3 174 (by omega) (by decide)]; exact u6
  · refine edgR_cg (u9 j hj) (fun a c hc h => ?_) (fun _ _ => rfl)
    rw [r3 a (wf_lt u1 h) (fun w => by rw [w, b175] at h; cases h; exact absurd (show (0 : Nat) = 1013 from hc) (by decide))]
    exact h
end
