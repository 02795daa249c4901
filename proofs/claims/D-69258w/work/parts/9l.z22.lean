/-! the house: a second begins -/
section
variable {s s' : CS} {own own' : Nat → Nat} {t T : TS} {K N : Nat} {p7 p9 : lHeap → TS → Prop} {nl nr nd sm : Nat} {W : Nat → Nat} {e q g wn : Nat → Int32} {sc : Nat → Nat}
/-- the clocks go on -/
def clkT (t : TS) (m : Nat) : TS := ptI (ptI (ptI t 2 (Int32.ofNat m)) 301 (Int32.ofNat m)) 612 (Int32.ofNat m)
theorem clk_1 (t : TS) (m c : Nat) : (clkT t m).1 c = if c = 612 ∨ c = 301 ∨ c = 2 then Int32.ofNat m else t.1 c := by
  unfold clkT
  rw [pt_1, pt_1, pt_1]
  by_cases a : c = 612
  · rw [if_pos a, if_pos (Or.inl a)]
  · by_cases b : c = 301
    · rw [if_neg a, if_pos b, if_pos (Or.inr (Or.inl b))]
    · by_cases d : c = 2
      · rw [if_neg a, if_neg b, if_pos d, if_pos (Or.inr (Or.inr d))]
      · rw [if_neg a, if_neg b, if_neg d, if_neg (fun z => by omega)]
theorem clk_rt (t : TS) (m : Nat) {Z : Nat} (h1 : Z ≠ 1) (h7 : Z ≠ 7) (h8 : Z ≠ 8) : rt (clkT t m) Z = rt t Z := by
  unfold clkT
  rw [rt_ptI (by show 8 ≠ Z; exact fun z => h8 z.symm), rt_ptI (by show 7 ≠ Z; exact fun z => h7 z.symm), rt_ptI (by show 1 ≠ Z; exact fun z => h1 z.symm)]
theorem R8_clk {h : lHeap} {n : Nat} (r : R8 h t) (hn : t.1 612 = Int32.ofNat n) (h6 : n + 1 ≤ 6000) : R8 h (clkT t (n + 1)) := by
  obtain ⟨nc, nk, C, D, M, b, p1, p2, p3, p4, p5, p6, p7, p8, p9, p10, p11, p12, p13, p14, p15, p16, p17, p18, p19, p20⟩ := r
  have b1 : bN (t.1 612) = n := by rw [hn]; exact i_clamp (by omega)
  have b2 : bN ((clkT t (n + 1)).1 612) = n + 1 := by rw [clk_1, if_pos (Or.inl rfl)]; exact i_clamp (by omega)
  refine ⟨nc, nk, C, D, M, b, p1, p2, p3, p4, p5, p6, p7, p8, p9, p10, p11, p12, ⟨n + 1, h6, by rw [clk_1, if_pos (Or.inl rfl)]⟩, p14, p15, fun c hc => ?_, p17, p18, p19, p20⟩
  obtain ⟨x1, ⟨x2, x3, ⟨v, x4, x5⟩, x6⟩, x7⟩ := p16 c hc
  exact ⟨x1, ⟨x2, x3, ⟨v, by rw [b2]; rw [b1] at x4; omega, x5⟩, x6⟩, x7⟩
theorem R9_clk {h : lHeap} {n : Nat} (r : R9x h t nl nr nd sm W e q g wn sc) (hn : t.1 2 = Int32.ofNat n) (h6 : n + 1 ≤ 6000) : R9x h (clkT t (n + 1)) nl nr nd sm W e q g wn sc ∧ ∀ j, j < 120 → sc j < n + 1 := by
  obtain ⟨a1, a2, a3, ⟨m, b1, b2, b3⟩, a5, a6⟩ := r
  have hm : m = n := by
    rw [hn] at b1
    exact ((i_inj (j := n) (k := m) (by omega) (by omega)).mp b1).symm
  subst hm
  refine ⟨⟨a1, a2, a3, ⟨m + 1, by rw [clk_1, if_pos (Or.inr (Or.inr rfl))], h6, fun j hj => by have := b3 j hj; omega⟩, fun z => ?_, a6⟩, fun j hj => by have := b3 j hj; omega⟩
  obtain ⟨b1, b2, b3, b4, b5, b6, b7⟩ := a5 z
  exact ⟨b1, b2, b3, b4, b5, b6, fun c d hc hd => edgR_cg (b7 c d hc hd) (fun _ _ _ h => h) (fun _ _ => rfl)⟩
theorem P7_clk {h : lHeap} {n : Nat} (r : R7 h t) (hn : t.1 301 = Int32.ofNat n) (h6 : n + 1 ≤ 6000) : P7m n h (clkT t (n + 1)) := by
  obtain ⟨np, sz, mx, zm, am, rl, nr, na, ec, P, Z, ZP, A, RW, od, r⟩ := r
  unfold R7x at r
  rw [hn, show bN (Int32.ofNat n) = n from i_clamp (by omega)] at r
  refine ⟨np, sz, mx, zm, am, rl, nr, na, ec, P, Z, ZP, A, RW, od, R7b_rt r (Prod.ext (funext fun c => ?_) rfl) rfl⟩
  unfold rt
  dsimp only
  by_cases z : mI c = 7
  · rw [if_pos z, if_pos z, pt_1, clk_1]
    by_cases y : c = 301
    · rw [if_pos y, y, hn]
    · rw [if_neg y, if_neg (fun w => ?_)]
      rcases w with w | w | w
      · rw [w] at z; exact absurd z (by decide)
      · exact y w
      · rw [w] at z; exact absurd z (by decide)
  · rw [if_neg z, if_neg z]
theorem sec_clk {n : Nat} (r : RH s own t K N) (h2 : t.1 2 = Int32.ofNat n) (h6 : n + 1 ≤ 6000) (r9 : R9x (rs s.1 own 9) t nl nr nd sm W e q g wn sc) : ∃ S, xP s [(56, 0)] 101 (.int (t.1 2 + 1)) = some S ∧ RG (P7m n) (fun h t => R9x h t nl nr nd sm W e q g wn sc) S own (clkT t (n + 1)) K N ∧ Frm (fun X => X = 1) own own s S ∧ S.2.2 = s.2.2 := by
  have c := r.c101
  have e1 : t.1 2 + 1 = Int32.ofNat (n + 1) := by rw [h2, i_suc]
  have hF : Frm (fun X => X = 1) own own s (cup s 101 (true, false, 56, [.int (Int32.ofNat (n + 1))])) := frm_cup r.wf (wf_lt r.wf c.1) c.2
  refine ⟨cup s 101 (true, false, 56, [.int (Int32.ofNat (n + 1))]), by rw [e1]; exact xP_c c.1 rfl (by simp) rfl, ?_, hF, rfl⟩
  have f : ∀ Z, Z ≠ 1 → rs (cup s 101 (true, false, 56, [.int (Int32.ofNat (n + 1))])).1 own Z = rs s.1 own Z := fun Z hZ => frm_rs r.wf hF hZ
  have g0 : RG R7 (fun h t => R9x h t nl nr nd sm W e q g wn sc) s own t K N := r.rg r9 r.r7
  refine g0.keep (X := fun X => X = 1) (Y := fun Z => Z = 1 ∨ Z = 7 ∨ Z = 8 ∨ Z = 9) hF (fun Z h => by omega) (fun Z h w => h (Or.inl w)) (fun Z h _ => clk_rt t _ (fun w => h (by omega)) (fun w => h (by omega)) (fun w => h (by omega))) rfl (clk_rt t _ (by omega) (by omega) (by omega)) (by omega) (by omega) (fun _ => ?_) (fun z => by omega) (fun z => by omega) (fun z => by omega) (fun _ => rfl) (fun _ => ?_) (fun z => by omega) (fun _ => ?_) (fun _ => ?_) (fun z => by omega) (fun z => by omega)
  · show H1r (rs (lUpd s.1 101 _) own 1) _
    rw [rs_upd c.2]
    exact ⟨by rw [lUpd_at, if_neg (by omega)]; exact r.r1.1, by rw [lUpd_at, if_pos rfl, clk_1, if_pos (Or.inr (Or.inr rfl))]⟩
  · rw [f 7 (by omega)]; exact P7_clk r.r7 (r.nn.n7.trans h2) h6
  · rw [f 8 (by omega)]; exact R8_clk r.r8 (r.nn.n8.trans h2) h6
  · rw [f 9 (by omega)]; exact (R9_clk r9 h2 h6).1
/-- the smoke -/
theorem sec_smk {n : Nat} (r : RG (P7m n) (fun h t => R9x h t nl nr nd sm W e q g wn sc) s own t K N) (hb : t.1 1 ≠ 0) {m : Nat} (h2 : t.1 2 = Int32.ofNat m) (h6 : m ≤ 6000) : ∃ S T own' sm', c_547 170 s = some S ∧ (if t.1 2 - t.1 2 / (10 : Int32) * (10 : Int32) = 0 then Option.bind (t_664 t) (fun x4 => some x4) else some t) = some T ∧ RG (P7m n) (fun h t => R9x h t nl nr nd sm' W e q g wn sc) S own' T K N ∧ Frm (fun X => X = 9) own own' s S ∧ T.1 = t.1 ∧ (∀ Z, Z ≠ 9 → rt T Z = rt t Z) ∧ S.2.2.1 ≤ s.2.2.1 + (if m % 10 = 0 then 12 else 0) ∧ S.2.2.2 ≤ s.2.2.2 + (if m % 10 = 0 then 190 else 0) := by
  obtain ⟨S, T, own', sm', a1, a2, a3, a4, a5, a6, a7, a8⟩ := ce_smk r.wf r.hs r.k9r r.r9 hb h6 r.c101.1 h2
  refine ⟨S, T, own', sm', a1, a2, ?_, a4, a5, a6, a7, a8⟩
  exact r.keep (X := fun X => X = 9) (Y := fun Z => Z = 9) a4 (fun Z h => by omega) (fun Z h w => h w) (fun Z h _ => a6 Z h) (by rw [a5]) (a6 2 (by omega)) (by omega) (by omega) (fun z => by omega) (fun z => by omega) (fun z => by omega) (fun z => by omega) (fun _ => rfl) (fun z => by omega) (fun _ => C7_m n) (fun z => by omega) (fun _ => a3) (fun z => absurd rfl z) (fun z => by omega)
end
