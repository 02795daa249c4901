/-! the warden: its order on the twin's side, and a second -/
theorem st_tr {A X : Type} {o : Option (A ⊕ X)} {Q : X → Prop} {P : A → Prop} (h : Tr o (fun r => (∃ x, r = .inr x ∧ Q x) ∨ ∃ a, r = .inl a ∧ P a)) : (∃ x, o = some (.inr x) ∧ Q x) ∨ ∃ a', o = some (.inl a') ∧ P a' := by
  obtain ⟨r, h1, h2⟩ := h
  rcases h2 with ⟨x, rfl, h3⟩ | ⟨x, rfl, h3⟩
  · exact Or.inl ⟨x, h1, h3⟩
  · exact Or.inr ⟨x, h1, h3⟩
theorem ex_el {A B : Type} {p : A → B → Prop} {q : Prop} (h : ∃ x y, p x y) (k : ∀ x y, p x y → q) : q := by
  obtain ⟨x, y, z⟩ := h
  exact k x y z
section
variable {h : lHeap} {own : Nat → Nat} {s : CS} {t : TS} {np sz mx zm am rl nr na ec B N : Nat} {P Z ZP A RW od : Nat → Nat}
def rkO (na : Nat) (od : Nat → Nat) (k : Nat) : Int32 := if k < na then Int32.ofNat (od k) else -1
theorem t_rank (q3 : W3 h t np mx zm am rl nr na Z ZP A RW od) {k : Nat} (hk : k ≤ 20) : t_793 (Int32.ofNat k) t = some (rkO na od k) := by
  have q3' := q3
  obtain ⟨_, _, _, _, _, _, _, w12, _, _, w15, w16, w17⟩ := q3'
  suffices g : Tr (t_793 (Int32.ofNat k) t) (fun x => x = rkO na od k) by
    obtain ⟨x, h1, h2⟩ := g
    rw [h1, h2]
  unfold t_793
  refine Tr.bd (P := fun x => x = if k < na then .inr (Int32.ofNat (od k)) else .inl ()) (Tr.bd (P := fun x => x = if k < na then Sum.inl (Int32.ofNat (od k)) else .inr (.inl ())) (wh_cnt 20 (fun i st => st = Int32.ofNat i ∧ ∀ j, j < i → t.2.2.1 109 j = 1 → bef t j ≠ k) ?_ ?_ ⟨rfl, fun _ h => absurd h (by omega)⟩) ?_) ?_
  · rintro i _ hi ⟨rfl, hp⟩
    refine st_tr ?_
    rw [if_pos ((i_ltL (by omega) (by omega)).mpr hi)]
    refine Tr.bd (P := fun x => x = Int32.ofNat (bef t i)) (wh_cnt 20 (fun j st => st = (Int32.ofNat ((List.range j).filter (fun b => decide (t.2.2.1 109 b = 1) && soon t b i)).length, Int32.ofNat j)) ?_ ?_ rfl) ?_
    · rintro j _ hj rfl
      refine Or.inr ⟨_, ?_, rfl⟩
      dsimp only
      rw [if_pos ((i_ltL (by omega) (by omega)).mpr hj), rdI_n (by omega) (by omega), Option.bind_some, rdI_n (by omega) (by omega), Option.bind_some, rdI_n (by omega) (by omega), Option.bind_some, i_suc, flen_suc]
      unfold soon
      have hij : Int32.ofNat j < Int32.ofNat i ↔ j < i := i_lt (by omega) (by omega)
      rcases (w12 j hj).2.1 with y | y
      · by_cases z1 : t.2.2.1 111 i < t.2.2.1 111 j
        · simp [y, z1]
        · by_cases z2 : t.2.2.1 111 j = t.2.2.1 111 i
          · by_cases z3 : j < i
            · simp [y, z2, hij, z3]
            · simp [y, z2, hij, z3]
          · simp [y, z1, z2]
      · by_cases z1 : t.2.2.1 111 i < t.2.2.1 111 j
        · simp [y, z1]
        · by_cases z2 : t.2.2.1 111 j = t.2.2.1 111 i
          · by_cases z3 : j < i
            · simp [y, z2, hij, z3]
            · simp [y, z2, hij, z3]
          · simp [y, z1, z2]
    · rintro _ rfl
      refine ⟨_, ?_, rfl⟩
      dsimp only
      rw [if_neg (by decide)]; rfl
    · rintro _ rfl
      rw [rdI_n (by omega) (by omega), Option.bind_some]
      have hbl : bef t i ≤ 20 := by
        have := List.length_filter_le (fun b => decide (t.2.2.1 109 b = 1) && soon t b i) (List.range 20)
        rw [List.length_range] at this; exact this
      have heq : Int32.ofNat (bef t i) = Int32.ofNat k ↔ bef t i = k := i_inj (by omega) (by omega)
      rcases (w12 i hi).2.1 with y | y
      · refine ⟨_, by rw [y]; rfl, Or.inr ⟨_, rfl, i_suc _, fun j hj => ?_⟩⟩
        rcases Nat.lt_or_ge j i with z | z
        · exact hp j z
        · have : j = i := by omega
          subst this
          intro z; rw [y] at z; cases z
      · by_cases z1 : bef t i = k
        · obtain ⟨z2, z3⟩ := od_bef q3 hi y
          rw [z1] at z2 z3
          refine ⟨.inr (.inl (Int32.ofNat i)), by rw [y, if_neg (by decide), if_pos (heq.mpr z1)]; rfl, Or.inl ⟨_, rfl, ?_⟩⟩
          rw [if_pos z2, z3]
        · refine ⟨_, by rw [y, if_neg (by decide), if_neg (fun z => z1 (heq.mp z))]; rfl, Or.inr ⟨_, rfl, i_suc _, fun j hj => ?_⟩⟩
          rcases Nat.lt_or_ge j i with z | z
          · exact hp j z
          · have : j = i := by omega
            subst this
            exact fun _ => z1
  · rintro _ ⟨rfl, hp⟩
    refine ⟨.inr (.inl ()), ?_, ?_⟩
    · rw [if_neg (by decide)]
    · rw [if_neg (fun z => hp (od k) (w16 k z).1 (w16 k z).2.1 (w16 k z).2.2)]
  · rintro _ rfl
    by_cases z : k < na
    · exact ⟨_, by rw [if_pos z]; rfl, by rw [if_pos z]⟩
    · exact ⟨_, by rw [if_neg z]; rfl, by rw [if_neg z]⟩
  · rintro _ rfl
    unfold rkO
    by_cases z : k < na
    · exact ⟨_, by rw [if_pos z]; rfl, by rw [if_pos z]⟩
    · exact ⟨_, by rw [if_neg z]; rfl, by rw [if_neg z]⟩
/-- the clock moves on -/
theorem R7b_now {n : Int32} (r : R7b h (ptI t 301 n) np sz mx zm am rl nr na ec P Z ZP A RW od B) (hn : ∃ n, n ≤ 6000 ∧ t.1 301 = Int32.ofNat n) : R7b (lUpd h 151 (true, false, 47, [.ref 152, .ref 153, .ref mx, .ref 158, .ref 159, .ref 160, .int (Int32.ofNat ec), .ref 161, .int (t.1 301), .int (t.1 1), .ref 115, .ref 120])) t np sz mx zm am rl nr na ec P Z ZP A RW od B := by
  obtain ⟨r0, r1, r2, r3, r4, ⟨e1, e2, e3, e4, e5⟩⟩ := r
  have hu := hK_upd (c' := (true, false, 47, [.ref 152, .ref 153, .ref mx, .ref 158, .ref 159, .ref 160, .int (Int32.ofNat ec), .ref 161, .int (t.1 301), .int (t.1 1), .ref 115, .ref 120])) r0.1
  have hc : ∀ q, q ≠ 151 → lUpd h 151 (true, false, 47, [.ref 152, .ref 153, .ref mx, .ref 158, .ref 159, .ref 160, .int (Int32.ofNat ec), .ref 161, .int (t.1 301), .int (t.1 1), .ref 115, .ref 120]) q = h q := fun q hq => by rw [lUpd_at, if_neg hq]
  refine ⟨⟨by rw [lUpd_at, if_pos rfl], hn, r0.2.2.1, r0.2.2.2⟩, W1_cg r1 (hu.mono (fun x hx => by show x ≠ 47; omega)) rfl rfl (fun _ _ => rfl), W2_cg r2 (hu.mono (fun x hx => by show x ≠ 47; omega)) rfl rfl rfl, W3_cg r3 (hu.mono (fun x hx => by show x ≠ 47; omega)) rfl (fun _ _ => rfl), W4_cg r4 (hu.mono (fun x hx => by show x ≠ 47; omega)) (fun _ _ => rfl), ?_, ?_, ?_, e4, e5⟩
  · obtain ⟨f, z1, z2⟩ := e1
    exact ⟨f, by rw [hc 158 (by omega)]; exact z1, z2⟩
  · obtain ⟨f, z1, z2⟩ := e2
    exact ⟨f, by rw [hc 159 (by omega)]; exact z1, z2⟩
  · obtain ⟨f, z1, z2, z3⟩ := e3
    exact ⟨f, by rw [hc 160 (by omega)]; exact z1, z2, z3⟩
/-- a second of the warden: the twin's clock has moved already -/
theorem wa_second (hw : wfS s) (hs : 179 ≤ s.2.1) (k7 : K7 (rs s.1 own 11)) {n : Nat} (hn : n + 1 ≤ 6000) (ht : t.1 301 = Int32.ofNat (n + 1)) (r : R7b (rs s.1 own 7) (ptI t 301 (Int32.ofNat n)) np sz mx zm am rl nr na ec P Z ZP A RW od (40 * n)) (hS : SecH s own t N) :
    ∃ s' t', c_515 151 (t.1 301) s = some s' ∧ Option.bind (t_793 0 t) (fun x6 => wh (S := TS × Int32 × Int32) (X := TS) (fun p32 => (if p32.2.1 < 0 then some (.inr p32.1) else Option.bind (t_804 p32.2.1 p32.1) (fun x7 => Option.bind ((if x7.1 < 0 then some x7.2 else Option.bind (t_628 p32.2.1 x7.1 x7.2) (fun x8 => some x8))) (fun v45 => Option.bind (t_793 p32.2.2 v45) (fun x9 => some (.inl (v45, x9, p32.2.2 + 1))))))) (t, x6, 1)) = some t' ∧
    ∃ own' ec', R7b (rs s'.1 own' 7) t' np sz mx zm am rl nr na ec' P Z ZP A RW od (40 * (n + 1)) ∧ SecH s' own' t' N ∧ Frm (fun X => X = 6 ∨ X = 7 ∨ X = 10) own own' s s' ∧ (∀ c, c ≠ 330 → t'.1 c = t.1 c) ∧ (∀ Z, Z ≠ 6 → Z ≠ 7 → Z ≠ 10 → Z ≠ 99 → rt t' Z = rt t Z) ∧ (∀ c, mR c = 7 → ¬ (117 ≤ c ∧ c ≤ 123) → t'.2.2.1 c = t.2.2.1 c) ∧ s'.2.2.1 ≤ s.2.2.1 + 60 ∧ s'.2.2.2 ≤ s.2.2.2 + 480 := by
  have o151 := rs_in r.1.1
  have hrr := R7b_now r ⟨n + 1, hn, ht⟩
  rw [← rs_upd o151.2] at hrr
  have f0 : Frm (fun X => X = 6 ∨ X = 7 ∨ X = 10) own own s (cup s 151 (true, false, 47, [.ref 152, .ref 153, .ref mx, .ref 158, .ref 159, .ref 160, .int (Int32.ofNat ec), .ref 161, .int (t.1 301), .int (t.1 1), .ref 115, .ref 120])) := frm_cup hw (wf_lt hw o151.1) (by rw [o151.2]; omega)
  have f07 : Frm (fun X => X = 7) own own s (cup s 151 (true, false, 47, [.ref 152, .ref 153, .ref mx, .ref 158, .ref 159, .ref 160, .int (Int32.ofNat ec), .ref 161, .int (t.1 301), .int (t.1 1), .ref 115, .ref 120])) := frm_cup hw (wf_lt hw o151.1) o151.2
  have e0 : xP s [(47, 8)] 151 (.int (t.1 301)) = some (cup s 151 (true, false, 47, [.ref 152, .ref 153, .ref mx, .ref 158, .ref 159, .ref 160, .int (Int32.ofNat ec), .ref 161, .int (t.1 301), .int (t.1 1), .ref 115, .ref 120])) := by
    rw [xP_c o151.1 rfl (by simp) rfl]; rfl
  have hS0 := SecH_frm hw hS f07 rfl rfl rfl
  generalize hs0 : cup s 151 (true, false, 47, [.ref 152, .ref 153, .ref mx, .ref 158, .ref 159, .ref 160, .int (Int32.ofNat ec), .ref 161, .int (t.1 301), .int (t.1 1), .ref 115, .ref 120]) = s0 at f0 e0 hS0
  replace hrr : R7b (rs s0.1 own 7) t np sz mx zm am rl nr na ec P Z ZP A RW od (40 * n) := by rw [← hs0]; exact hrr
  have n0 : s0.2 = s.2 := by rw [← hs0]; rfl
  have na20 : na ≤ 20 := by
    obtain ⟨_, _, _, _, _, _, _, _, _, _, w15, _, _⟩ := r.2.2.2.1
    exact w15
  unfold c_515
  have hrk := t_rank hrr.2.2.2.1 (k := 0) (by omega)
  rw [e0, Option.bind_some, show (0 : Int32) = Int32.ofNat 0 from rfl, hrk, Option.bind_some]
  refine ex_el (wh_two (Q := fun s' t' => ∃ own' ec', R7b (rs s'.1 own' 7) t' np sz mx zm am rl nr na ec' P Z ZP A RW od (40 * n + 2 * na) ∧ SecH s' own' t' N ∧ Frm (fun X => X = 6 ∨ X = 7 ∨ X = 10) own own' s s' ∧ (∀ c, c ≠ 330 → t'.1 c = t.1 c) ∧ (∀ Z, Z ≠ 6 → Z ≠ 7 → Z ≠ 10 → Z ≠ 99 → rt t' Z = rt t Z) ∧ (∀ c, mR c = 7 → ¬ (117 ≤ c ∧ c ≤ 123) → t'.2.2.1 c = t.2.2.1 c) ∧ s'.2.2.1 ≤ s.2.2.1 + 3 * na ∧ s'.2.2.2 ≤ s.2.2.2 + 24 * na)
    na (fun k a b => a.2 = Int32.ofNat k ∧ b.2.1 = rkO na od k ∧ b.2.2 = Int32.ofNat (k + 1) ∧ ∃ own' ec', R7b (rs a.1.1 own' 7) b.1 np sz mx zm am rl nr na ec' P Z ZP A RW od (40 * n + 2 * k) ∧ SecH a.1 own' b.1 N ∧ Frm (fun X => X = 6 ∨ X = 7 ∨ X = 10) own own' s a.1 ∧ (∀ c, c ≠ 330 → b.1.1 c = t.1 c) ∧ (∀ Z, Z ≠ 6 → Z ≠ 7 → Z ≠ 10 → Z ≠ 99 → rt b.1 Z = rt t Z) ∧ (∀ c, mR c = 7 → ¬ (117 ≤ c ∧ c ≤ 123) → b.1.2.2.1 c = t.2.2.1 c) ∧ a.1.2.2.1 ≤ s.2.2.1 + 3 * k ∧ a.1.2.2.2 ≤ s.2.2.2 + 24 * k)
    (f := fun p5 : CS × Int32 => Option.bind (xN p5.1 [(47, 7)] 151) (fun a2 => (if isK p5.1 [13] a2 = true then Option.bind (alSize p5.1 a2) (fun x3 => (if p5.2 < x3 then Option.bind (xN p5.1 [(47, 7)] 151) (fun a4 => (if isK p5.1 [13] a4 = true then Option.bind (alGet p5.1 a4 p5.2) (fun e5 => Option.bind (toN p5.1 [91] e5) (fun a6 => (if isK p5.1 [47] 151 = true then Option.bind (c_516 151 a6 p5.1) (fun x7 => some (.inl (x7.2, p5.2 + 1))) else none))) else none)) else some (.inr p5.1))) else none)))
    (g := fun p32 : TS × Int32 × Int32 => (if p32.2.1 < 0 then some (.inr p32.1) else Option.bind (t_804 p32.2.1 p32.1) (fun x7 => Option.bind ((if x7.1 < 0 then some x7.2 else Option.bind (t_628 p32.2.1 x7.1 x7.2) (fun x8 => some x8))) (fun v45 => Option.bind (t_793 p32.2.2 v45) (fun x9 => some (.inl (v45, x9, p32.2.2 + 1)))))))
    (a := (s0, Int32.ofNat 0)) (b := (t, rkO na od 0, 1)) ?_ ?_ ⟨rfl, rfl, rfl, own, ec, hrr, hS0, f0, fun _ _ => rfl, fun _ _ _ _ _ => rfl, fun _ _ _ => rfl, by show s0.2.2.1 ≤ _; rw [n0]; omega, by show s0.2.2.2 ≤ _; rw [n0]; omega⟩) ?_
  rotate_left 2
  · rintro x y ⟨h1, h2, own', ec', g⟩
    rw [h1, Option.bind_some]
    refine ⟨x, y, rfl, h2, own', ec', ?_⟩
    obtain ⟨⟨r0, r1, r2, r3, r4, ⟨e1, e2, e3, e4, e5⟩⟩, g2, g3, g4, g5, g6, g7, g8⟩ := g
    exact ⟨⟨r0, r1, r2, r3, r4, ⟨e1, e2, e3, e4, by omega⟩⟩, g2, g3, g4, g5, g6, by omega, by omega⟩
  · rintro k ⟨s1, a2⟩ ⟨T, b2, b3⟩ hk ⟨rfl, rfl, rfl, own', ec', g1, g2, g3, g4, g5, g6, g7, g8⟩
    dsimp only at g1 g2 g3 g4 g5 g6 g7 g8 ⊢
    have q := R7b_raw g1
    obtain ⟨_, _, _, _, _, _, _, _, _, ⟨mo, w14⟩, w15, w16, w17⟩ := q.2.2.2.1
    obtain ⟨o1, o2, _⟩ := w16 k hk
    have hb : ¬ T.1 1 = 0 := fun z => by
      have := ((q.1.2.2.2 z).2 _ o1).2
      rw [o2] at this; cases this
    have hA := (q.2.2.2.2.1.1 _ o1 o2).1
    have hw1 : wfS s1 := g3.2.2.2.2
    have hs1 : 179 ≤ s1.2.1 := Nat.le_trans hs g3.1
    obtain ⟨x, s', t', c1, c2, own2, ec2, k1, k2, k3, k4, k5, k6, k7', k8⟩ := wa_go hw1 hs1 (by rw [frm_rs hw g3 (by omega)]; exact k7) g1 (by omega) g2 hb o1 o2
    have hrk2 := t_rank k1.2.2.2.1 (k := k + 1) (by omega)
    unfold goD at c2
    have hlt0 : ¬ Int32.ofNat (od k) < 0 := i_nlt0 (by omega)
    refine Or.inr ⟨(s', Int32.ofNat (k + 1)), (t', rkO na od (k + 1), Int32.ofNat (k + 1 + 1)), ?_, ?_, rfl, rfl, rfl, own2, ec2, k1, k2, Frm.trans g3 k3, fun c hc => by rw [k4 c hc, g4 c hc], fun Z h6 h7 h10 h9 => by rw [k5 Z h6 h7 h10 h9, g5 Z h6 h7 h10 h9], fun c hc hc2 => by rw [k6 c hc hc2, g6 c hc hc2], ?_, ?_⟩
    · rw [xN_o (b := 161) q.1.1 rfl rfl, Option.bind_some, if_pos (isK_t w14 rfl), alSize_r w14, Option.bind_some, if_pos ((i_lt (by omega) (by omega)).mpr hk), Option.bind_some, if_pos (isK_t w14 rfl), alGet_r w14 hk (by omega), Option.bind_some, toN_o hA rfl, Option.bind_some, if_pos (isK_t q.1.1 rfl), c1, Option.bind_some, i_suc]
    · rw [show rkO na od k = Int32.ofNat (od k) from if_pos hk, if_neg hlt0]
      cases hE : t_804 (Int32.ofNat (od k)) T with
      | none => rw [hE] at c2; cases c2
      | some y =>
        rw [hE, Option.bind_some] at c2
        rw [Option.bind_some]
        by_cases hy : y.1 < 0
        · rw [if_pos hy] at c2 ⊢
          rw [Option.some.inj c2, Option.bind_some, hrk2, Option.bind_some, i_suc]
        · rw [if_neg hy] at c2 ⊢
          rw [c2, Option.bind_some, Option.bind_some, hrk2, Option.bind_some, i_suc]
    · dsimp only; omega
    · dsimp only; omega
  · rintro ⟨s1, a2⟩ ⟨T, b2, b3⟩ ⟨rfl, rfl, rfl, own', ec', g1, g2, g3, g4, g5, g6, g7, g8⟩
    dsimp only at g1 g2 g3 g4 g5 g6 g7 g8 ⊢
    have q := R7b_raw g1
    obtain ⟨_, _, _, _, _, _, _, _, _, ⟨mo, w14⟩, w15, w16, w17⟩ := q.2.2.2.1
    refine ⟨s1, T, ?_, ?_, own', ec', g1, g2, g3, g4, g5, g6, g7, g8⟩
    · rw [xN_o (b := 161) q.1.1 rfl rfl, Option.bind_some, if_pos (isK_t w14 rfl), alSize_r w14, Option.bind_some, if_neg (by rw [i_lt (by omega) (by omega)]; omega)]
    · rw [show rkO na od na = -1 from if_neg (by omega), if_pos (by decide)]
end
