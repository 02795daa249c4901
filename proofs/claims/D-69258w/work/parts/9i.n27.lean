/-! the plan in the reference: a finding whole -/
/-- what the reference found, of the lines L -/
def FT (t : TS) (L : PLn) (nl nr : Nat) (st ln : Nat → Nat) (lab : Int → Int → Int) (nm : Nat → Int32) : Prop := gdL L nl ∧ RF L nl nr st ln ∧ nr ≤ nP L nl ∧ LabN L nl nr st ln lab ∧ (∃ ps, TGe t L nl ps lab) ∧ rgR t nr st ln ∧ t.1 117 = Int32.ofNat (spn L nl st ln nr) ∧ ∀ k, k < spn L nl st ln nr → t.2.2.1 64 k = nm k
/-- names of the spaces found: none at first, else those that go over -/
def nmF (b : Bool) (labo lab : Int → Int → Int) (onm : Nat → Int32) (ns os : Nat) : Nat → Int32 := if b = true then (crN (cmN labo lab) onm ns os).2 else fun _ => 0
section
variable {L Lo : PLn} {nl no nro : Nat} {sto lno : Nat → Nat} {labo : Int → Int → Int} {onm : Nat → Int32} {t : TS}
theorem t_run (h : lnR t L nl) (hg : gdL L nl) (b : Bool) (h9 : t.1 109 = if b = true then 1 else 0) (hF : b = true → FT t Lo no nro sto lno labo onm) : Tr (t_685 t) (fun x => ∃ nr st ln lab, x.1 = Int32.ofNat (spn L nl st ln nr) ∧ FT x.2 L nl nr st ln lab (nmF b labo lab onm (spn L nl st ln nr) (spn Lo no sto lno nro)) ∧ x.2.1 109 = 1 ∧ x.2.1 110 = 1 ∧ x.2.1 111 = t.1 111 + 1 ∧ agr [109, 110, 111, 112, 113, 117, 118, 119, 120, 124, 127, 130, 135] [58, 59, 60, 61, 62, 63, 64, 65, 66, 67, 68, 69, 70, 71, 72, 73, 74, 75] t x.2) := by
  have hn := hg.1
  unfold t_685
  repeat (first | rw [Option.bind_some] | rw [Sum.elim_inl] | rw [Sum.elim_inr])
  obtain ⟨T1, e1, a1, w1, w2, w3, w4, w5, w6, w7⟩ : ∃ T1, t_686 (ptI t 111 (t.1 111 + 1)) = some T1 ∧ agr [111, 118, 119, 120, 124] [58, 59, 60, 61, 62, 63, 64, 65] t T1 ∧ T1.1 118 = t.1 109 ∧ T1.1 119 = t.1 112 ∧ T1.1 120 = t.1 113 ∧ T1.1 124 = t.1 117 ∧ T1.1 111 = t.1 111 + 1 ∧ (T1.2.2.1 61 = t.2.2.1 58 ∧ T1.2.2.1 62 = t.2.2.1 59 ∧ T1.2.2.1 63 = t.2.2.1 60 ∧ T1.2.2.1 65 = t.2.2.1 64) ∧ True := by
    have c : (ptI t 111 (t.1 111 + 1)).1 109 = 0 ∨ (ptI t 111 (t.1 111 + 1)).1 109 = 1 := by
      rw [pt_1, if_neg (by decide), h9]
      cases b
      · exact Or.inl rfl
      · exact Or.inr rfl
    unfold t_686
    rw [if_pos c]
    refine ⟨_, rfl, ⟨fun q hq => ?_, rfl, fun q hq => ?_, rfl⟩, rfl, rfl, rfl, rfl, rfl, ⟨rfl, rfl, rfl, rfl⟩, trivial⟩
    · simp only [List.mem_cons, List.not_mem_nil, or_false, not_or] at hq
      simp only [pt_1, if_neg hq.1, if_neg hq.2.1, if_neg hq.2.2.1, if_neg hq.2.2.2.1, if_neg hq.2.2.2.2]
    · simp only [List.mem_cons, List.not_mem_nil, or_false, not_or] at hq
      show t.2.2.1 (swc q) = t.2.2.1 q
      obtain ⟨q1, q2, q3, q4, q5, q6, q7, q8⟩ := hq
      have : swc q = q := by simp [swc, q1, q2, q3, q4, q5, q6, q7, q8]
      rw [this]
  rw [e1]; repeat (first | rw [Option.bind_some] | rw [Sum.elim_inl] | rw [Sum.elim_inr])
  have h1 := lnR_cg h a1 (by simp) (by simp)
  refine Tr.bd (t_edges h1 hg) ?_
  rintro T2 ⟨ed2, ln2, a2⟩
  refine Tr.bd (t_fill ln2 ed2 hg) ?_
  rintro T3 ⟨ln3, ed3, a3, f, f1, f2⟩
  refine Tr.bd (t_findP ln3 hg) ?_
  rintro T4 ⟨ps, s4, p4, c4, a4⟩
  have ln4 := lnR_cg ln3 a4 (by simp) (by simp)
  have tp4 : TPl T4 L nl ps := ⟨fun l hl => (ln4.2 l hl).2.2.1, s4, p4, c4⟩
  refine Tr.bd (t_rings hg tp4) ?_
  rintro T5 ⟨nr, st, ln, r1, r2, r3, a5⟩
  have a45 : agr [127, 130, 135] [66, 67, 68, 69, 70, 71, 72, 73] T3 T5 := agr_trans (agr_mono a4 (by simp) (by simp)) (agr_mono a5 (by simp) (by simp))
  have tp5 := TPl_cg tp4 a5 (by simp) (by simp)
  have ed5 := edR_cg ed3 a45 (by simp) (by simp)
  have r60 : T5.2.2.1 60 = T3.2.2.1 60 := a45.2.2.1 60 (by simp)
  have f5 : ∀ k, grC L nl k → T5.2.2.1 60 k = Int32.ofNat (f k) ∧ grC L nl (f k) := fun k hk => by rw [r60]; exact f1 k hk
  have tg5 : TGe T5 L nl ps (fun i j => (f (gOf L nl i j) : Int)) := ⟨tp5, ed5, fun i j => by rw [(f5 _ (gOf_c hg i j).2.2.2).1, i_ofI]⟩
  refine Tr.bd (t_number hg tg5 f5 r1 r2 r3 f2) ?_
  rintro T6 ⟨lab, b1, b2, b3, a6⟩
  have sp := spn_le (L := L) (nl := nl) (st := st) (ln := ln) nr
  have hN := nP_le hg
  refine Tr.bd (P := fun U => agr [] [64] T6 U ∧ ∀ k, k < 400 → U.2.2.1 64 k = 0) (wh_cnt 400 (fun k a => a.2 = Int32.ofNat k ∧ agr [] [64] T6 a.1 ∧ ∀ j, j < k → a.1.2.2.1 64 j = 0) ?_ ?_ ⟨rfl, agr_refl, fun j hj => absurd hj (Nat.not_lt_zero _)⟩) ?_
  · rintro k ⟨U, _⟩ hk ⟨rfl, a, q⟩
    right
    dsimp only at a q ⊢
    rw [if_pos ((i_ltL (by omega) (by omega)).mpr hk), stI_n (by omega) (by omega), i_suc]; repeat (first | rw [Option.bind_some] | rw [Sum.elim_inl] | rw [Sum.elim_inr])
    refine ⟨_, rfl, rfl, agr_w a (by simp), fun j hj => ?_⟩
    dsimp only
    rw [wr_at]
    by_cases e : j = k
    · rw [if_pos ⟨rfl, e⟩]
    · rw [if_neg (fun z => e z.2)]; exact q j (by omega)
  · rintro ⟨U, _⟩ ⟨rfl, a, q⟩
    dsimp only at a q ⊢
    exact ⟨U, if_neg (fun z => by have := (i_ltL (by omega) (by omega)).mp z; omega), a, q⟩
  rintro T7 ⟨a7, q7⟩
  have a27 : agr [112, 113, 127, 130, 135, 117] [58, 59, 60, 66, 67, 68, 69, 70, 71, 72, 73, 74, 64] T1 T7 := agr_trans (agr_mono a2 (by simp) (by simp)) (agr_trans (agr_mono a3 (by simp) (by simp)) (agr_trans (agr_mono a45 (by simp) (by simp)) (agr_trans (agr_mono a6 (by simp) (by simp)) (agr_mono a7 (by simp) (by simp)))))
  have e118 : T7.1 118 = t.1 109 := (a27.1 118 (by simp)).trans w1
  have tg7 := TGe_cg b2 a7 (by simp) (by simp)
  have s7 : T7.1 117 = Int32.ofNat (spn L nl st ln nr) := (a7.1 117 (by simp)).trans b3
  have hcar : Tr (if T7.1 118 = 0 then some T7 else Option.bind (t_704 T7) (fun x22 => some x22)) (fun T8 => agr [] [64, 75] T7 T8 ∧ ∀ k, k < spn L nl st ln nr → T8.2.2.1 64 k = nmF b labo lab onm (spn L nl st ln nr) (spn Lo no sto lno nro) k) := by
    rw [e118, h9]
    cases b with
    | false =>
      rw [if_pos (show (if false = true then (1 : Int32) else 0) = 0 from rfl)]
      exact Tr.ok ⟨agr_refl, fun k hk => q7 k (by omega)⟩
    | true =>
      rw [if_neg (show ¬ (if true = true then (1 : Int32) else 0) = 0 by decide)]
      obtain ⟨g1, g2, g3, g4, ⟨pso, g5⟩, g6, g7, g8⟩ := hF rfl
      have spo := spn_le (L := Lo) (nl := no) (st := sto) (ln := lno) nro
      have hNo := nP_le g1
      have hO : TOl T7 Lo no labo := by
        refine ⟨(a27.1 119 (by simp)).trans (w2.trans g5.2.1.1), (a27.1 120 (by simp)).trans (w3.trans g5.2.1.2.1), fun k hk => by rw [a27.2.2.1 61 (by simp), w6.1]; exact g5.2.1.2.2.1 k hk, fun k hk => by rw [a27.2.2.1 62 (by simp), w6.2.1]; exact g5.2.1.2.2.2 k hk, fun i j => ?_⟩
        rw [a27.2.2.1 63 (by simp), w6.2.2.1]
        exact g5.2.2 i j
      obtain ⟨T8, e, x1, x2⟩ := t_carry hg b1.1 b1.2.1 (b1.w hg r1 r2) tg7.2.1 tg7.2.2 g1 g4.1 g4.2.1 (g4.w g1 g2 g3) hO (ns := spn L nl st ln nr) (os := spn Lo no sto lno nro) (onm := onm) s7 (by omega) ((a27.1 124 (by simp)).trans (w4.trans g7)) (by omega) (fun o ho => by rw [a27.2.2.1 65 (by simp), w6.2.2.2]; exact g8 o ho) (fun k hk => q7 k (by omega))
      rw [e]
      exact ⟨T8, rfl, x1, x2⟩
  refine Tr.bd hcar ?_
  rintro T8 ⟨a8, q8⟩
  repeat (first | rw [Option.bind_some] | rw [Sum.elim_inl] | rw [Sum.elim_inr])
  refine Tr.ok ⟨nr, st, ln, lab, ?_, ⟨hg, r1, r2, b1, ⟨ps, ?_⟩, ?_, ?_, q8⟩, rfl, rfl, ?_, ?_⟩
  · show T8.1 117 = _
    rw [a8.1 117 (by simp), s7]
  · exact TGe_cg tg7 (agr_p (agr_p (agr_mono (I' := [109, 110]) a8 (by simp) (fun c hc => hc)) (by simp)) (by simp)) (by simp) (by simp)
  · exact rgR_cg r3 (agr_trans (agr_mono a6 (I' := [117, 109, 110]) (R' := [60, 74, 64, 75]) (by simp) (by simp)) (agr_trans (agr_mono a7 (by simp) (by simp)) (agr_p (agr_p (agr_mono a8 (by simp) (by simp)) (by simp)) (by simp)))) (by simp) (by simp)
  · show T8.1 117 = _
    rw [a8.1 117 (by simp), s7]
  · show T8.1 111 = _
    rw [a8.1 111 (by simp), a27.1 111 (by simp), w5]
  · exact agr_trans (agr_mono a1 (by simp) (by simp)) (agr_trans (agr_mono a27 (by simp) (by simp)) (agr_p (agr_p (agr_mono a8 (by simp) (by simp)) (by simp)) (by simp)))
end
