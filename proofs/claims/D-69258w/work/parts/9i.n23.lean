/-! the plan in the reference: spaces get their numbers, the code -/
section
variable {L : PLn} {nl nr : Nat} {t T : TS} {ps : List Nat} {st ln : Nat → Nat}
theorem rgR_cg {n : Nat} {I R : List Nat} (h : rgR t n st ln) (a : agr I R t T) (h0 : 135 ∉ I) (h1 : 72 ∉ R ∧ 73 ∉ R) : rgR T n st ln := by
  unfold rgR
  rw [a.1 _ h0, a.2.2.1 _ h1.1, a.2.2.1 _ h1.2]
  exact h
theorem ldF_i {lab : Int → Int → Int} (k : Nat) (z : Int) (hk : k ≤ 1000) : Int32.ofInt (ldF L nl st ln lab k z) = -2 ↔ ldF L nl st ln lab k z = -2 := by
  constructor
  · intro h
    unfold ldF at h ⊢
    split at h
    · exact absurd h (by decide)
    · split at h
      · rename_i _ e
        rw [i_ofI] at h
        have := congrArg Int32.toInt h
        have h3 := spn_le (L := L) (nl := nl) (st := st) (ln := ln) e.choose
        have h4 := e.choose_spec.1
        rw [i_toInt (by omega)] at this
        have h2 : (-2 : Int32).toInt = -2 := by decide
        omega
      · rename_i a b
        rw [if_neg a, dif_neg b]
  · intro h; rw [h]; decide
theorem t_number (hg : gdL L nl) {f : Nat → Nat} (hT : TGe t L nl ps (fun i j => (f (gOf L nl i j) : Int))) (hf : ∀ k, grC L nl k → t.2.2.1 60 k = Int32.ofNat (f k) ∧ grC L nl (f k)) (hR : RF L nl nr st ln) (hn : nr ≤ nP L nl) (hr : rgR t nr st ln) (hl : gLab (gS L nl) (2 * nP L nl) (fun i j => (f (gOf L nl i j) : Int))) : Tr (t_701 t) (fun T => ∃ lab, LabN L nl nr st ln lab ∧ TGe T L nl ps lab ∧ T.1 117 = Int32.ofNat (spn L nl st ln nr) ∧ agr [117] [60, 74] t T) := by
  have hN := nP_le hg
  have n1 := edX_len hg (Nat.le_refl nl)
  have n2 := edY_len hg (Nat.le_refl nl)
  have go := gOf_c hg (-1) (-1)
  have e0 : gOf L nl (-1) (-1) = 0 := by
    unfold gOf
    rw [colO_0 (fun x _ => by omega), colO_0 (fun x _ => by omega)]
  have g0 : grC L nl 0 := by rw [← e0]; exact go.2.2.2
  unfold t_701
  rw [Option.bind_some, show rdI (ptI t 117 0) 60 1764 0 = some (t.2.2.1 60 0) from rdI_n (n := 0) (by omega) (by omega), (hf 0 g0).1]; repeat (first | rw [Option.bind_some] | rw [Sum.elim_inl] | rw [Sum.elim_inr])
  have f0 := grC_lt hg (hf 0 g0).2
  have out : ((f 0 : Nat) : Int) = (fun i j => (f (gOf L nl i j) : Int)) (-1) (-1) := by show ((f 0 : Nat) : Int) = (f (gOf L nl (-1) (-1)) : Int); rw [e0]
  generalize hlab : (fun i j : Int => (f (gOf L nl i j) : Int)) = lab at *
  have labn : ∀ i j, lab i j = (f (gOf L nl i j) : Nat) := fun i j => by rw [← hlab]
  refine Tr.bd (P := fun U => agr [117] [74] t U ∧ U.1 117 = 0 ∧ ∀ s, s < 1764 → U.2.2.1 74 s = -2) (wh_cnt 1764 (fun k a => a.2 = Int32.ofNat k ∧ agr [117] [74] t a.1 ∧ a.1.1 117 = 0 ∧ ∀ s, s < k → a.1.2.2.1 74 s = -2) ?_ ?_ ⟨rfl, agr_p agr_refl (by simp), rfl, fun s hs => absurd hs (Nat.not_lt_zero _)⟩) ?_
  · rintro k ⟨U, _⟩ hk ⟨rfl, a, q1, q2⟩
    right
    dsimp only at a q1 q2 ⊢
    rw [if_pos ((i_ltL (by omega) (by omega)).mpr hk), stI_n (by omega) (by omega)]; repeat (first | rw [Option.bind_some] | rw [Sum.elim_inl] | rw [Sum.elim_inr])
    refine ⟨_, rfl, i_suc k, agr_w a (by simp), q1, fun s hs => ?_⟩
    dsimp only
    rw [wr_at]
    by_cases e : s = k
    · rw [if_pos ⟨rfl, e⟩]
    · rw [if_neg (fun z => e z.2)]; exact q2 s (by omega)
  · rintro ⟨U, _⟩ ⟨rfl, a, q1, q2⟩
    dsimp only at a q1 q2 ⊢
    exact ⟨U, if_neg (fun z => by have := (i_ltL (by omega) (by omega)).mp z; omega), a, q1, q2⟩
  rintro U ⟨a, q1, q2⟩
  rw [stI_n f0 (by omega)]; repeat (first | rw [Option.bind_some] | rw [Sum.elim_inl] | rw [Sum.elim_inr])
  refine Tr.bd (P := fun V => agr [117] [74] t V ∧ V.1 117 = Int32.ofNat (spn L nl st ln nr) ∧ ∀ s : Nat, s < 1764 → V.2.2.1 74 s = Int32.ofInt (ldF L nl st ln lab nr s)) (wh_cnt nr (fun k a => a.2 = Int32.ofNat k ∧ agr [117] [74] t a.1 ∧ a.1.1 117 = Int32.ofNat (spn L nl st ln k) ∧ ∀ s : Nat, s < 1764 → a.1.2.2.1 74 s = Int32.ofInt (ldF L nl st ln lab k s)) ?_ ?_ ⟨rfl, agr_w a (by simp), ?_, fun s hs => ?_⟩) ?_
  · rintro k ⟨V, _⟩ hk ⟨rfl, b, w1, w2⟩
    right
    dsimp only at b w1 w2 ⊢
    have hV := TGe_cg hT b (by simp) (by simp)
    have hrV := rgR_cg hr b (by simp) (by simp)
    rw [hrV.1, if_pos ((i_lt (by omega) (by omega)).mpr hk), rdI_n (by omega) (by omega), (hrV.2 k hk).1]; repeat (first | rw [Option.bind_some] | rw [Sum.elim_inl] | rw [Sum.elim_inr])
    rw [t_lft hg hl hV (hR.1 k hk).1]; repeat (first | rw [Option.bind_some] | rw [Sum.elim_inl] | rw [Sum.elim_inr])
    obtain ⟨i, j, ec⟩ := Fam.cell (RF_fam hg hR hl) hk
    have ec : gLL (gS L nl) lab (st k) = (f (gOf L nl i j) : Nat) := by rw [← labn]; exact ec.symm
    have lt := grC_lt hg (hf _ (gOf_c hg i j).2.2.2).2
    have efc : fcS L nl st lab k = (f (gOf L nl i j) : Nat) := ec
    rw [ec, i_ofI, rdI_n lt (by omega), w2 _ lt]; repeat (first | rw [Option.bind_some] | rw [Sum.elim_inl] | rw [Sum.elim_inr])
    rw [i_suc]
    obtain ⟨s1, s2⟩ := ldF_succ hg hR hl hk
    rw [efc] at s1 s2
    have sl := spn_le (L := L) (nl := nl) (st := st) (ln := ln) k
    by_cases z : lfB L nl st ln k = true
    · obtain ⟨y1, y2⟩ := s1 z
      rw [if_pos ((ldF_i k _ (by omega)).mpr y1), w1, stI_n lt (by omega)]; repeat (first | rw [Option.bind_some] | rw [Sum.elim_inl] | rw [Sum.elim_inr])
      rw [show (wrI V 74 (f (gOf L nl i j)) (Int32.ofNat (spn L nl st ln k))).1 117 = Int32.ofNat (spn L nl st ln k) from w1, i_suc]
      refine ⟨_, rfl, rfl, agr_p (agr_w b (by simp)) (by simp), by rw [spn_succ, if_pos z]; rfl, fun s hs => ?_⟩
      dsimp only
      rw [pt_2, wr_at, y2]
      by_cases e : s = f (gOf L nl i j)
      · rw [if_pos ⟨rfl, e⟩, if_pos (by rw [e]), i_ofI]
      · rw [if_neg (fun q => e q.2), if_neg (by omega), w2 s hs]
    · obtain ⟨y1, y2⟩ := s2 z
      rw [if_neg (fun q => y1 ((ldF_i k _ (by omega)).mp q))]; repeat (first | rw [Option.bind_some] | rw [Sum.elim_inl] | rw [Sum.elim_inr])
      refine ⟨_, rfl, rfl, b, by rw [spn_succ, if_neg z]; exact w1, fun s hs => ?_⟩
      rw [y2]; exact w2 s hs
  · rintro ⟨V, _⟩ ⟨rfl, b, w1, w2⟩
    dsimp only at b w1 w2 ⊢
    have hrV := rgR_cg hr b (by simp) (by simp)
    exact ⟨V, by rw [hrV.1, if_neg (fun z => by have := (i_lt (by omega) (by omega)).mp z; omega)], b, w1, w2⟩
  · exact q1
  · dsimp only
    rw [wr_at]
    unfold ldF
    by_cases e : s = f 0
    · rw [if_pos ⟨rfl, e⟩, if_pos (by rw [e]; exact out)]; rfl
    · rw [if_neg (fun q => e q.2), if_neg (by rw [← out]; omega), dif_neg (by rintro ⟨k', h, _⟩; exact absurd h (Nat.not_lt_zero _)), q2 s hs]; rfl
  rintro V ⟨b, w1, w2⟩
  have c112 : V.1 112 = Int32.ofNat (edX L nl).length := (b.1 112 (by simp)).trans hT.2.1.1
  have c113 : V.1 113 = Int32.ofNat (edY L nl).length := (b.1 113 (by simp)).trans hT.2.1.2.1
  have c60 : ∀ k, grC L nl k → V.2.2.1 60 k = Int32.ofNat (f k) := fun k hk => by rw [b.2.2.1 60 (by simp)]; exact (hf k hk).1
  refine Tr.bd (P := fun W => agr [] [60] V W ∧ ∀ c r, c ≤ (edX L nl).length → r ≤ (edY L nl).length → W.2.2.1 60 (42 * r + c) = Int32.ofInt (ldF L nl st ln lab nr (f (42 * r + c)))) (wh_cnt ((edY L nl).length + 1) (fun k a => a.2 = Int32.ofNat k ∧ agr [] [60] V a.1 ∧ ∀ c r, c ≤ (edX L nl).length → r ≤ (edY L nl).length → a.1.2.2.1 60 (42 * r + c) = if r < k then Int32.ofInt (ldF L nl st ln lab nr (f (42 * r + c))) else Int32.ofNat (f (42 * r + c))) ?_ ?_ ⟨rfl, agr_refl, fun c r hc hr => ?_⟩) ?_
  · rintro k ⟨W, _⟩ hk ⟨rfl, d, v1⟩
    right
    dsimp only at d v1 ⊢
    rw [d.1 113 (by simp), c113, if_neg (fun z => by have := (i_lt (by omega) (by omega)).mp z; omega), i_suc]
    refine Exists.elim (wh_cnt (f := (fun p66 : TS × Int32 => (if (p66.1.1 112) < p66.2 then some (Sum.inr (α := TS × Int32) p66.1) else Option.bind (rdI p66.1 60 1764 ((42 * Int32.ofNat k) + p66.2)) (fun x10 => Option.bind (rdI p66.1 74 1764 x10) (fun x11 => Option.bind (stI p66.1 60 1764 ((42 * Int32.ofNat k) + p66.2) x11) (fun s12 => some (.inl (s12, p66.2 + 1)))))))) (a := (W, 0)) (Q := fun W' => agr [] [60] V W' ∧ ∀ c r, c ≤ (edX L nl).length → r ≤ (edY L nl).length → W'.2.2.1 60 (42 * r + c) = if r < k + 1 then Int32.ofInt (ldF L nl st ln lab nr (f (42 * r + c))) else Int32.ofNat (f (42 * r + c))) ((edX L nl).length + 1) (fun j a => a.2 = Int32.ofNat j ∧ agr [] [60] V a.1 ∧ ∀ c r, c ≤ (edX L nl).length → r ≤ (edY L nl).length → a.1.2.2.1 60 (42 * r + c) = if r < k ∨ (r = k ∧ c < j) then Int32.ofInt (ldF L nl st ln lab nr (f (42 * r + c))) else Int32.ofNat (f (42 * r + c))) ?_ ?_ ⟨rfl, d, fun c r hc hr => ?_⟩) ?_
    · rintro j ⟨X, _⟩ hj ⟨rfl, x1, x2⟩
      right
      dsimp only at x1 x2 ⊢
      have gr : grC L nl (42 * k + j) := by unfold grC; omega
      have lt := grC_lt hg (hf _ gr).2
      have lt2 := grC_lt hg gr
      rw [x1.1 112 (by simp), c112, if_neg (fun z => by have := (i_lt (by omega) (by omega)).mp z; omega), i_suc, i_mulL, i_add, rdI_n (by omega) (by omega), x2 j k (by omega) (by omega), if_neg (by omega)]; repeat (first | rw [Option.bind_some] | rw [Sum.elim_inl] | rw [Sum.elim_inr])
      rw [rdI_n lt (by omega), x1.2.2.1 74 (by simp), w2 _ lt]; repeat (first | rw [Option.bind_some] | rw [Sum.elim_inl] | rw [Sum.elim_inr])
      rw [stI_n lt2 (by omega)]; repeat (first | rw [Option.bind_some] | rw [Sum.elim_inl] | rw [Sum.elim_inr])
      refine ⟨_, rfl, rfl, agr_w x1 (by simp), fun c r hc hr => ?_⟩
      dsimp only
      rw [wr_at]
      by_cases e : 42 * r + c = 42 * k + j
      · have er : r = k := by omega
        have ej : c = j := by omega
        rw [if_pos ⟨rfl, e⟩, if_pos (by omega), e]
      · rw [if_neg (fun q => e q.2), x2 c r hc hr]
        by_cases y : r < k ∨ (r = k ∧ c < j)
        · rw [if_pos y, if_pos (by omega)]
        · rw [if_neg y, if_neg (by omega)]
    · rintro ⟨X, _⟩ ⟨rfl, x1, x2⟩
      dsimp only at x1 x2 ⊢
      refine ⟨X, by rw [x1.1 112 (by simp), c112, if_pos ((i_lt (by omega) (by omega)).mpr (by omega))], x1, fun c r hc hr => ?_⟩
      rw [x2 c r hc hr]
      by_cases y : r < k + 1
      · rw [if_pos y, if_pos (by omega)]
      · rw [if_neg y, if_neg (by omega)]
    · rw [v1 c r hc hr]
      by_cases y : r < k
      · rw [if_pos y, if_pos (Or.inl y)]
      · rw [if_neg y, if_neg (by omega)]
    · rintro W' ⟨e, x1, x2⟩
      rw [e]; repeat (first | rw [Option.bind_some] | rw [Sum.elim_inl] | rw [Sum.elim_inr])
      exact ⟨_, rfl, rfl, x1, x2⟩
  · rintro ⟨W, _⟩ ⟨rfl, d, v1⟩
    dsimp only at d v1 ⊢
    refine ⟨W, by rw [d.1 113 (by simp), c113, if_pos ((i_lt (by omega) (by omega)).mpr (by omega))], d, fun c r hc hr => ?_⟩
    rw [v1 c r hc hr, if_pos (by omega)]
  · rw [if_neg (Nat.not_lt_zero _)]
    exact c60 _ (by unfold grC; omega)
  · rintro W ⟨d, v1⟩
    have aW : agr [117] [60, 74] t W := agr_trans (agr_mono b (by simp) (by simp)) (agr_mono d (by simp) (by simp))
    refine Tr.ok ⟨fun i j => ldF L nl st ln lab nr (lab i j), ldF_LabN hg hR hl, ⟨TPl_cg hT.1 aW (by simp) (by simp), edR_cg hT.2.1 aW (by simp) (by simp), fun i j => ?_⟩, (d.1 117 (by simp)).trans w1, aW⟩
    have := colO_le (edX L nl) i
    have := colO_le (edY L nl) j
    show W.2.2.1 60 (gOf L nl i j) = Int32.ofInt (ldF L nl st ln lab nr (lab i j))
    rw [labn]
    exact v1 _ _ (by omega) (by omega)
end
