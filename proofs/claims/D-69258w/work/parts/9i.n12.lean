/-! the plan in the reference: cells are filled -/
section
variable {L : PLn} {nl : Nat} {t : TS}
/-- a pass so far: nothing has changed, or the sum is less -/
def PS (L : PLn) (nl : Nat) (t S : TS) (D : Nat → Nat → Prop) (T : TS) (v : Int32) : Prop := IV L nl t T ∧ ((v = 0 ∧ T = S ∧ ∀ c r, D c r → eqP L nl S c r) ∨ (v = 1 ∧ sm60 T < sm60 S))
theorem or3 {v w u : Int32} (h1 : v = 0 ∨ v = 1) (h2 : w = 0 ∨ w = 1) (h3 : u = 0 ∨ u = 1) : ((v = 0 ∧ w = 0 ∧ u = 0) ∧ (v ||| w) ||| u = 0) ∨ (¬ (v = 0 ∧ w = 0 ∧ u = 0) ∧ (v ||| w) ||| u = 1) := by
  rcases h1 with rfl | rfl <;> rcases h2 with rfl | rfl <;> rcases h3 with rfl | rfl <;> decide
theorem t_row (h : lnR t L nl) (he : edR t L nl) (hg : gdL L nl) {S T : TS} {v : Int32} {r : Nat} (hr : r ≤ (edY L nl).length) (hp : PS L nl t S (fun c q => c ≤ (edX L nl).length ∧ q < r) T v) : Tr (wh (S := TS × Int32 × Int32) (X := TS × Int32) (fun p26 => (if (p26.1.1 112) < p26.2.2 then some (.inr (p26.1, p26.2.1)) else Option.bind ((if p26.2.2 < (p26.1.1 112) then Option.bind (t_689 p26.2.2 (Int32.ofNat r) 1 p26.1) (fun x2 => (if x2 = 0 then Option.bind (t_690 ((42 * (Int32.ofNat r)) + p26.2.2) (((42 * (Int32.ofNat r)) + p26.2.2) + 1) p26.1) (fun x3 => (if x3.1 = 0 then some (x3.2, 0) else some (x3.2, 1))) else some (p26.1, 0))) else some (p26.1, 0))) (fun v57 => Option.bind ((if (Int32.ofNat r) < (v57.1.1 113) then Option.bind (t_689 p26.2.2 (Int32.ofNat r) 0 v57.1) (fun x4 => (if x4 = 0 then Option.bind (t_690 ((42 * (Int32.ofNat r)) + p26.2.2) (((42 * (Int32.ofNat r)) + p26.2.2) + 42) v57.1) (fun x5 => (if x5.1 = 0 then some (x5.2, 0) else some (x5.2, 1))) else some (v57.1, 0))) else some (v57.1, 0))) (fun v80 => some (.inl (v80.1, (p26.2.1 ||| v57.2) ||| v80.2, p26.2.2 + 1)))))) (T, v, 0)) (fun x => PS L nl t S (fun c q => c ≤ (edX L nl).length ∧ q < r + 1) x.1 x.2) := by
  have n1 := edX_len hg (Nat.le_refl nl)
  have n2 := edY_len hg (Nat.le_refl nl)
  refine wh_cnt ((edX L nl).length + 1) (fun k a => a.2.2 = Int32.ofNat k ∧ PS L nl t S (fun c q => c ≤ (edX L nl).length ∧ (q < r ∨ (q = r ∧ c < k))) a.1 a.2.1) ?_ ?_ ⟨rfl, hp.1, hp.2.imp (fun z => ⟨z.1, z.2.1, fun c q hcq => z.2.2 c q ⟨hcq.1, by omega⟩⟩) id⟩
  · rintro k ⟨T, v, _⟩ hk ⟨rfl, i, hv⟩
    right
    dsimp only at i hv ⊢
    rw [(IV_ed he i).1, if_neg (fun z => by have := (i_lt (by omega) (by omega)).mp z; omega)]
    obtain ⟨T1, v1, e1, i1, g1⟩ := t_edR h he hg i (c := k) (by omega) hr
    rw [(IV_ed he i).1] at e1
    rw [e1]; repeat (first | rw [Option.bind_some] | rw [Sum.elim_inl] | rw [Sum.elim_inr])
    dsimp only
    obtain ⟨T2, v2, e2, i2, g2⟩ := t_edU h he hg i1 (c := k) (by omega) hr
    rw [e2]; repeat (first | rw [Option.bind_some] | rw [Sum.elim_inl] | rw [Sum.elim_inr])
    dsimp only
    rw [i_suc]
    refine ⟨_, rfl, rfl, i2, ?_⟩
    have a0 : v = 0 ∨ v = 1 := by rcases hv with z | z <;> simp [z.1]
    have a1 : v1 = 0 ∨ v1 = 1 := by rcases g1 with z | z <;> simp [z.1]
    have a2 : v2 = 0 ∨ v2 = 1 := by rcases g2 with z | z <;> simp [z.1]
    rcases or3 a0 a1 a2 with ⟨⟨rfl, rfl, rfl⟩, z⟩ | ⟨w, z⟩
    · left
      rcases hv with ⟨_, rfl, q1⟩ | ⟨q, _⟩
      · rcases g1 with ⟨_, rfl, q2⟩ | ⟨q, _⟩
        · rcases g2 with ⟨_, rfl, q3⟩ | ⟨q, _⟩
          · refine ⟨z, rfl, fun c q hcq => ?_⟩
            by_cases e : q = r ∧ c = k
            · rw [e.1, e.2]; exact ⟨q2, q3⟩
            · exact q1 c q ⟨hcq.1, by omega⟩
          · exact absurd q (by decide)
        · exact absurd q (by decide)
      · exact absurd q (by decide)
    · right
      refine ⟨z, ?_⟩
      have s0 : sm60 T ≤ sm60 S := by
        rcases hv with ⟨_, rfl, _⟩ | ⟨_, q⟩
        · exact Nat.le_refl _
        · exact Nat.le_of_lt q
      have s1 : sm60 T1 ≤ sm60 T := by
        rcases g1 with ⟨_, rfl, _⟩ | ⟨_, q⟩
        · exact Nat.le_refl _
        · exact Nat.le_of_lt q
      have s2 : sm60 T2 ≤ sm60 T1 := by
        rcases g2 with ⟨_, rfl, _⟩ | ⟨_, q⟩
        · exact Nat.le_refl _
        · exact Nat.le_of_lt q
      show sm60 T2 < sm60 S
      rcases hv with ⟨rfl, _⟩ | ⟨_, q⟩
      · rcases g1 with ⟨rfl, _⟩ | ⟨_, q⟩
        · rcases g2 with ⟨rfl, _⟩ | ⟨_, q⟩
          · exact absurd ⟨rfl, rfl, rfl⟩ w
          · omega
        · omega
      · omega
  · rintro ⟨T, v, _⟩ ⟨rfl, i, hv⟩
    dsimp only at i hv ⊢
    refine ⟨(T, v), by rw [(IV_ed he i).1, if_pos ((i_lt (by omega) (by omega)).mpr (by omega))], i, ?_⟩
    exact hv.imp (fun z => ⟨z.1, z.2.1, fun c q hcq => z.2.2 c q ⟨hcq.1, by omega⟩⟩) id
theorem t_fill (h : lnR t L nl) (he : edR t L nl) (hg : gdL L nl) : Tr (t_688 t) (fun T => lnR T L nl ∧ edR T L nl ∧ agr [] [60] t T ∧ ∃ f : Nat → Nat, (∀ k, grC L nl k → T.2.2.1 60 k = Int32.ofNat (f k) ∧ grC L nl (f k)) ∧ gLab (gS L nl) (2 * nP L nl) (fun i j => (f (gOf L nl i j) : Int))) := by
  have n1 := edX_len hg (Nat.le_refl nl)
  have n2 := edY_len hg (Nat.le_refl nl)
  unfold t_688
  refine Tr.bd (P := fun T => IV L nl t T) (wh_cnt 1764 (fun k a => a.2 = Int32.ofNat k ∧ agr [] [60] t a.1 ∧ ∀ j, j < k → a.1.2.2.1 60 j = Int32.ofNat j) ?_ ?_ ⟨rfl, agr_refl, fun j hj => absurd hj (Nat.not_lt_zero _)⟩) ?_
  · rintro k ⟨T, _⟩ hk ⟨rfl, a, q⟩
    right
    dsimp only at a q ⊢
    rw [if_pos ((i_ltL (by omega) (by omega)).mpr hk), stI_n hk (by omega)]; repeat (first | rw [Option.bind_some] | rw [Sum.elim_inl] | rw [Sum.elim_inr])
    refine ⟨_, rfl, i_suc k, agr_w a (by simp), fun j hj => ?_⟩
    dsimp only
    rw [wr_at]
    by_cases e : j = k
    · rw [if_pos ⟨rfl, e⟩, e]
    · rw [if_neg (fun z => e z.2)]; exact q j (by omega)
  · rintro ⟨T, _⟩ ⟨rfl, a, q⟩
    dsimp only at a q ⊢
    refine ⟨T, if_neg (fun z => by have := (i_ltL (by omega) (by omega)).mp z; omega), a, fun k hk => ⟨k, q k ?_, hk, cnG_refl⟩⟩
    exact grC_lt hg hk
  · intro T0 i0
    refine Tr.bd (P := fun T => IV L nl t T ∧ ∀ c r, c ≤ (edX L nl).length → r ≤ (edY L nl).length → eqP L nl T c r) (wh_ind (P := fun a => IV L nl t a.1 ∧ (a.2 = 1 ∨ (a.2 = 0 ∧ ∀ c r, c ≤ (edX L nl).length → r ≤ (edY L nl).length → eqP L nl a.1 c r))) (fun a => 2 * sm60 a.1 + bN a.2) ?_ ⟨i0, Or.inl rfl⟩) ?_
    · rintro ⟨T, v⟩ ⟨i, hv⟩
      dsimp only at i hv ⊢
      rcases hv with rfl | ⟨rfl, q⟩
      · right
        rw [if_neg (by decide)]
        have key : Tr (wh (S := TS × Int32 × Int32) (X := TS × Int32) (fun p20 => (if (p20.1.1 113) < p20.2.2 then some (.inr (p20.1, p20.2.1)) else Option.bind (wh (S := TS × Int32 × Int32) (X := TS × Int32) (fun p26 => (if (p26.1.1 112) < p26.2.2 then some (.inr (p26.1, p26.2.1)) else Option.bind ((if p26.2.2 < (p26.1.1 112) then Option.bind (t_689 p26.2.2 p20.2.2 1 p26.1) (fun x2 => (if x2 = 0 then Option.bind (t_690 ((42 * p20.2.2) + p26.2.2) (((42 * p20.2.2) + p26.2.2) + 1) p26.1) (fun x3 => (if x3.1 = 0 then some (x3.2, 0) else some (x3.2, 1))) else some (p26.1, 0))) else some (p26.1, 0))) (fun v57 => Option.bind ((if p20.2.2 < (v57.1.1 113) then Option.bind (t_689 p26.2.2 p20.2.2 0 v57.1) (fun x4 => (if x4 = 0 then Option.bind (t_690 ((42 * p20.2.2) + p26.2.2) (((42 * p20.2.2) + p26.2.2) + 42) v57.1) (fun x5 => (if x5.1 = 0 then some (x5.2, 0) else some (x5.2, 1))) else some (v57.1, 0))) else some (v57.1, 0))) (fun v80 => some (.inl (v80.1, (p26.2.1 ||| v57.2) ||| v80.2, p26.2.2 + 1)))))) (p20.1, p20.2.1, 0)) (fun v84 => some (.inl (v84.1, v84.2, p20.2.2 + 1))))) (T, 0, 0)) (fun x => PS L nl t T (fun c r => c ≤ (edX L nl).length ∧ r ≤ (edY L nl).length) x.1 x.2) := by
          refine wh_cnt ((edY L nl).length + 1) (fun k a => a.2.2 = Int32.ofNat k ∧ PS L nl t T (fun c q => c ≤ (edX L nl).length ∧ q < k) a.1 a.2.1) ?_ ?_ ⟨rfl, i, Or.inl ⟨rfl, rfl, fun c q hcq => absurd hcq.2 (Nat.not_lt_zero _)⟩⟩
          · rintro k ⟨U, v, _⟩ hk ⟨rfl, hp⟩
            right
            dsimp only at hp ⊢
            rw [(IV_ed he hp.1).2.1, if_neg (fun z => by have := (i_lt (by omega) (by omega)).mp z; omega)]
            obtain ⟨x, e, hx⟩ := t_row h he hg (r := k) (by omega) hp
            rw [e]; repeat (first | rw [Option.bind_some] | rw [Sum.elim_inl] | rw [Sum.elim_inr])
            exact ⟨_, rfl, i_suc k, hx⟩
          · rintro ⟨U, v, _⟩ ⟨rfl, hp⟩
            dsimp only at hp ⊢
            refine ⟨(U, v), by rw [(IV_ed he hp.1).2.1, if_pos ((i_lt (by omega) (by omega)).mpr (by omega))], hp.1, ?_⟩
            exact hp.2.imp (fun z => ⟨z.1, z.2.1, fun c q hcq => z.2.2 c q ⟨hcq.1, by omega⟩⟩) id
        obtain ⟨⟨U, w⟩, e, i2, hw⟩ := key
        rw [e]; repeat (first | rw [Option.bind_some] | rw [Sum.elim_inl] | rw [Sum.elim_inr])
        refine ⟨_, rfl, ⟨i2, ?_⟩, ?_⟩
        · rcases hw with ⟨a, b, c⟩ | ⟨a, b⟩
          · right
            refine ⟨a, fun c' r h1 h2 => ?_⟩
            have b : U = T := b
            show eqP L nl U c' r
            rw [b]
            exact c c' r ⟨h1, h2⟩
          · exact Or.inl a
        · show 2 * sm60 U + bN w < 2 * sm60 T + bN 1
          have o : bN 1 = 1 := by decide
          rcases hw with ⟨a, b, c⟩ | ⟨a, b⟩
          · have b : U = T := b
            have a : w = 0 := a
            rw [a, b, o]
            have : bN 0 = 0 := by decide
            omega
          · have b : sm60 U < sm60 T := b
            have a : w = 1 := a
            rw [a, o]
            omega
      · left
        exact ⟨T, if_pos rfl, i, q⟩
    · rintro T ⟨i, q⟩
      refine Tr.ok ⟨IV_ln h i, IV_ed he i, i.1, fun k => bN (T.2.2.1 60 k), ?_, ?_⟩
      · intro k hk
        obtain ⟨k', e, g, _⟩ := i.2 k hk
        have := grC_lt hg g
        dsimp only
        rw [e, bN_of (by omega)]
        exact ⟨rfl, g⟩
      · refine gLab_of (f := fun k => bN (T.2.2.1 60 k)) hg (fun k hk => ?_) (fun c r hc hr hw => ?_) (fun c r hc hr hw => ?_)
        · obtain ⟨k', e, g, g2⟩ := i.2 k hk
          have := grC_lt hg g
          rw [e, bN_of (by omega)]
          exact ⟨g, g2⟩
        · rw [(q c r (Nat.le_of_lt hc) hr).1 hc hw]
        · rw [(q c r hc (Nat.le_of_lt hr)).2 hr hw]
end
