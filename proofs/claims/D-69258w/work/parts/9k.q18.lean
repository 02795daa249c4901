/-! permits: the reference reckons a row -/
section
variable {t T : TS} {nf : Nat} {st : StP}
theorem fcI_cg (e : T.2.2.2 77 = t.2.2.2 77) (nm : Int64) (n : Nat) : fcI T nm n = fcI t nm n := by
  induction n with
  | zero => rfl
  | succ n ih => unfold fcI; rw [e, ih]
theorem stp1_cg (f : RkF t T) (k : Int32) (v : Int64) : stp1 T nf k v st = stp1 t nf k v st := by
  obtain ⟨_, _, f3, f4⟩ := f
  unfold stp1
  rw [fcI_cg (f4 77 (by decide) (by decide)), f3]
theorem pshR_len {r : Int32 × Int64 × Int64} {st' : StP} (h : pshR r st = .inr st') : st'.length = st.length + 1 := by
  unfold pshR at h
  by_cases z : r.1 = 0
  · rw [if_pos z] at h
    rw [← Sum.inr.inj h]; rfl
  · rw [if_neg z] at h; cases h
theorem stp1_len {k : Int32} {v : Int64} {l : List (Int32 × Int64)} {st' : StP} (h : stp1 t nf k v st = .inr st') (o : okS ((k, v) :: l) st.length) : okS l st'.length ∧ st'.length ≤ st.length + 1 := by
  unfold okS at o
  unfold stp1 at h
  by_cases k0 : k = 0
  · rw [if_pos k0] at h
    rw [if_pos (show (k, v).1 = 0 ∨ (k, v).1 = 1 from Or.inl k0)] at o
    rw [pshR_len h]
    exact ⟨o, Nat.le_refl _⟩
  · rw [if_neg k0] at h
    by_cases k1 : k = 1
    · rw [if_pos k1] at h
      rw [if_pos (show (k, v).1 = 0 ∨ (k, v).1 = 1 from Or.inr k1)] at o
      cases f : fcI t v nf with
      | none => rw [f] at h; cases h
      | some j =>
        rw [f] at h
        rw [pshR_len (show pshR (frR (t.2.2.1 78 j).toInt64 1) st = .inr st' from h)]
        exact ⟨o, Nat.le_refl _⟩
    · rw [if_neg k1] at h
      rw [if_neg (show ¬ ((k, v).1 = 0 ∨ (k, v).1 = 1) from fun w => w.elim k0 k1)] at o
      match st, o, h with
      | (c, d) :: (a, b) :: r, o, h =>
        have e := pshR_len (show pshR (frop k a b c d) r = .inr st' from h)
        rw [e]
        refine ⟨?_, by simp⟩
        have := o.2
        simpa using this
      | [_], o, _ => exact absurd o.1.2 (by simp)
      | [], o, _ => exact absurd o.1.2 (by simp)
theorem t_rck {l : List (Int32 × Int64)} {i : Nat} (rows : ∀ m (hm : m < l.length), t.2.2.1 87 (i + m) = l[m].1 ∧ t.2.2.2 88 (i + m) = l[m].2) (hi : i + l.length ≤ 800) (ok : okS l 0) (hl : l.length ≤ 250) (h0 : t.1 240 = 0) (h2 : t.1 202 = Int32.ofNat nf) (h40 : nf ≤ 40) : ∃ T, t_755 (Int32.ofNat i) (Int32.ofNat (i + l.length)) t = some T ∧ RkF t T ∧ RkR t T (evS t nf l []) := by
  unfold t_755
  rw [Option.bind_some]
  have s0 : RkF t (ptI t 239 0) := ⟨fun c h1 _ => if_neg h1, fun _ _ => rfl, rfl, fun _ _ _ => rfl⟩
  obtain ⟨T, e, r⟩ : Tr (wh (S := TS × Int32) (X := TS) (fun p5 => (if p5.2 < Int32.ofNat (i + l.length) then (if (p5.1.1 240) = 0 then Option.bind (rdI p5.1 87 800 p5.2) (fun x2 => Option.bind ((if x2 = 0 then Option.bind (rdL p5.1 88 800 p5.2) (fun x12 => Option.bind (t_756 x12 1 p5.1) (fun x13 => some x13)) else Option.bind (rdI p5.1 87 800 p5.2) (fun x3 => (if x3 = 1 then Option.bind (rdL p5.1 88 800 p5.2) (fun x6 => Option.bind (t_750 x6 p5.1) (fun x7 => (if x7 < 0 then Option.bind (rdL p5.1 88 800 p5.2) (fun x10 => Option.bind (t_757 1 x10 p5.1) (fun x11 => some x11)) else Option.bind (rdI p5.1 78 40 x7) (fun x8 => Option.bind (t_756 x8.toInt64 1 p5.1) (fun x9 => some x9))))) else Option.bind (rdI p5.1 87 800 p5.2) (fun x4 => Option.bind (t_758 x4 p5.1) (fun x5 => some x5)))))) (fun v62 => some (.inl (v62, p5.2 + 1)))) else some (.inr p5.1)) else some (.inr p5.1))) (ptI t 239 0, Int32.ofNat i)) (fun T => RkF t T ∧ RkR t T (evS t nf l [])) := by
    refine wh_cnt l.length (fun m (a : TS × Int32) => a.2 = Int32.ofNat (i + m) ∧ RkF t a.1 ∧ ((∃ st, a.1.1 240 = 0 ∧ a.1.2.1 241 = t.2.1 241 ∧ PiR a.1 st ∧ st.length ≤ m ∧ okS (l.drop m) st.length ∧ evS t nf l [] = evS t nf (l.drop m) st) ∨ ∃ o nm, o ≠ 0 ∧ evS t nf l [] = .inl (o, nm) ∧ a.1.1 240 = o ∧ a.1.2.1 241 = nm)) ?_ ?_ ⟨rfl, s0, Or.inl ⟨[], (ptI_240 t 0).trans h0, rfl, ⟨rfl, fun j p hp => by simp at hp, fun p hp => absurd hp List.not_mem_nil⟩, Nat.le_refl _, ok, rfl⟩⟩
    · rintro m ⟨S, _⟩ hm ⟨rfl, f, h⟩
      dsimp only at f h ⊢
      rw [if_pos ((i_lt (by omega) (by omega)).mpr (by omega))]
      rcases h with ⟨st, g0, g1, g2, g3, g4, g5⟩ | ⟨o, nm, o0, ev, g0, g1⟩
      · right
        rw [if_pos g0]
        have dr : l.drop m = l[m] :: l.drop (m + 1) := List.drop_eq_getElem_cons hm
        have b1 := okS_le g4
        rw [List.length_drop] at b1
        rw [dr] at g4 g5
        obtain ⟨r1, r2⟩ := rows m hm
        have wf : l[m].1 = 0 ∨ l[m].1 = 1 ∨ ((l[m].1 = 2 ∨ l[m].1 = 3 ∨ l[m].1 = 4 ∨ l[m].1 = 5) ∧ 2 ≤ st.length) := by
          have o := g4
          unfold okS at o
          by_cases z : l[m].1 = 0 ∨ l[m].1 = 1
          · rcases z with z | z
            · exact Or.inl z
            · exact Or.inr (Or.inl z)
          · rw [if_neg z] at o
            exact Or.inr (Or.inr o.1)
        obtain ⟨T, e, fT, rT⟩ := t_stp (t := S) (nf := nf) (fun v62 => (some (.inl (v62, Int32.ofNat (i + m) + 1)) : Option (Sum (TS × Int32) TS))) (i := i + m) (by omega) (k := l[m].1) (v := l[m].2) (by rw [f.2.2.1]; exact r1) (by rw [f.2.2.2 88 (by decide) (by decide)]; exact r2) wf g2 (by omega) g0 (by rw [f.1 202 (by decide) (by decide)]; exact h2) h40
        rw [e, i_suc]
        have fT' : RkF t T := ⟨fun c a b => (fT.1 c a b).trans (f.1 c a b), fun c a => (fT.2.1 c a).trans (f.2.1 c a), fT.2.2.1.trans f.2.2.1, fun c a b => (fT.2.2.2 c a b).trans (f.2.2.2 c a b)⟩
        rw [stp1_cg f] at rT
        have ev : evS t nf l [] = Sum.elim .inl (evS t nf (l.drop (m + 1))) (stp1 t nf l[m].1 l[m].2 st) := g5
        refine ⟨_, rfl, rfl, fT', ?_⟩
        rcases rT with ⟨st', q1, q2, q3, q4⟩ | ⟨o, nm, q1, q2, q3, q4⟩
        · obtain ⟨l1, l2⟩ := stp1_len q1 g4
          exact Or.inl ⟨st', q2, q3.trans g1, q4, by omega, l1, by rw [ev, q1]; rfl⟩
        · exact Or.inr ⟨o, nm, q2, by rw [ev, q1]; rfl, q3, q4⟩
      · left
        rw [if_neg (by rw [g0]; exact o0)]
        exact ⟨_, rfl, f, Or.inr ⟨o, nm, ev, o0, g0, g1⟩⟩
    · rintro ⟨S, _⟩ ⟨rfl, f, h⟩
      dsimp only at f h ⊢
      rw [if_neg (fun w => Nat.lt_irrefl _ ((i_lt (by omega) (by omega)).mp w))]
      refine ⟨_, rfl, f, ?_⟩
      rcases h with ⟨st, g0, g1, g2, g3, g4, g5⟩ | ⟨o, nm, o0, ev, g0, g1⟩
      · rw [List.drop_length] at g5
        exact Or.inl ⟨st, g5, g0, g1, g2⟩
      · exact Or.inr ⟨o, nm, ev, o0, g0, g1⟩
  rw [e, Option.bind_some]
  exact ⟨T, rfl, r⟩
end
