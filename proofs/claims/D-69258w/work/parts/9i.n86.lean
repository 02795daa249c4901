/-! the plan's readers: between, whole -/
section
variable {own : Nat → Nat} {s S : CS} {t T : TS}
theorem R2_ext {h h' : lHeap} (r : R2 h t) (e : ∀ a c, h a = some c → h' a = some c) : R2 h' t := by
  obtain ⟨L, nl, LC, LD, DC, nd, fo, be, co, fi, r1, r2, r3, r4, ⟨l1, l2, ⟨ml, l3⟩, l6⟩, ⟨d1, d2⟩, r7⟩ := r
  refine ⟨L, nl, LC, LD, DC, nd, fo, be, co, fi, e _ _ r1, r2, r3, r4, ⟨l1, l2, ⟨ml, e _ _ l3.1, fun l hl => e _ _ (l3.2.1 l hl), l3.2.2⟩, l6⟩, ⟨fun l hl => ?_, d2⟩, ?_⟩
  · obtain ⟨x1, x2, x3, ⟨m', x4⟩, x5⟩ := d1 l hl
    exact ⟨x1, x2, x3, ⟨m', e _ _ x4⟩, fun i hi => ⟨e _ _ (x5 i hi).1, (x5 i hi).2⟩⟩
  · rcases r7 with w | ⟨fd, w1, w2, w3, w4⟩
    · exact Or.inl w
    · exact Or.inr ⟨fd, w1, w2, w3, F2_up w4 (fun a c hb _ => e a c hb) (agr_refl (I := []) (R := [])) (by simp) (by simp) (by simp) (fun _ _ => rfl) (Nat.le_refl _) (fun _ _ => rfl) (fun _ _ => rfl) (fun h => ⟨h, rfl, fun _ _ => rfl⟩) (fun l hl => Or.inl ⟨hl, rfl⟩)⟩
theorem ow2_ext (hw : wfS s) (e : ∀ a c, s.1 a = some c → S.1 a = some c) (a : Nat) (c : lCell) (h : rs s.1 own 2 a = some c) : rs S.1 (ow2 own s.2.1) 2 a = some c := by
  obtain ⟨x1, x2⟩ := rs_some.mp h
  have := wf_lt hw x2
  exact rs_some.mpr ⟨by unfold ow2; rw [if_neg (by omega)]; exact x1, e a c x2⟩
/-- a reader that leaves new cells behind -/
theorem Rg.new {A : Type} {x : A} {c : Option (Sum (A × CS) (Nat × CS))} {d : Option (A × TS)} {n m : Nat} (hw : wfS s) (r : R2 (rs s.1 own 2) t) (ac : agr [0] [75] t T) (hT : T.1 0 = 0) (h1 : wfS S) (h2 : ∀ q, q < s.2.1 → S.1 q = s.1 q) (h3 : s.2.1 ≤ S.2.1) (hc : c = some (.inl (x, S))) (hd : d = some (x, T)) (hn : S.2.2.1 ≤ s.2.2.1 + n) (hm : S.2.2.2 ≤ s.2.2.2 + m) : Rg thr0 (fun X => X = 2) 2 (R2k t) own s t n m c d := by
  have e : ∀ a c, s.1 a = some c → S.1 a = some c := fun a c h => by rw [h2 a (wf_lt hw h)]; exact h
  refine Or.inl ⟨x, S, T, ow2 own s.2.1, hc, hd, hT, fun Z h1 h2 => agr_rt ac (fun c hc => ?_) (fun c hc => ?_), ⟨h3, fun q hq => if_neg (by omega), fun q hq _ => h2 q hq, fun q h1 h2 => if_pos h1, h1⟩, ⟨?_, ?_⟩, hn, hm⟩
  · simp only [List.mem_cons, List.not_mem_nil, or_false] at hc
    rw [hc]; exact fun w => h2 w.symm
  · simp only [List.mem_cons, List.not_mem_nil, or_false] at hc
    rw [hc]; exact fun w => h2 w.symm
  · obtain ⟨L, nl, LC, LD, DC, nd, fo, be, co, fi, r1, r2, r3, r4, ⟨l1, l2, l3, l6⟩, ⟨d1, d2⟩, r7⟩ := R2_ext r (ow2_ext hw e)
    refine ⟨L, nl, LC, LD, DC, nd, fo, be, co, fi, ?_, ?_, ?_, r4, ⟨l1, lnR_cg l2 ac (by simp) (by simp), l3, l6⟩, ⟨fun l hl => ?_, d2⟩, ?_⟩
    · rw [ac.1 110 (by simp), ac.1 111 (by simp), ac.1 1 (by simp)]; exact r1
    · rw [ac.1 1 (by simp)]; exact r2
    · rw [ac.1 111 (by simp)]; exact r3
    · obtain ⟨x1, x2, x3, x4, x5⟩ := d1 l hl
      refine ⟨by rw [ac.2.2.1 54 (by simp)]; exact x1, x2, x3, x4, fun i hi => ?_⟩
      unfold dcC okDoor
      rw [ac.2.2.1 55 (by simp), ac.2.2.1 56 (by simp), ac.2.2.1 57 (by simp)]
      exact x5 i hi
    · rw [ac.1 109 (by simp), ac.1 110 (by simp)]
      rcases r7 with w | ⟨fd, w1, w2, w3, w4⟩
      · exact Or.inl w
      · exact Or.inr ⟨fd, w1, w2, w3, F2_up w4 (fun a c hb _ => hb) ac (by simp) (by simp) (by simp) (fun l hl => by rw [ac.2.2.1 52 (by simp)]) (Nat.le_refl _) (fun _ _ => rfl) (fun _ _ => rfl) (fun h => ⟨by rw [← ac.1 110 (by simp)]; exact h, rfl, fun _ _ => rfl⟩) (fun l hl => Or.inl ⟨hl, rfl⟩)⟩
  · right
    refine agr_rt ac (fun c hc => ?_) (fun c hc => ?_)
    · simp only [List.mem_cons, List.not_mem_nil, or_false] at hc
      rw [hc]; decide
    · simp only [List.mem_cons, List.not_mem_nil, or_false] at hc
      rw [hc]; decide
theorem pl_between (hw : wfS s) (r : R2 (rs s.1 own 2) t) (v1 v2 : Int32) : Rg thr0 (fun X => X = 2) 2 (R2k t) own s t 500 2500 (c_911 102 v1 v2 s) (t_570 v1 v2 t) := by
  have hR : R2k t (rs s.1 own) t := ⟨r, Or.inr rfl⟩
  have rr := r
  obtain ⟨L, nl, LC, LD, DC, nd, fo, be, co, fi, r⟩ := r
  have g1 := (pl_lnk r).1
  unfold c_911 t_570
  rw [if_pos (isK_t g1 rfl)]
  rcases R2_fnd r with ⟨rfl, a1, a2⟩ | ⟨fd, Lf, nf, nr, st, ln, lab, fL, ou, ol, mp, pid, nid, aid, si, rc, rl, sp, sl, rfl, a1, a2, F, _⟩
  · refine Rg.arg (x := 0) (a := 0) (b := 0) hw hR (by rw [c_sp0 g1]; rfl) ?_ (Nat.zero_le _) (Nat.zero_le _)
    rw [t_sp0 a1, Option.bind_some, if_pos rfl, Option.bind_some, goes_0]; rfl
  have hle := FN_le F
  rw [c_sp1 F g1, t_sp1 a1 (FT_117 F.1), t_an1 a1 (FT_117 F.1)]
  by_cases z : inB v1 (Int32.ofNat (spn Lf nf st ln nr)) = true
  rotate_left
  · rw [if_neg z, if_neg z]
    exact Rg.arg (x := 0) (a := 0) (b := 0) hw hR rfl (by rw [Option.bind_some, if_pos rfl, Option.bind_some, goes_0]; rfl) (Nat.zero_le _) (Nat.zero_le _)
  obtain ⟨j, hj, rfl⟩ := inB_nat _ (by omega) z
  have rle := rgl_len F hj
  rw [if_pos z, if_pos z, Option.bind_some, Sum.elim_inl, i_clamp (by omega)]
  dsimp only
  rw [if_pos (isK_t g1 rfl), c_an1 F g1]
  by_cases w : anB v2 (Int32.ofNat (spn Lf nf st ln nr))
  rotate_left
  · rw [if_neg w, if_neg w]
    exact Rg.arg (x := 0) (a := 0) (b := 0) hw hR rfl (by rw [Option.bind_some, if_neg n10, Option.bind_some, if_pos rfl, Option.bind_some, goes_0]; rfl) (Nat.zero_le _) (Nat.zero_le _)
  rw [if_pos w, if_pos w, Option.bind_some, Sum.elim_inl, Option.bind_some, if_neg n10, Option.bind_some, if_neg n10, Option.bind_some]
  dsimp only
  rw [xI_o (x := t.1 110) g1 rfl rfl, Option.bind_some, st_may]
  rcases a2 with y | y
  · rw [if_pos y]
    exact Rg.sta (x := 0) (a := 0) (b := 0) hw hR rfl (by rw [g_n y]; rfl) (Nat.zero_le _) (Nat.zero_le _)
  rw [if_neg (by rw [y]; decide), g_y y, if_pos (isK_t g1 rfl)]
  obtain ⟨S, e1, n1, n2, n3, n4, n5, n6⟩ := c_nb hw F g1 hj
  rw [e1, Option.bind_some, Option.bind_some, Option.bind_some, if_neg n10]
  dsimp only
  have FS : FNx S t Lf nf nr st ln lab LC fd fL ou ol mp pid nid aid si rc rl sp sl := FN_ext F (fun a c e => by rw [n3 a (by have := wf_lt hw e; omega)]; exact e)
  obtain ⟨_, _, _, ⟨d3, _⟩, d4, _, _, dinj, dne, _⟩ := FS.2
  have cj := (d4 j hj).1
  have done : ∀ X : Int32, ∀ c d, c = some (.inl (X, S)) → d = some (X, ptI t 0 0) → Rg thr0 (fun X => X = 2) 2 (R2k t) own s t 500 2500 c d := fun X c d hc hd =>
    Rg.new hw rr (agr_p agr_refl (by simp)) rfl n1 (fun q hq => n3 q (by omega)) (by omega) hc hd (by omega) (by omega)
  rcases anB_c (by omega) w with rfl | ⟨k, hk, rfl⟩
  · rw [if_pos rfl, xI_o (x := -1) d3 rfl rfl, Option.bind_some, show (-1 : Int32) + 1 = Int32.ofNat 0 from rfl, aI_r n2 (by decide) rfl (by omega) (by omega) rfl, Option.bind_some, if_neg (dne j hj), if_pos (show nst S (.ref (sp j)) = true by unfold nst; dsimp only; rw [cj]; rfl)]
    refine done _ _ _ rfl ?_
    unfold t_718
    rw [if_neg (fun q => by
      have := congrArg Int32.toInt q
      rw [Int32.toInt_ofNat_of_lt (by omega)] at this
      have e1 : (-1 : Int32).toInt = -1 := rfl
      omega)]
    have tb := t_bes (FN_0 F.1) hj (show 0 < spn Lf nf st ln nr + 1 by omega)
    rw [show Int32.ofInt (((0 : Nat) : Int) - 1) = -1 from rfl] at tb
    rw [tb]; rfl
  · have kne : ¬ Int32.ofNat k = -1 := fun q => by
      have := congrArg Int32.toInt q
      rw [Int32.toInt_ofNat_of_lt (by omega)] at this
      have e1 : (-1 : Int32).toInt = -1 := rfl
      omega
    have tb := t_bes (FN_0 F.1) hj (show k + 1 < spn Lf nf st ln nr + 1 by omega)
    rw [show (((k + 1 : Nat) : Int) - 1) = (k : Int) by omega, i_ofI] at tb
    rw [if_neg kne, i_clamp (by omega), xI_o (x := Int32.ofNat k) (d4 k hk).1 rfl rfl, Option.bind_some, i_suc, aI_r n2 (by decide) rfl (by omega) (by omega) rfl, Option.bind_some]
    unfold t_718
    by_cases e : j = k
    · subst e
      rw [if_pos rfl, if_pos rfl, tb]
      exact done _ _ _ rfl rfl
    · rw [if_neg (fun q => e (dinj j k hj hk q)), if_pos (show nst S (.ref (sp j)) = true by unfold nst; dsimp only; rw [cj]; rfl), if_neg (fun q => e ((i_inj (by omega) (by omega)).mp q)), tb]
      exact done _ _ _ rfl rfl
end
