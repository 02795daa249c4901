/-! the plan's readers: ways, both sides -/
section
variable {own : Nat → Nat} {s S : CS} {t T : TS}
theorem an_nd {v : Int32} {N ou : Nat} {sp : Nat → Nat} (hN : N < 100000) (h : anB v (Int32.ofNat N)) : ∃ i, i ≤ N ∧ (if v = -1 then ou else sp v.toNatClampNeg) = ndC ou sp i ∧ v + 1 = Int32.ofNat i := by
  rcases anB_c (by omega) h with rfl | ⟨k, hk, rfl⟩
  · exact ⟨0, Nat.zero_le _, by rw [if_pos rfl, ndC_0], rfl⟩
  · refine ⟨k + 1, hk, ?_, i_suc k⟩
    rw [if_neg (fun q => ?_), ndC_s, i_clamp (by omega)]
    have := congrArg Int32.toInt q
    rw [Int32.toInt_ofNat_of_lt (by omega)] at this
    have e1 : (-1 : Int32).toInt = -1 := rfl
    omega
theorem pl_way (hw : wfS s) (r : R2 (rs s.1 own 2) t) (v1 v2 : Int32) : Rg thr0 (fun X => X = 2) 2 (R2k t) own s t 6700 41000 (c_914 102 v1 v2 s) (t_571 v1 v2 t) := by
  have hR : R2k t (rs s.1 own) t := ⟨r, Or.inr rfl⟩
  have rr := r
  obtain ⟨L, nl, LC, LD, DC, nd, fo, be, co, fi, r⟩ := r
  obtain ⟨g1, _, g3, g4, g5, g6⟩ := pl_lnk r
  unfold c_914 t_571
  rw [if_pos (isK_t g1 rfl)]
  rcases R2_fnd r with ⟨rfl, a1, a2⟩ | ⟨fd, Lf, nf, nr, st, ln, lab, fL, ou, ol, mp, pid, nid, aid, si, rc, rl, sp, sl, rfl, a1, a2, F, hnf, _, hfr, _⟩
  · refine Rg.arg (x := 0) (a := 0) (b := 0) hw hR (by rw [c_an0 g1]; rfl) ?_ (Nat.zero_le _) (Nat.zero_le _)
    rw [t_an0 a1, Option.bind_some, if_pos rfl, Option.bind_some, goes_0]; rfl
  have hle := FN_le F
  have s100 := spn_100 F.1.1 F.1.2.1 F.1.2.2.2.1.1
  rw [c_an1 F g1, t_an1 a1 (FT_117 F.1), t_an1 a1 (FT_117 F.1)]
  by_cases z : anB v1 (Int32.ofNat (spn Lf nf st ln nr))
  rotate_left
  · rw [if_neg z, if_neg z]
    exact Rg.arg (x := 0) (a := 0) (b := 0) hw hR rfl (by rw [Option.bind_some, if_pos rfl, Option.bind_some, goes_0]; rfl) (Nat.zero_le _) (Nat.zero_le _)
  obtain ⟨i1, hi1, en1, ev1⟩ := an_nd (ou := ou) (sp := sp) (by omega) z
  rw [if_pos z, if_pos z, Option.bind_some, Sum.elim_inl, en1]
  dsimp only
  rw [if_pos (isK_t g1 rfl), c_an1 F g1]
  by_cases w : anB v2 (Int32.ofNat (spn Lf nf st ln nr))
  rotate_left
  · rw [if_neg w, if_neg w]
    exact Rg.arg (x := 0) (a := 0) (b := 0) hw hR rfl (by rw [Option.bind_some, if_neg n10, Option.bind_some, if_pos rfl, Option.bind_some, goes_0]; rfl) (Nat.zero_le _) (Nat.zero_le _)
  obtain ⟨i2, hi2, en2, ev2⟩ := an_nd (ou := ou) (sp := sp) (by omega) w
  rw [if_pos w, if_pos w, Option.bind_some, Sum.elim_inl, en2, Option.bind_some, if_neg n10, Option.bind_some, if_neg n10, Option.bind_some]
  dsimp only
  rw [xI_o (x := t.1 110) g1 rfl rfl, Option.bind_some, st_may]
  rcases a2 with y | y
  · rw [if_pos y]
    exact Rg.sta (x := 0) (a := 0) (b := 0) hw hR rfl (by rw [g_n y]; rfl) (Nat.zero_le _) (Nat.zero_le _)
  rw [if_neg (by rw [y]; decide), g_y y]
  obtain ⟨rfl, hL⟩ := hfr y
  obtain ⟨_, _, _, _, _, ⟨d1, _⟩, _⟩ := r
  have door : ∀ l, l < nf → ∀ i, i < nd l → ∃ a b : Nat, t.2.2.1 55 (6 * l + i) = Int32.ofNat a ∧ t.2.2.1 56 (6 * l + i) = Int32.ofNat b ∧ a < 100 ∧ b < 100 := fun l hl i hi => by
    obtain ⟨_, _, _, _, x5⟩ := d1 l hl
    obtain ⟨_, _, a, b, r', o1, o2, _, o4, o5, _⟩ := x5 i hi
    have := (g6 l hl).1
    have hN : pN L l ≤ 24 := by
      obtain ⟨_, c1, c2⟩ := this
      unfold pHX at c1
      unfold pHY at c2
      by_cases z : pFl L l = true
      · rw [if_pos z] at c1; omega
      · rw [if_neg z] at c2; omega
    exact ⟨a, b, o1, o2, by omega, by omega⟩
  have H : DrH s t Lf nf LC LD DC nd := fun l hl => by
    obtain ⟨x1, x2, x3, ⟨m', x4⟩, x5⟩ := d1 l hl
    refine ⟨by rw [lcC_c (hL l hl) rfl]; exact g3 l hl, x2, ⟨m', (rs_some.mp x4).2⟩, fun i hi => ?_⟩
    obtain ⟨a, b, o1, o2, o3, o4⟩ := door l hl i hi
    refine ⟨a, b, .int (t.2.2.1 57 (6 * l + i)), ?_, o1, o2, o3, o4⟩
    rw [← o1, ← o2]
    exact (rs_some.mp (x5 i hi).1).2
  have hd : drR (ptI t 0 0) Lf nf nd := fun l hl => by
    obtain ⟨_, l1, l2, _, _⟩ := (g6 l hl).2
    obtain ⟨x1, x2, _⟩ := d1 l hl
    unfold pX pY at *
    rw [hL l hl]
    exact ⟨l1, l2, x1, x2, fun i hi => door l hl i hi⟩
  obtain ⟨c1, c2, c3, ec1⟩ := FN_nd F hi1
  obtain ⟨b1, b2, b3, ec2⟩ := FN_nd F hi2
  obtain ⟨S, e1, w1⟩ := wy_start hw hi1 (by omega) (A := Sum (Int32 × CS) (Nat × CS)) (fun M Q s17 => Option.bind (wh (S := CS) (X := CS) (fun p30 => (if isK p30 [4] Q = true then Option.bind (adEmpty p30 Q) (fun x18 => (if x18 = 0 then (if isK p30 [4] Q = true then Option.bind (adRem p30 Q) (fun x19 => Option.bind (toN x19.2 [62] x19.1) (fun a20 => (if isK x19.2 [67] 102 = true then Option.bind (c_915 102 a20 M Q x19.2) (fun x21 => some (.inl x21)) else none))) else none) else some (.inr p30))) else none)) s17) (fun v41 => Option.bind (some (ndC ou sp i2)) (fun a22 => Option.bind (xI v41 [(62, 0)] a22) (fun x23 => Option.bind (some (chg v41 1 1)) (fun s24 => (if isK s24 [42] M = true then Option.bind (tmHas s24 M (.int x23)) (fun x25 => (if x25 = 0 then some (.inl (-2, s24)) else Option.bind (xI s24 [(62, 0)] a22) (fun x26 => Option.bind (some (chg s24 1 1)) (fun s27 => (if isK s27 [42] M = true then Option.bind (tmGet s27 M (.int x26)) (fun e28 => Option.bind (toOB e28) (fun b29 => Option.bind (b29) (fun x30 => some (.inl (x30, s27))))) else none))))) else none)))))) ec1
  rw [e1]
  have J : quJ (fun c => c = i1) (adW t Lf nf lab nd) (fun i => if i = i1 then 1 else 0) [i1] (fun z => z ∈ ([] : List Nat)) := by
    refine ⟨fun c hc => ?_, fun c hc => if_pos hc, fun b hb => ?_, fun b hb => (by cases hb), fun b hb => ?_, List.pairwise_singleton _ _, fun h R hh c => ?_⟩
    · dsimp only at hc ⊢
      by_cases z : c = i1
      · rw [if_pos z]; exact Or.inl z
      · rw [if_neg z] at hc; exact absurd rfl hc
    · dsimp only at hb ⊢
      by_cases z : b = i1
      · rw [z]; exact Or.inl (List.mem_singleton.mpr rfl)
      · rw [if_neg z] at hb; exact absurd rfl hb
    · dsimp only
      rw [if_pos (List.mem_singleton.mp hb)]; decide
    · have : i1 = h := (List.cons.inj hh).1
      dsimp only
      rw [← this, if_pos rfl]
      split <;> omega
  obtain ⟨V, e2, f', dl, u1, u2⟩ := wy_loop hw F H w1 J (cc := (true, false, 67, _)) g1
  rw [e2, Option.bind_some, Option.bind_some]
  have hf := quJ_end u2
  obtain ⟨f2, T, hf2, e3, ac, bf⟩ := t_wayP (FN_0 F.1) hd hi1 hi2 ev1 ev2
  have ef : f' i2 = f2 i2 := wnR_eq hf hf2 i2
  have exV : ∀ a c, s.1 a = some c → V.1 a = some c := fun a c e => by rw [u1.2.2.1 a (wf_lt hw e)]; exact e
  have m1 := (Wy_has (Wy_chg u1 1 1) i2 (by omega)).1
  have m2 := (Wy_has (Wy_chg (Wy_chg u1 1 1) 1 1) i2 (by omega)).2
  obtain ⟨q1, q2, q3, ⟨mc, es, q4, _⟩, _, _, q7, q8, q9, q10⟩ := u1
  have nod : dl.Nodup := by rw [List.append_nil] at q7; exact q7
  have wb := WX_b F nod
  have len : dl.length ≤ spn Lf nf st ln nr + 1 := by
    have := Wy_len (dl := dl) (Lq := []) ⟨q1, q2, q3, ⟨mc, es, q4, by assumption⟩, by assumption, by assumption, q7, q8, q9, q10⟩
    rw [List.append_nil] at this
    exact this
  rw [List.append_nil] at q9 q10
  rw [xI_o (x := Int32.ofInt ((i2 : Int) - 1)) (exV _ _ ec2) rfl rfl, Option.bind_some, Option.bind_some, if_pos (isK_t (show (chg V 1 1).1 s.2.1 = _ from q4) rfl), m1, Option.bind_some]
  have ac' : agr [0] [75] t T := agr_trans (agr_p agr_refl (by simp)) (agr_mono ac (by simp) (by simp))
  have T0 : T.1 0 = 0 := ac.1 0 (by simp)
  have fin : ∀ (X : Int32) (U : CS) c d, wfS U → (∀ q, q < s.2.1 → U.1 q = s.1 q) → s.2.1 ≤ U.2.1 → U.2.2.1 ≤ s.2.2.1 + 6700 → U.2.2.2 ≤ s.2.2.2 + 41000 → c = some (.inl (X, U)) → d = some (X, T) → Rg thr0 (fun X => X = 2) 2 (R2k t) own s t 6700 41000 c d := fun X U c d h1 h2 h3 h4 h5 hc hd =>
    Rg.new hw rr ac' T0 h1 h2 h3 hc hd h4 h5
  by_cases k : f' i2 = 0
  · rw [if_pos k, if_pos rfl]
    refine fin (-2) (chg V 1 1) _ _ (wf_chg q1) q3 (by show s.2.1 ≤ V.2.1; omega) (by show V.2.2.1 + 1 ≤ _; omega) (by show V.2.2.2 + 1 ≤ _; omega) rfl ?_
    rw [Option.bind_some, if_neg n10]
    dsimp only
    rw [e3, Option.bind_some, ← ef, if_pos k]
  · rw [if_pos k] at m2
    rw [if_neg k, if_neg n10, xI_o (x := Int32.ofInt ((i2 : Int) - 1)) (show (chg V 1 1).1 (ndC ou sp i2) = _ from exV _ _ ec2) rfl rfl, Option.bind_some, Option.bind_some, if_pos (isK_t (show (chg (chg V 1 1) 1 1).1 s.2.1 = _ from q4) rfl), m2, Option.bind_some]
    refine fin (Int32.ofNat (f' i2 - 1)) (chg (chg V 1 1) 1 1) _ _ (wf_chg (wf_chg q1)) q3 (by show s.2.1 ≤ V.2.1; omega) (by show V.2.2.1 + 1 + 1 ≤ _; omega) (by show V.2.2.2 + 1 + 1 ≤ _; omega) rfl ?_
    rw [Option.bind_some, if_neg n10]
    dsimp only
    rw [e3, Option.bind_some, ← ef, if_neg k]
end
