/-! the plan: rings are sorted, whole -/
section
variable {L : PLn} {nl nr : Nat} {st ln : Nat → Nat} {lab : Int → Int → Int} {LC : Nat → Nat} {b0 : Nat} {h0 : lHeap} {s S : CS} {mp RL M : Nat} {pid nid aid : Nat → Nat → Nat} {si : Nat → Nat} {Kp Kp' : Nat → lCell → Prop} {od : List Nat} {rc rl q : Nat → Nat} {mr : Int32} {rsv : Nat → Value} {fd fL ou ol : Nat} {sp sl : Nat → Nat}
theorem SOt_Kp (o : SOt b0 h0 Kp s L nl nr st ln LC mp RL mr pid nid aid si od rc rl q rsv) (h : ∀ a c, Kp' a c → s.1 a = some c ∧ ∀ k ∈ od, a ≠ rl k) : SOt b0 h0 Kp' s L nl nr st ln LC mp RL mr pid nid aid si od rc rl q rsv := by
  obtain ⟨r1, r2, r3, r4, r5, r7, r8, r9, r10, r11⟩ := o
  exact ⟨r1, r2, r3, fun a c hc => (h a c hc).1, r5, r7, r8, r9, fun k hk => ⟨(r10 k hk).1, fun a c hc => (h a c hc).2 k hk⟩, r11⟩
/-- a new map -/
theorem c_newM1 (hw : wfS s) {A : Type} (g : Nat → CS → Option A) : ∃ S, Option.bind (some (nw s 42 [.null, .null, .null, .null, .int 0, .int 0, .null, .null, .null])) (fun n1 => (if isK n1.2 [42] n1.1 = true then Option.bind (tmInit n1.2 n1.1) (fun s2 => g n1.1 s2) else none)) = g s.2.1 S ∧ S.1 s.2.1 = some (true, false, 1042, [.int 0]) ∧ (∀ a, a ≠ s.2.1 → S.1 a = s.1 a) ∧ S.2.1 = s.2.1 + 1 ∧ wfS S ∧ S.2.2.1 = s.2.2.1 + 1 ∧ S.2.2.2 = s.2.2.2 + 9 := by
  obtain ⟨S1, e1, w1⟩ := nw_o (s := s) 42 [.null, .null, .null, .null, .int 0, .int 0, .null, .null, .null] hw
  rw [e1, Option.bind_some]
  dsimp only
  rw [if_pos (isK_t w1.1 rfl), tmInit_o w1.1, Option.bind_some]
  exact ⟨_, rfl, cup_eq .., fun a ha => (cup_ne ha).trans (w1.2.1 a ha), w1.2.2.1, wf_cup w1.2.2.2.1 (by rw [w1.2.2.1]; omega), w1.2.2.2.2.1, w1.2.2.2.2.2⟩
theorem c_sorP (hg : gdL L nl) (hR : RF L nl nr st ln) (hL : LabN L nl nr st ln lab) (v0 : Nat) (o : SOt b0 h0 Kp s L nl nr st ln LC mp RL mr pid nid aid si od rc rl q (fun _ => .null)) (hK : ∀ a c, Kp a c → c.2.2.1 ≠ 66 ∧ a ≠ fL ∧ a ≠ ol) (h1 : Kp fd (true, false, 61, [.ref fL, .ref ou, .ref mp, .int (Int32.ofNat (nP L nl))])) (h3 : Kp ou (true, false, 62, [.int (-1), .null, .ref ol, .int 0])) (hb : b0 ≤ fd ∧ b0 ≤ fL ∧ b0 ≤ ou) (hfL : Map1 b0 Kp mp RL od rl fL) (hol : Map1 b0 Kp mp RL od rl ol) (hf : s.1 fL = some (true, false, 1013, [.int 0])) (ho : s.1 ol = some (true, false, 1013, [.int 0])) (hfo : fL ≠ ol) (hc : s.2.2.1 + 10000 < 4000000000) :
    Tr (c_899 v0 fd RL s) (fun s' => ∃ sp sl, SOt b0 h0 Kp s' L nl nr st ln LC mp RL mr pid nid aid si od rc rl st (fun k => if lfB L nl st ln k = true then .ref (sp (spn L nl st ln k)) else .ref (spo ou sp (fcS L nl st lab k))) ∧ FD b0 s'.1 L nl nr st ln LC fd fL ou ol mp pid nid aid si rc rl sp sl (fun k => if lfB L nl st ln k = true then .ref (sp (spn L nl st ln k)) else .ref (spo ou sp (fcS L nl st lab k))) (fun _ => 0) (inF L nl st lab (KRs L nl nr st ln)) ∧ s'.2.2.1 ≤ s.2.2.1 + 8 + 7 * nr + 2 * nP L nl + 3 * spn L nl st ln nr ∧ s'.2.2.2 ≤ s.2.2.2 + 36 + 51 * nr + 66 * nP L nl + 23 * spn L nl st ln nr ∧ s.2.1 ≤ s'.2.1) := by
  have n120 := nr_120 hg hR hL.1
  have hN := nP_le hg
  have ns1 := spn_100 hg hR hL.1
  unfold c_899
  have ltR := wf_lt o.1 o.2.2.2.2.2.2.1
  have ltf := wf_lt o.1 hf
  have lto := wf_lt o.1 ho
  have rll : ∀ k ∈ od, rl k < s.2.1 := fun k hk => by obtain ⟨mc, h⟩ := (o.2.2.2.2.2.1.2.1 k hk).2.2.2.2.2; exact wf_lt o.1 h
  have kpl : ∀ a c, Kp a c → a < s.2.1 := fun a c h => wf_lt o.1 (o.2.2.2.1 a c h)
  have mpl : mp < s.2.1 := by
    obtain ⟨rv, r5, _⟩ := o.2.2.2.2.1
    obtain ⟨⟨mc, es, h, _⟩, _⟩ := r5.1
    exact wf_lt o.1 h
  have bs := o.2.1
  -- the first map
  obtain ⟨S1, e1, a1, a2, a3, a4, a5, a6⟩ := c_newM1 (s := s) o.1 (fun M s2 => (if isK s2 [13] RL = true then Option.bind (alMc s2 RL) (fun i3 => Option.bind (wh (S := CS × Int32) (X := CS) (fun p7 => Option.bind (alHas p7.1 RL p7.2) (fun x4 => (if x4 = 0 then some (.inr p7.1) else Option.bind (alNext p7.1 RL i3.1 p7.2) (fun e5 => Option.bind (toN p7.1 [66] e5) (fun a6 => (if isK p7.1 [66] a6 = true then Option.bind (c_886 a6 p7.1) (fun x7 => Option.bind (xI x7 [(66, 2)] a6) (fun x8 => Option.bind ((if 0 < x8 then Option.bind (xN x7 [(66, 1)] a6) (fun a9 => Option.bind (xR x7 [(64, 0)] a9) (fun r10 => (if isK x7 [42] M = true then Option.bind (tmPut x7 M (vR r10) (.ref a6)) (fun x11 => some x11.2) else none))) else some x7)) (fun v26 => some (.inl (v26, p7.2 + 1))))) else none)))))) (i3.2, 0)) (fun v27 => (if isK v27 [42] M = true then Option.bind (tmVw v27 M) (fun s12 => Option.bind (tmMc s12 M) (fun i13 => Option.bind (wh (S := CS × Nat) (X := CS) (fun p31 => Option.bind (tmIHas p31.1 M i13.1 p31.2) (fun x14 => (if x14 = 0 then some (.inr p31.1) else Option.bind (tmNx p31.1 M i13.1 p31.2) (fun u15 => Option.bind (some (nw p31.1 62 [.int 0, .null, .null, .int 0])) (fun n16 => Option.bind (xN n16.2 [(61, 0)] fd) (fun a17 => (if isK n16.2 [13] a17 = true then Option.bind (alSize n16.2 a17) (fun x18 => Option.bind (tmVal n16.2 M i13.1 p31.2) (fun e19 => Option.bind (toN n16.2 [66] e19) (fun a20 => (if isK n16.2 [62] n16.1 = true then Option.bind (c_874 n16.1 x18 (some a20) n16.2) (fun x21 => Option.bind (tmVal x21 M i13.1 p31.2) (fun e22 => Option.bind (toN x21 [66] e22) (fun a23 => Option.bind (xP x21 [(66, 3)] a23 (.ref n16.1)) (fun s24 => Option.bind (xN s24 [(61, 0)] fd) (fun a25 => (if isK s24 [13] a25 = true then Option.bind (alAdd s24 a25 (.ref n16.1)) (fun s26 => some (.inl (s26, p31.2 + 1))) else none)))))) else none)))) else none))))))) (i13.2, 0)) (fun v59 => Option.bind (some (nw v59 42 [.null, .null, .null, .null, .int 0, .int 0, .null, .null, .null])) (fun n27 => (if isK n27.2 [42] n27.1 = true then Option.bind (tmInit n27.2 n27.1) (fun s28 => (if isK s28 [13] RL = true then Option.bind (alMc s28 RL) (fun i29 => Option.bind (wh (S := CS × Int32) (X := CS) (fun p66 => Option.bind (alHas p66.1 RL p66.2) (fun x30 => (if x30 = 0 then some (.inr p66.1) else Option.bind (alNext p66.1 RL i29.1 p66.2) (fun e31 => Option.bind (toN p66.1 [66] e31) (fun a32 => Option.bind (xI p66.1 [(66, 2)] a32) (fun x33 => Option.bind ((if 0 < x33 then some p66.1 else Option.bind (xN p66.1 [(66, 1)] a32) (fun a34 => Option.bind (xR p66.1 [(64, 0)] a34) (fun r35 => (if isK p66.1 [42] n27.1 = true then Option.bind (tmPut p66.1 n27.1 (vR r35) (.ref a32)) (fun x36 => some x36.2) else none))))) (fun v83 => some (.inl (v83, p66.2 + 1))))))))) (i29.2, 0)) (fun v84 => (if isK v84 [42] n27.1 = true then Option.bind (tmVw v84 n27.1) (fun s37 => Option.bind (tmMc s37 n27.1) (fun i38 => Option.bind (wh (S := CS × Nat) (X := CS) (fun p88 => Option.bind (tmIHas p88.1 n27.1 i38.1 p88.2) (fun x39 => (if x39 = 0 then some (.inr p88.1) else Option.bind (tmNx p88.1 n27.1 i38.1 p88.2) (fun u40 => Option.bind (tmVal p88.1 n27.1 i38.1 p88.2) (fun e41 => Option.bind (toN p88.1 [66] e41) (fun a42 => Option.bind (xN p88.1 [(66, 1)] a42) (fun a43 => Option.bind (xN p88.1 [(64, 0)] a43) (fun a44 => Option.bind (xI p88.1 [(63, 0)] a44) (fun x45 => Option.bind (xN p88.1 [(66, 1)] a42) (fun a46 => Option.bind (xN p88.1 [(64, 0)] a46) (fun a47 => Option.bind (xI p88.1 [(63, 1)] a47) (fun x48 => (if isK p88.1 [61] fd = true then Option.bind (c_873 fd ((2 * x45) - 1) ((2 * x48) + 1) p88.1) (fun x49 => Option.bind (x49.1) (fun a50 => Option.bind (xN x49.2 [(62, 2)] a50) (fun a51 => (if isK x49.2 [13] a51 = true then Option.bind (alAdd x49.2 a51 (.ref a42)) (fun s52 => Option.bind (xP s52 [(66, 3)] a42 (.ref a50)) (fun s53 => some (.inl (s53, p88.2 + 1)))) else none)))) else none))))))))))))) (i38.2, 0)) (fun v127 => some v127))) else none))) else none)) else none))))) else none))) else none))
  rw [e1]
  let KA : Nat → lCell → Prop := fun a c => Kp a c ∨ (a = fL ∧ c = (true, false, 1013, [.int 0])) ∨ (a = ol ∧ c = (true, false, 1013, [.int 0]))
  have oA : SOt b0 h0 KA s L nl nr st ln LC mp RL mr pid nid aid si od rc rl q (fun _ => .null) := SOt_Kp o (fun a c h => by
    rcases h with h | ⟨rfl, rfl⟩ | ⟨rfl, rfl⟩
    · exact ⟨o.2.2.2.1 a c h, fun k hk => (o.2.2.2.2.2.2.2.2.1 k hk).2 a c h⟩
    · exact ⟨hf, hfL.2.2.2.1⟩
    · exact ⟨ho, hol.2.2.2.1⟩)
  have kal : ∀ a c, KA a c → a < s.2.1 := fun a c h => wf_lt o.1 (oA.2.2.2.1 a c h)
  have mapM : ∀ (K : Nat → lCell → Prop) (m : Nat), s.2.1 ≤ m → (∀ c, ¬ K m c) → Map1 b0 K mp RL od rl m := fun K m hm hk => ⟨by omega, by omega, by omega, fun k hk' => by have := rll k hk'; omega, hk⟩
  have o1 := SOt_new oA (fun a ha => a2 a (by omega)) a4 (by omega)
  have h1RL := o1.2.2.2.2.2.2.1
  rw [if_pos (isK_t h1RL rfl), alMc_l h1RL, Option.bind_some]
  dsimp only
  have o1' : SOt b0 h0 KA (chg S1 1 4) L nl nr st ln LC mp RL mr pid nid aid si od rc rl q (fun _ => .null) := SOt_new o1 (fun _ _ => rfl) o1.1 (Nat.le_refl _)
  refine Tr.bd (c_sort1 hg hR hL.1 (by omega) o1' (mapM KA s.2.1 (Nat.le_refl _) (fun c h => by have := kal _ _ h; omega)) a1) ?_
  rintro S2 ⟨b1, b2, b3, b4, b5⟩
  have b3 : S2.2.2.1 ≤ S1.2.2.1 + 1 + 4 * nr + 2 * nP L nl := b3
  have b4 : S2.2.2.2 ≤ S1.2.2.2 + 4 + 25 * nr + 66 * nP L nl := b4
  have b5 : S1.2.1 ≤ S2.2.1 := b5
  have hm2 := b2
  obtain ⟨mc, es, m1, _⟩ := hm2
  have K1 : ∀ k, k ∈ (List.range (spn L nl st ln nr)).map (lkF L nl nr st ln) ↔ (k < nr ∧ lfB L nl st ln k = true) := by
    intro k
    rw [List.mem_map]
    constructor
    · rintro ⟨j, hj, rfl⟩
      have := lkF_o (List.mem_range.mp hj)
      exact ⟨this.1, this.2.1⟩
    · rintro ⟨h1, h2⟩
      exact ⟨spn L nl st ln k, List.mem_range.mpr (spn_lt h1 h2), lkF_s h1 h2⟩
  have K1p : (((List.range (spn L nl st ln nr)).map (lkF L nl nr st ln)).map (cdR L nl st)).Pairwise (· < ·) := by
    rw [List.map_map, List.pairwise_map]
    refine (List.pairwise_lt_range (n := spn L nl st ln nr)).imp_of_mem (fun {a b} ha hb hab => ?_)
    obtain ⟨p1, p2, p3⟩ := lkF_o (List.mem_range.mp ha)
    obtain ⟨q1, q2, q3⟩ := lkF_o (List.mem_range.mp hb)
    have lt : lkF L nl nr st ln a < lkF L nl nr st ln b := by
      rcases Nat.lt_trichotomy (lkF L nl nr st ln a) (lkF L nl nr st ln b) with z | z | z
      · exact z
      · rw [z, q3] at p3; omega
      · have := spn_lt z q2; omega
    have h1 := cdR_mono hg hR lt q1
    have h2 : cdR L nl st (lkF L nl nr st ln a) ≠ cdR L nl st (lkF L nl nr st ln b) := fun e => by have := cdR_lf hg hR hL.1 p1 q1 p2 q2 e; omega
    show cdR L nl st (lkF L nl nr st ln a) < cdR L nl st (lkF L nl nr st ln b)
    omega
  obtain ⟨rv2, g2, _⟩ := b1.2.2.2.2.1
  obtain ⟨l1, l2⟩ := MRs_at hg hR (PRs_of hg hR g2) K1 (fun k hk => ((K1 k).mp hk).1) K1p m1 b2
  rw [List.length_map, List.length_range] at l1
  have l2 : ∀ i (hi : i < es.length), es[i].2 = .ref (rc (lkF L nl nr st ln i)) := fun i hi => by
    rw [l2 i hi]
    congr 2
    rw [List.getD_eq_getElem?_getD, List.getElem?_map, List.getElem?_range (by omega)]
    rfl
  rw [if_pos (isK_t m1 rfl), tmVw_l m1, Option.bind_some, tmMc_l (show (chg S2 1 1).1 s.2.1 = _ from m1), Option.bind_some]
  dsimp only
  let KB : Nat → lCell → Prop := fun a c => Kp a c ∨ (a = ol ∧ c = (true, false, 1013, [.int 0]))
  have o2 : SOt b0 h0 KB (chg (chg S2 1 1) 1 4) L nl nr st ln LC mp RL mr pid nid aid si od rc rl st (fun _ => .null) := SOt_Kp (SOt_new (SOt_new b1 (fun _ _ => rfl) b1.1 (Nat.le_refl _) : SOt b0 h0 KA (chg S2 1 1) L nl nr st ln LC mp RL mr pid nid aid si od rc rl st (fun _ => .null)) (fun _ _ => rfl) b1.1 (Nat.le_refl _)) (fun a c h => by
    have h' : KA a c := by
      rcases h with h | h
      · exact Or.inl h
      · exact Or.inr (Or.inr h)
    exact ⟨b1.2.2.2.1 a c h', fun k hk => (b1.2.2.2.2.2.2.2.2.1 k hk).2 a c h'⟩)
  have hKB : ∀ a c, KB a c → c.2.2.1 ≠ 66 := by
    rintro a c (h | ⟨rfl, rfl⟩)
    · exact (hK a c h).1
    · show ¬ (1013 : Nat) = 66; decide
  have fLB : Map1 b0 KB mp RL od rl fL := ⟨hfL.1, hfL.2.1, hfL.2.2.1, hfL.2.2.2.1, fun c h => by
    rcases h with h | ⟨h, _⟩
    · exact (hK _ _ h).2.1 rfl
    · exact hfo h⟩
  refine Tr.bd (c_sort2 hg hR hL.1 o2 hKB (Or.inl h1) fLB (b1.2.2.2.1 _ _ (Or.inr (Or.inl ⟨rfl, rfl⟩))) (M := s.2.1) (mc := mc) (es := es) (mapM KB s.2.1 (Nat.le_refl _) (fun c h => by
    rcases h with h | ⟨h, _⟩
    · have := kpl _ _ h; omega
    · omega)) m1 l1 l2 (by show S2.2.2.1 + 1 + 1 + 1000 < _; omega)) ?_
  rintro S3 ⟨sp, sl, mf, d1, ⟨d2, d2b, d2c⟩, d3, d4, d5, d6, d7⟩
  have d5 : S3.2.2.1 = S2.2.2.1 + 1 + 1 + 3 * spn L nl st ln nr := d5
  have d6 : S3.2.2.2 = S2.2.2.2 + 1 + 4 + 23 * spn L nl st ln nr := d6
  have d7 : S2.2.1 ≤ S3.2.1 := d7
  have d4 : ∀ j, j < spn L nl st ln nr → S2.2.1 ≤ sp j ∧ S2.2.1 ≤ sl j := d4
  -- the second map
  obtain ⟨S4, e4, f1, f2, f3, f4, f5, f6⟩ := c_newM1 (s := S3) d1.1 (fun M s28 => (if isK s28 [13] RL = true then Option.bind (alMc s28 RL) (fun i29 => Option.bind (wh (S := CS × Int32) (X := CS) (fun p66 => Option.bind (alHas p66.1 RL p66.2) (fun x30 => (if x30 = 0 then some (.inr p66.1) else Option.bind (alNext p66.1 RL i29.1 p66.2) (fun e31 => Option.bind (toN p66.1 [66] e31) (fun a32 => Option.bind (xI p66.1 [(66, 2)] a32) (fun x33 => Option.bind ((if 0 < x33 then some p66.1 else Option.bind (xN p66.1 [(66, 1)] a32) (fun a34 => Option.bind (xR p66.1 [(64, 0)] a34) (fun r35 => (if isK p66.1 [42] M = true then Option.bind (tmPut p66.1 M (vR r35) (.ref a32)) (fun x36 => some x36.2) else none))))) (fun v83 => some (.inl (v83, p66.2 + 1))))))))) (i29.2, 0)) (fun v84 => (if isK v84 [42] M = true then Option.bind (tmVw v84 M) (fun s37 => Option.bind (tmMc s37 M) (fun i38 => Option.bind (wh (S := CS × Nat) (X := CS) (fun p88 => Option.bind (tmIHas p88.1 M i38.1 p88.2) (fun x39 => (if x39 = 0 then some (.inr p88.1) else Option.bind (tmNx p88.1 M i38.1 p88.2) (fun u40 => Option.bind (tmVal p88.1 M i38.1 p88.2) (fun e41 => Option.bind (toN p88.1 [66] e41) (fun a42 => Option.bind (xN p88.1 [(66, 1)] a42) (fun a43 => Option.bind (xN p88.1 [(64, 0)] a43) (fun a44 => Option.bind (xI p88.1 [(63, 0)] a44) (fun x45 => Option.bind (xN p88.1 [(66, 1)] a42) (fun a46 => Option.bind (xN p88.1 [(64, 0)] a46) (fun a47 => Option.bind (xI p88.1 [(63, 1)] a47) (fun x48 => (if isK p88.1 [61] fd = true then Option.bind (c_873 fd ((2 * x45) - 1) ((2 * x48) + 1) p88.1) (fun x49 => Option.bind (x49.1) (fun a50 => Option.bind (xN x49.2 [(62, 2)] a50) (fun a51 => (if isK x49.2 [13] a51 = true then Option.bind (alAdd x49.2 a51 (.ref a42)) (fun s52 => Option.bind (xP s52 [(66, 3)] a42 (.ref a50)) (fun s53 => some (.inl (s53, p88.2 + 1)))) else none)))) else none))))))))))))) (i38.2, 0)) (fun v127 => some v127))) else none))) else none))
  rw [e4]
  have o4 := SOt_new d1 (fun a ha => f2 a (by omega)) f4 (by omega)
  have h4RL := o4.2.2.2.2.2.2.1
  rw [if_pos (isK_t h4RL rfl), alMc_l h4RL, Option.bind_some]
  dsimp only
  have o4' : SOt b0 h0 KB (chg S4 1 4) L nl nr st ln LC mp RL mr pid nid aid si od rc rl st (fun k => if lfB L nl st ln k = true then .ref (sp (spn L nl st ln k)) else .null) := SOt_new o4 (fun _ _ => rfl) o4.1 (Nat.le_refl _)
  have kbl : ∀ a c, KB a c → a < s.2.1 := by
    rintro a c (h | ⟨rfl, _⟩)
    · exact kpl _ _ h
    · exact lto
  refine Tr.bd (c_sort3 hg hR hL.1 (by omega) o4' (mapM KB S3.2.1 (by omega) (fun c h => by have := kbl _ _ h; omega)) f1) ?_
  rintro S5 ⟨i1, i2, i3, i4, i5, i6⟩
  have i3 : S5.2.2.1 ≤ S4.2.2.1 + 1 + nr := i3
  have i4 : S5.2.2.2 ≤ S4.2.2.2 + 4 + 6 * nr := i4
  have i5 : S5.2.1 = S4.2.1 := i5
  have i6 : ∀ a, a ≠ S3.2.1 → S5.1 a = S4.1 a := i6
  have hm5 := i2
  obtain ⟨mc5, es5, m5, _⟩ := hm5
  obtain ⟨rv5, g5, _⟩ := i1.2.2.2.2.1
  obtain ⟨l5, l6⟩ := MRs_at hg hR (K := KRs L nl nr st ln) (PRs_of hg hR g5) (fun k => KRs_m) (fun k hk => (KRs_m.mp hk).1) (KRs_pw hg hR hL.1) m5 i2
  rw [if_pos (isK_t m5 rfl), tmVw_l m5, Option.bind_some, tmMc_l (show (chg S5 1 1).1 S3.2.1 = _ from m5), Option.bind_some]
  dsimp only
  have keep : ∀ a c, S3.1 a = some c → S5.1 a = some c := fun a c h => by
    have := wf_lt d1.1 h
    rw [i6 a (by omega), f2 a (by omega)]; exact h
  let KD : Nat → lCell → Prop := fun a c => Kp a c ∨ (a = fL ∧ c = (true, false, 1013, .int mf :: rowC (fun j => .ref (sp j)) (spn L nl st ln nr))) ∨ (a = S3.2.1 ∧ c = (true, false, 1042, .int mc5 :: fl es5))
  have o5 : SOt b0 h0 KD (chg (chg S5 1 1) 1 4) L nl nr st ln LC mp RL mr pid nid aid si od rc rl st (fun k => if lfB L nl st ln k = true then .ref (sp (spn L nl st ln k)) else .null) := SOt_Kp (SOt_new (SOt_new i1 (fun _ _ => rfl) i1.1 (Nat.le_refl _) : SOt b0 h0 KB (chg S5 1 1) L nl nr st ln LC mp RL mr pid nid aid si od rc rl st (fun k => if lfB L nl st ln k = true then .ref (sp (spn L nl st ln k)) else .null)) (fun _ _ => rfl) i1.1 (Nat.le_refl _)) (fun a c h => by
    rcases h with h | ⟨rfl, rfl⟩ | ⟨rfl, rfl⟩
    · exact ⟨i1.2.2.2.1 a c (Or.inl h), fun k hk => (i1.2.2.2.2.2.2.2.2.1 k hk).2 a c (Or.inl h)⟩
    · exact ⟨keep _ _ d3, hfL.2.2.2.1⟩
    · exact ⟨m5, fun k hk => by have := rll k hk; omega⟩)
  have hKD : ∀ a c, KD a c → c.2.2.1 ≠ 66 := by
    rintro a c (h | ⟨rfl, rfl⟩ | ⟨rfl, rfl⟩)
    · exact (hK a c h).1
    · show ¬ (1013 : Nat) = 66; decide
    · show ¬ (1042 : Nat) = 66; decide
  have pS : SPi (chg (chg S5 1 1) 1 4).1 L nl nr st ln rc sp sl b0 ou ol (fun _ => []) := by
    refine ⟨fun j hj => ?_, ⟨0, ?_⟩, d2b, d2c, fun j hj e => ?_, hol.1⟩
    · obtain ⟨x1, x2, x3, x4⟩ := d2 j hj
      exact ⟨keep _ _ x1, x3, x4, 0, keep _ _ x2⟩
    · exact i1.2.2.2.1 _ _ (Or.inr ⟨rfl, rfl⟩)
    · have := (d4 j hj).2; omega
  refine Tr.bd (c_sort4 hg hR hL o5 hKD pS (Or.inl h1) (Or.inr (Or.inl ⟨rfl, rfl⟩)) (Or.inl h3) hb (fun j hj => mapM KD (sl j) (by have := (d4 j hj).2; omega) (fun c h => ?_)) ⟨hol.1, hol.2.1, hol.2.2.1, hol.2.2.2.1, fun c h => ?_⟩ (M := S3.2.1) (mc := mc5) (es := es5) (Or.inr (Or.inr ⟨rfl, rfl⟩)) l5 l6 (by show S5.2.2.1 + 1 + 1 + 1000 < _; omega)) ?_
  · have x := (d4 j hj).2
    have y := wf_lt d1.1 (d2 j hj).2.1
    rcases h with h | ⟨h, _⟩ | ⟨h, _⟩
    · have := kpl _ _ h; omega
    · omega
    · omega
  · rcases h with h | ⟨h, _⟩ | ⟨h, _⟩
    · exact (hK _ _ h).2.2 rfl
    · exact hfo h.symm
    · omega
  rintro S6 ⟨j1, j2, j3, j4, j5⟩
  have j3 : S6.2.2.1 ≤ S5.2.2.1 + 1 + 1 + 2 * nr := j3
  have j4 : S6.2.2.2 ≤ S5.2.2.2 + 1 + 4 + 20 * nr := j4
  have j5 : S6.2.1 = S5.2.1 := j5
  have o6 : SOt b0 h0 Kp S6 L nl nr st ln LC mp RL mr pid nid aid si od rc rl st _ := SOt_Kp j1 (fun a c h => ⟨j1.2.2.2.1 a c (Or.inl h), fun k hk => (j1.2.2.2.2.2.2.2.2.1 k hk).2 a c (Or.inl h)⟩)
  exact Tr.ok ⟨sp, sl, o6, FD_of j1 j2 (j1.2.2.2.1 _ _ (Or.inl h1)) (j1.2.2.2.1 _ _ (Or.inr (Or.inl ⟨rfl, rfl⟩))) (j1.2.2.2.1 _ _ (Or.inl h3)) hb, by omega, by omega, by omega⟩
end
