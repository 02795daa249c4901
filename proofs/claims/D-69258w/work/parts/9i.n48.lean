/-! the plan: rings that are in spaces -/
section
variable {L : PLn} {nl nr : Nat} {st ln : Nat → Nat} {lab : Int → Int → Int} {LC : Nat → Nat} {b0 : Nat} {h0 : lHeap} {s : CS} {mp RL M : Nat} {pid nid aid : Nat → Nat → Nat} {si : Nat → Nat} {Kp : Nat → lCell → Prop} {od : List Nat} {rc rl q : Nat → Nat} {mr : Int32} {rsv : Nat → Value} {fd fL ou ol : Nat} {sp sl : Nat → Nat}
/-- the rings that aren't round a space, in their order -/
noncomputable def KRs (L : PLn) (nl nr : Nat) (st ln : Nat → Nat) : List Nat := (List.range nr).filter (fun k => !lfB L nl st ln k)
/-- those in a space -/
noncomputable def inF (L : PLn) (nl : Nat) (st : Nat → Nat) (lab : Int → Int → Int) (K : List Nat) (F : Int) : List Nat := K.filter (fun k => decide (fcS L nl st lab k = F))
theorem KRs_m {k : Nat} : k ∈ KRs L nl nr st ln ↔ k < nr ∧ ¬ lfB L nl st ln k = true := by
  unfold KRs
  rw [List.mem_filter, List.mem_range]
  simp
theorem KRs_pw (hg : gdL L nl) (hR : RF L nl nr st ln) (hl : gLab (gS L nl) (2 * nP L nl) lab) : ((KRs L nl nr st ln).map (cdR L nl st)).Pairwise (· < ·) := by
  rw [List.pairwise_map]
  have : (KRs L nl nr st ln).Pairwise (· < ·) := List.pairwise_lt_range.sublist List.filter_sublist
  refine this.imp_of_mem (fun {a b} ha hb hab => ?_)
  obtain ⟨a1, a2⟩ := KRs_m.mp ha
  obtain ⟨b1, b2⟩ := KRs_m.mp hb
  have h1 := cdR_mono hg hR hab b1
  have h2 : cdR L nl st a ≠ cdR L nl st b := fun e => by have := cdR_rt hg hR hl a1 b1 a2 b2 e; omega
  omega
theorem inF_add {K : List Nat} {k : Nat} (F : Int) : inF L nl st lab (K ++ [k]) F = if fcS L nl st lab k = F then inF L nl st lab K F ++ [k] else inF L nl st lab K F := by
  unfold inF
  rw [List.filter_append]
  by_cases z : fcS L nl st lab k = F
  · rw [if_pos z, List.filter_cons_of_pos (by simpa using z)]; rfl
  · rw [if_neg z, List.filter_cons_of_neg (by simpa using z)]; simp
theorem rt_lab (hg : gdL L nl) (hR : RF L nl nr st ln) (hl : gLab (gS L nl) (2 * nP L nl) lab) {k : Nat} (hk : k < nr) (h1 : ¬ lfB L nl st ln k = true) : lab (gx0 (gS L nl) (st k) - 1) (gy0 (gS L nl) (st k)) = fcS L nl st lab k := by
  have G := gS_geo hg hl
  have fam := RF_fam hg hR hl
  have hz : ∀ i j, lab i j = fcS L nl st lab k → gwn (gS L nl) (rgs L nl st ln k) i j = 0 := by
    rcases Fam.or G fam hk with q | q
    · exact absurd ((lfB_i hg hR hl hk).mpr q.1) h1
    · exact q.2.1
  exact (G.lstR (fam.1 k hk).1 (rgs_rnd hR hk) hz (st_lst hg hR hk)).1
theorem c_sort4 (hg : gdL L nl) (hR : RF L nl nr st ln) (hL : LabN L nl nr st ln lab) (o : SOt b0 h0 Kp s L nl nr st ln LC mp RL mr pid nid aid si od rc rl st (fun k => if lfB L nl st ln k = true then .ref (sp (spn L nl st ln k)) else .null)) (hK : ∀ a c, Kp a c → c.2.2.1 ≠ 66) (p : SPi s.1 L nl nr st ln rc sp sl b0 ou ol (fun _ => [])) {mf : Int32} (h1 : Kp fd (true, false, 61, [.ref fL, .ref ou, .ref mp, .int (Int32.ofNat (nP L nl))])) (h2 : Kp fL (true, false, 1013, .int mf :: rowC (fun j => .ref (sp j)) (spn L nl st ln nr))) (h3 : Kp ou (true, false, 62, [.int (-1), .null, .ref ol, .int 0])) (hb : b0 ≤ fd ∧ b0 ≤ fL ∧ b0 ≤ ou) (hsl : ∀ j, j < spn L nl st ln nr → Map1 b0 Kp mp RL od rl (sl j)) (hol : Map1 b0 Kp mp RL od rl ol) {mc : Int32} {es : List (Value × Value)} (m1 : Kp M (true, false, 1042, .int mc :: fl es)) (m2 : es.length = (KRs L nl nr st ln).length) (m3 : ∀ i (hi : i < es.length), es[i].2 = .ref (rc ((KRs L nl nr st ln).getD i 0))) (hc : s.2.2.1 + 1000 < 4000000000) :
    Tr (wh (S := CS × Nat) (X := CS) (fun p88 => Option.bind (tmIHas p88.1 M mc p88.2) (fun x39 => (if x39 = 0 then some (.inr p88.1) else Option.bind (tmNx p88.1 M mc p88.2) (fun u40 => Option.bind (tmVal p88.1 M mc p88.2) (fun e41 => Option.bind (toN p88.1 [66] e41) (fun a42 => Option.bind (xN p88.1 [(66, 1)] a42) (fun a43 => Option.bind (xN p88.1 [(64, 0)] a43) (fun a44 => Option.bind (xI p88.1 [(63, 0)] a44) (fun x45 => Option.bind (xN p88.1 [(66, 1)] a42) (fun a46 => Option.bind (xN p88.1 [(64, 0)] a46) (fun a47 => Option.bind (xI p88.1 [(63, 1)] a47) (fun x48 => (if isK p88.1 [61] fd = true then Option.bind (c_873 fd ((2 * x45) - 1) ((2 * x48) + 1) p88.1) (fun x49 => Option.bind (x49.1) (fun a50 => Option.bind (xN x49.2 [(62, 2)] a50) (fun a51 => (if isK x49.2 [13] a51 = true then Option.bind (alAdd x49.2 a51 (.ref a42)) (fun s52 => Option.bind (xP s52 [(66, 3)] a42 (.ref a50)) (fun s53 => some (.inl (s53, p88.2 + 1)))) else none)))) else none))))))))))))) (s, 0)) (fun s' => SOt b0 h0 Kp s' L nl nr st ln LC mp RL mr pid nid aid si od rc rl st (fun k => if lfB L nl st ln k = true then .ref (sp (spn L nl st ln k)) else .ref (spo ou sp (fcS L nl st lab k))) ∧ SPi s'.1 L nl nr st ln rc sp sl b0 ou ol (inF L nl st lab (KRs L nl nr st ln)) ∧ s'.2.2.1 ≤ s.2.2.1 + 2 * nr ∧ s'.2.2.2 ≤ s.2.2.2 + 20 * nr ∧ s'.2.1 = s.2.1) := by
  have hN := nP_le hg
  have n120 := nr_120 hg hR hL.1
  have ns1 := spn_100 hg hR hL.1
  have oda := o.2.2.2.2.2.2.2.2.2
  have klen : (KRs L nl nr st ln).length ≤ nr := by
    have := List.length_filter_le (fun k => !lfB L nl st ln k) (List.range nr)
    rw [List.length_range] at this
    exact this
  have knd : (KRs L nl nr st ln).Nodup := (List.nodup_range (n := nr)).sublist List.filter_sublist
  refine wh_cnt (KRs L nl nr st ln).length (fun i a => a.2 = i ∧ SOt b0 h0 Kp a.1 L nl nr st ln LC mp RL mr pid nid aid si od rc rl st (fun k => if lfB L nl st ln k = true then .ref (sp (spn L nl st ln k)) else if k ∈ (KRs L nl nr st ln).take i then .ref (spo ou sp (fcS L nl st lab k)) else .null) ∧ SPi a.1.1 L nl nr st ln rc sp sl b0 ou ol (inF L nl st lab ((KRs L nl nr st ln).take i)) ∧ a.1.2.2.1 ≤ s.2.2.1 + 2 * i ∧ a.1.2.2.2 ≤ s.2.2.2 + 20 * i ∧ a.1.2.1 = s.2.1) ?_ ?_ ⟨rfl, ?_, p, Nat.le_refl _, Nat.le_refl _, rfl⟩
  · rintro _ ⟨U, i⟩ hi ⟨rfl, uo, up, uc, us, un⟩
    right
    dsimp only at hi uo up uc us un ⊢
    have e2 := m3 i (by omega)
    have hkm : (KRs L nl nr st ln).getD i 0 ∈ KRs L nl nr st ln := by rw [getD_lt hi]; exact List.getElem_mem hi
    have nt := nd_take knd hi
    have tk : (KRs L nl nr st ln).take (i + 1) = (KRs L nl nr st ln).take i ++ [(KRs L nl nr st ln).getD i 0] := by rw [List.take_succ_eq_append_getElem hi, getD_lt hi]
    obtain ⟨k, hke⟩ : ∃ k, (KRs L nl nr st ln).getD i 0 = k := ⟨_, rfl⟩
    rw [hke] at e2 hkm nt tk
    obtain ⟨kn, klf⟩ := KRs_m.mp hkm
    have hk := oda k kn
    have uM := uo.2.2.2.1 _ _ m1
    have hfd := uo.2.2.2.1 _ _ h1
    have hfL := uo.2.2.2.1 _ _ h2
    have hou := uo.2.2.2.1 _ _ h3
    have fdv := FD_of uo up hfd hfL hou hb
    rw [tmIHas_l uM (by omega), if_pos (by omega)]; repeat (first | rw [Option.bind_some] | rw [Sum.elim_inl] | rw [Sum.elim_inr])
    rw [if_neg (by decide), tmNx_l uM (by omega) (by omega)]; repeat (first | rw [Option.bind_some] | rw [Sum.elim_inl] | rw [Sum.elim_inr])
    rw [tmVal_l uM (by omega) (show i < es.length by omega), e2]; repeat (first | rw [Option.bind_some] | rw [Sum.elim_inl] | rw [Sum.elim_inr])
    have hrc := (uo.2.2.2.2.2.1.2.1 k hk).2.2.2.2.1
    obtain ⟨rv, r5, r6⟩ := uo.2.2.2.2.1
    obtain ⟨y1, y2, y3, _⟩ := GSt_sd hg r5 (hR.1 k kn).1
    have bk := sX_i hg (hR.1 k kn).1
    rw [toN_o hrc rfl]; repeat (first | rw [Option.bind_some] | rw [Sum.elim_inl] | rw [Sum.elim_inr])
    rw [xN_o (b := nid (sX L nl (st k)) (sY L nl (st k))) hrc rfl rfl]; repeat (first | rw [Option.bind_some] | rw [Sum.elim_inl] | rw [Sum.elim_inr])
    rw [xN_o (b := pid (sX L nl (st k)) (sY L nl (st k))) y2 rfl rfl]; repeat (first | rw [Option.bind_some] | rw [Sum.elim_inl] | rw [Sum.elim_inr])
    rw [xI_o (x := Int32.ofNat (sX L nl (st k))) y3 rfl rfl]; repeat (first | rw [Option.bind_some] | rw [Sum.elim_inl] | rw [Sum.elim_inr])
    rw [xN_o (b := pid (sX L nl (st k)) (sY L nl (st k))) y2 rfl rfl]; repeat (first | rw [Option.bind_some] | rw [Sum.elim_inl] | rw [Sum.elim_inr])
    rw [xI_o (x := Int32.ofNat (sY L nl (st k))) y3 rfl rfl]; repeat (first | rw [Option.bind_some] | rw [Sum.elim_inl] | rw [Sum.elim_inr])
    have ex : 2 * Int32.ofNat (sX L nl (st k)) - 1 = Int32.ofInt (2 * (sX L nl (st k) : Int) - 1) := by
      rw [show (1 : Int32) = Int32.ofInt 1 from rfl, i_mulL, ← i_ofI, i_subI]; rfl
    have ey : 2 * Int32.ofNat (sY L nl (st k)) + 1 = Int32.ofInt (2 * (sY L nl (st k) : Int) + 1) := by
      rw [show (1 : Int32) = Int32.ofInt 1 from rfl, i_mulL, ← i_ofI, i_addI]; rfl
    rw [if_pos (isK_t hfd rfl), ex, ey, c_at hg hR hL fdv (i := (sX L nl (st k) : Int) - 1) (j := sY L nl (st k)) (fun d _ => by omega) (Or.inr rfl) (by omega) (by omega)]; repeat (first | rw [Option.bind_some] | rw [Sum.elim_inl] | rw [Sum.elim_inr])
    dsimp only
    have lb := rt_lab hg hR hL.1 kn klf
    rw [bk.1, bk.2.1] at lb
    rw [lb]; repeat (first | rw [Option.bind_some] | rw [Sum.elim_inl] | rw [Sum.elim_inr])
    have so1 : SOt b0 h0 Kp (chg U 1 4) L nl nr st ln LC mp RL mr pid nid aid si od rc rl st _ := SOt_new uo (fun _ _ => rfl) uo.1 (Nat.le_refl _)
    obtain ⟨p1, ⟨mo, p2⟩, p3, p4, p5, p6⟩ := up
    -- the space's list of rings
    have key : ∃ il mi : _, (xN (chg U 1 4) [(62, 2)] (spo ou sp (fcS L nl st lab k)) = some il) ∧ U.1 il = some (true, false, 1013, .int mi :: (inF L nl st lab ((KRs L nl nr st ln).take i) (fcS L nl st lab k)).map (fun k => .ref (rc k))) ∧ Map1 b0 Kp mp RL od rl il ∧ (∀ F : Int, F = -1 → (il = ol ↔ fcS L nl st lab k = F)) ∧ ∀ j, j < spn L nl st ln nr → (il = sl j ↔ fcS L nl st lab k = j) := by
      unfold spo
      rcases hL.fc hg hR kn with z | ⟨k', k1', k2', k3', _⟩
      · rw [z, if_pos rfl]
        refine ⟨ol, mo, xN_o (b := ol) (show (chg U 1 4).1 ou = _ from hou) rfl rfl, p2, hol, fun F hF => ⟨fun _ => hF.symm, fun _ => rfl⟩, fun j hj => ⟨fun e => absurd e.symm (p5 j hj), fun e => by omega⟩⟩
      · have lt := spn_lt k1' k2'
        rw [k3', if_neg (by omega)]
        have et : ((spn L nl st ln k' : Nat) : Int).toNat = spn L nl st ln k' := rfl
        rw [et]
        obtain ⟨a1, a2, a3, mi, a4⟩ := p1 _ lt
        refine ⟨sl (spn L nl st ln k'), mi, xN_o (b := sl (spn L nl st ln k')) (show (chg U 1 4).1 (sp (spn L nl st ln k')) = _ from a1) rfl rfl, a4, hsl _ lt, fun F hF => ⟨fun e => absurd e (p5 _ lt), fun e => by omega⟩, fun j hj => ⟨fun e => by rw [p4 _ _ lt hj e], fun e => by rw [show spn L nl st ln k' = j by omega]⟩⟩
    obtain ⟨il, mi, g1, g2, g3, g4, g5⟩ := key
    rw [g1]; repeat (first | rw [Option.bind_some] | rw [Sum.elim_inl] | rw [Sum.elim_inr])
    have g2' : (chg U 1 4).1 il = _ := g2
    have ilen : (inF L nl st lab ((KRs L nl nr st ln).take i) (fcS L nl st lab k)).length ≤ 120 := by
      have a := List.length_filter_le (fun k_1 => decide (fcS L nl st lab k_1 = fcS L nl st lab k)) ((KRs L nl nr st ln).take i)
      rw [List.length_take] at a
      unfold inF
      omega
    rw [if_pos (isK_t g2' rfl), alAdd_l g2' (by rw [List.length_map]; omega) (elO_o (show (chg U 1 4).1 (rc k) = some (true, false, 66, _) from hrc))]; repeat (first | rw [Option.bind_some] | rw [Sum.elim_inl] | rw [Sum.elim_inr])
    have so2 := SOt_w so1 g2' ⟨by show ¬ (1013 : Nat) = 63; decide, by show ¬ (1013 : Nat) = 64; decide, by show ¬ (1013 : Nat) = 7; decide, by show ¬ (1013 : Nat) = 65; decide, by show ¬ (1013 : Nat) = 66; decide⟩ g3.1 g3.2.1 g3.2.2.1 g3.2.2.2.1 g3.2.2.2.2 (S := cput (chg U 1 4) 1013 il 1 16 (.int (mi + 1) :: ((inF L nl st lab ((KRs L nl nr st ln).take i) (fcS L nl st lab k)).map (fun k => Value.ref (rc k)) ++ [.ref (rc k)]))) (fun a ha => cput_ne ha) (wf_chg (wf_cup so1.1 (wf_lt so1.1 g2'))) (Nat.le_refl _)
    have hrc2 := (so2.2.2.2.2.2.1.2.1 k hk).2.2.2.2.1
    rw [xP_c (fs' := [.ref (rl k), .ref (nid (sX L nl (st k)) (sY L nl (st k))), .int (Int32.ofInt (gtrn (gS L nl) (rgs L nl st ln k))), .ref (spo ou sp (fcS L nl st lab k))]) hrc2 rfl (by simp) rfl]; repeat (first | rw [Option.bind_some] | rw [Sum.elim_inl] | rw [Sum.elim_inr])
    have so3 := SOt_ring so2 hK hk (v := .ref (spo ou sp (fcS L nl st lab k)))
    have nrc : ∀ a c, U.1 a = some c → c.2.2.1 ≠ 66 → a ≠ rc k := fun a c h1 h2 => apart h1 hrc h2
    have t3 : ∀ a c, U.1 a = some c → c.2.2.1 ≠ 66 → a ≠ il → (cup (cput (chg U 1 4) 1013 il 1 16 (.int (mi + 1) :: ((inF L nl st lab ((KRs L nl nr st ln).take i) (fcS L nl st lab k)).map (fun k => Value.ref (rc k)) ++ [.ref (rc k)]))) (rc k) (rgC L nl st ln nid rl (.ref (spo ou sp (fcS L nl st lab k))) k)).1 a = some c := fun a c h1 h2 h3 => by
      rw [cup_ne (nrc a c h1 h2), cput_ne h3]; exact h1
    have tI : (cup (cput (chg U 1 4) 1013 il 1 16 (.int (mi + 1) :: ((inF L nl st lab ((KRs L nl nr st ln).take i) (fcS L nl st lab k)).map (fun k => Value.ref (rc k)) ++ [.ref (rc k)]))) (rc k) (rgC L nl st ln nid rl (.ref (spo ou sp (fcS L nl st lab k))) k)).1 il = some (true, false, 1013, .int (mi + 1) :: ((inF L nl st lab ((KRs L nl nr st ln).take i) (fcS L nl st lab k)).map (fun k => Value.ref (rc k)) ++ [.ref (rc k)])) := by
      rw [cup_ne (nrc il _ g2 (by show ¬ (1013 : Nat) = 66; decide)), cput_eq]
    rw [show (true, false, 66, [Value.ref (rl k), .ref (nid (sX L nl (st k)) (sY L nl (st k))), .int (Int32.ofInt (gtrn (gS L nl) (rgs L nl st ln k))), .ref (spo ou sp (fcS L nl st lab k))]) = rgC L nl st ln nid rl (.ref (spo ou sp (fcS L nl st lab k))) k from rfl]
    refine ⟨_, rfl, rfl, ?_, ⟨fun j hj => ?_, ?_, p3, p4, p5, p6⟩, ?_, ?_, un⟩
    · have : (fun k_1 => if lfB L nl st ln k_1 = true then Value.ref (sp (spn L nl st ln k_1)) else if k_1 ∈ (KRs L nl nr st ln).take (i + 1) then .ref (spo ou sp (fcS L nl st lab k_1)) else .null) = fun k' => if k' = k then .ref (spo ou sp (fcS L nl st lab k)) else if lfB L nl st ln k' = true then .ref (sp (spn L nl st ln k')) else if k' ∈ (KRs L nl nr st ln).take i then .ref (spo ou sp (fcS L nl st lab k')) else .null := by
        funext w
        rw [tk]
        by_cases e : w = k
        · rw [if_pos e, e, if_neg klf, if_pos (by simp)]
        · rw [if_neg e]
          by_cases l : lfB L nl st ln w = true
          · rw [if_pos l, if_pos l]
          · rw [if_neg l, if_neg l]
            by_cases m : w ∈ (KRs L nl nr st ln).take i
            · rw [if_pos m, if_pos (by simp [m])]
            · rw [if_neg m, if_neg (by simp [m, e])]
      dsimp only
      rw [this]
      exact so3
    · obtain ⟨a1, a2, a3, m, a4⟩ := p1 j hj
      refine ⟨t3 _ _ a1 (by show ¬ (62 : Nat) = 66; decide) (fun e => by rw [e, g2] at a1; have := Option.some.inj a1; simp at this), a2, a3, ?_⟩
      rw [tk, inF_add]
      by_cases e : fcS L nl st lab k = j
      · rw [if_pos e, ← (g5 j hj).mpr e]
        refine ⟨mi + 1, ?_⟩
        rw [← e, List.map_append]
        exact tI
      · rw [if_neg e]
        exact ⟨m, t3 _ _ a4 (by show ¬ (1013 : Nat) = 66; decide) (fun z => e ((g5 j hj).mp z.symm))⟩
    · rw [tk, inF_add]
      by_cases e : fcS L nl st lab k = -1
      · rw [if_pos e, ← (g4 (-1) rfl).mpr e]
        refine ⟨mi + 1, ?_⟩
        have ee : inF L nl st lab ((KRs L nl nr st ln).take i) (-1) = inF L nl st lab ((KRs L nl nr st ln).take i) (fcS L nl st lab k) := by rw [e]
        rw [ee, List.map_append]
        exact tI
      · rw [if_neg e]
        exact ⟨mo, t3 _ _ p2 (by show ¬ (1013 : Nat) = 66; decide) (fun z => e ((g4 (-1) rfl).mp z.symm))⟩
    · show U.2.2.1 + 1 + 1 ≤ _; omega
    · show U.2.2.2 + 4 + 16 ≤ _; omega
  · rintro ⟨U, _⟩ ⟨rfl, uo, up, uc, us, un⟩
    dsimp only at uo up uc us un ⊢
    have uM := uo.2.2.2.1 _ _ m1
    have tk : (KRs L nl nr st ln).take (KRs L nl nr st ln).length = KRs L nl nr st ln := List.take_length
    rw [tk] at uo up
    refine ⟨U, by rw [tmIHas_l uM (by omega), if_neg (by omega), Option.bind_some, if_pos rfl], ?_, up, by omega, by omega, un⟩
    obtain ⟨r1, r2, r3, r4, r5, r7, r8, r9⟩ := uo
    refine ⟨r1, r2, r3, r4, r5, ⟨r7.1, fun k hk => ?_, r7.2.2⟩, r8, r9⟩
    have := r7.2.1 k hk
    have kn := this.1
    dsimp only at this ⊢
    have e : (if lfB L nl st ln k = true then Value.ref (sp (spn L nl st ln k)) else if k ∈ KRs L nl nr st ln then .ref (spo ou sp (fcS L nl st lab k)) else .null) = if lfB L nl st ln k = true then .ref (sp (spn L nl st ln k)) else .ref (spo ou sp (fcS L nl st lab k)) := by
      by_cases z : lfB L nl st ln k = true
      · rw [if_pos z, if_pos z]
      · rw [if_neg z, if_neg z, if_pos (KRs_m.mpr ⟨kn, z⟩)]
    rw [e] at this
    exact this
  · dsimp only
    have : (fun k => if lfB L nl st ln k = true then Value.ref (sp (spn L nl st ln k)) else if k ∈ (KRs L nl nr st ln).take 0 then .ref (spo ou sp (fcS L nl st lab k)) else .null) = fun k => if lfB L nl st ln k = true then .ref (sp (spn L nl st ln k)) else .null := by
      funext w
      by_cases z : lfB L nl st ln w = true
      · rw [if_pos z, if_pos z]
      · rw [if_neg z, if_neg z, if_neg (by simp)]
    rw [this]; exact o
end
