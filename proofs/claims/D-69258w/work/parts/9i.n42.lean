/-! the plan: in which space a unit is -/
section
variable {L : PLn} {nl nr : Nat} {st ln : Nat → Nat} {lab : Int → Int → Int} {LC : Nat → Nat} {b0 : Nat} {s : CS} {fd fL ou ol mp : Nat} {pid nid aid : Nat → Nat → Nat} {si rc rl sp sl : Nat → Nat} {rsv : Nat → Value} {nm : Nat → Int32} {inn : Int → List Nat}
theorem tn_bd (hg : gdL L nl) (hR : RF L nl nr st ln) (hl : gLab (gS L nl) (2 * nP L nl) lab) {k : Nat} (hk : k < nr) : -1000000 ≤ gtrn (gS L nl) (rgs L nl st ln k) ∧ gtrn (gS L nl) (rgs L nl st ln k) ≤ 1000000 := by
  have G := gS_geo hg hl
  have fam := RF_fam hg hR hl
  have e := G.area (fam.1 k hk).1
  have b : ∀ i j, -1 ≤ gwn (gS L nl) (rgs L nl st ln k) i j ∧ gwn (gS L nl) (rgs L nl st ln k) i j ≤ 1 := by
    intro i j
    rcases Fam.or G fam hk with q | q
    · have := q.2.2 i j; omega
    · have := q.2.2 i j; omega
  have u : gsB (gwn (gS L nl) (rgs L nl st ln k)) ≤ gsB (fun _ _ => 1) := sB_le (fun i j => (b i j).2)
  have l : gsB (fun _ _ => -1) ≤ gsB (gwn (gS L nl) (rgs L nl st ln k)) := sB_le (fun i j => (b i j).1)
  have e1 : gsB (fun _ _ => (1 : Int)) = 576 := by decide
  have e2 : gsB (fun _ _ => (-1 : Int)) = -576 := by decide
  omega
/-- round which unit a ring goes -/
theorem inR_i (hg : gdL L nl) (hR : RF L nl nr st ln) (hl : gLab (gS L nl) (2 * nP L nl) lab) {k : Nat} (hk : k < nr) (h1 : lfB L nl st ln k = true) (i j : Int) : gxr (gS L nl) i j (rgs L nl st ln k) false = true ↔ gwn (gS L nl) (rgs L nl st ln k) i j = 1 := by
  rcases Fam.or (gS_geo hg hl) (RF_fam hg hR hl) hk with q | q
  · exact xrs_1 (q.2.2 i j)
  · exact absurd ((lfB_i hg hR hl hk).mp h1) q.1
theorem c_at (hg : gdL L nl) (hR : RF L nl nr st ln) (hL : LabN L nl nr st ln lab) (r : FD b0 s.1 L nl nr st ln LC fd fL ou ol mp pid nid aid si rc rl sp sl rsv nm inn) {xi yj i j : Int} (hx : ∀ q, q < 2 * nP L nl → ((2 * (sX L nl q : Int) < xi) ↔ (sX L nl q : Int) ≤ i)) (hy : yj = 2 * j ∨ yj = 2 * j + 1) (bx : -1000 ≤ xi ∧ xi ≤ 1000) (bj : -1000 ≤ yj ∧ yj ≤ 1000) : c_873 fd (Int32.ofInt xi) (Int32.ofInt yj) s = some (some (spo ou sp (lab i j)), chg s 1 4) := by
  obtain ⟨⟨rv, r1, r2⟩, r3, ⟨mf, r4⟩, ⟨r5, _⟩, r6, r7, r8, r9, r10, _⟩ := r
  have ns1 := spn_100 hg hR hL.1
  unfold c_873
  rw [xR_o (b := ou) r3 rfl rfl]; repeat (first | rw [Option.bind_some] | rw [Sum.elim_inl] | rw [Sum.elim_inr])
  rw [xN_o (b := fL) r3 rfl rfl]; repeat (first | rw [Option.bind_some] | rw [Sum.elim_inl] | rw [Sum.elim_inr])
  rw [if_pos (isK_t r4 rfl), alMc_l r4]; repeat (first | rw [Option.bind_some] | rw [Sum.elim_inl] | rw [Sum.elim_inr])
  dsimp only
  have r4' : (chg s 1 4).1 fL = _ := r4
  have key : Tr (wh (S := Option Nat × Int32) (X := Option Nat) (fun p7 => Option.bind (alHas (chg s 1 4) fL p7.2) (fun x4 => (if x4 = 0 then some (.inr p7.1) else Option.bind (alNext (chg s 1 4) fL mf p7.2) (fun e5 => Option.bind (toN (chg s 1 4) [62] e5) (fun a6 => Option.bind (xN (chg s 1 4) [(62, 1)] a6) (fun a7 => (if isK (chg s 1 4) [66] a7 = true then Option.bind (c_888 a7 (Int32.ofInt xi) (Int32.ofInt yj) (chg s 1 4)) (fun x8 => Option.bind ((if x8 = 0 then some p7.1 else Option.bind (xR (chg s 1 4) [(61, 1)] fd) (fun r9 => Option.bind ((if p7.1 = r9 then some (.inl ()) else (if nst (chg s 1 4) (vR p7.1) = true then Option.bind (xN (chg s 1 4) [(62, 1)] a6) (fun a10 => Option.bind (xI (chg s 1 4) [(66, 2)] a10) (fun x11 => Option.bind (p7.1) (fun a12 => Option.bind (xN (chg s 1 4) [(62, 1)] a12) (fun a13 => Option.bind (xI (chg s 1 4) [(66, 2)] a13) (fun x14 => (if x11 < x14 then some (.inl ()) else some (.inr (some a12)))))))) else none))) (Sum.elim (fun v31 => some (some a6)) (fun z => some z))))) (fun v33 => some (.inl (v33, p7.2 + 1)))) else none))))))) (some ou, 0)) (fun v => v = some (spo ou sp (lab i j))) := by
    refine wh_cnt (spn L nl st ln nr) (fun n (x : Option Nat × Int32) => x.2 = Int32.ofNat n ∧ ((x.1 = some ou ∧ ∀ m, m < n → gwn (gS L nl) (rgs L nl st ln (lkF L nl nr st ln m)) i j ≠ 1) ∨ ∃ m, m < n ∧ x.1 = some (sp m) ∧ gwn (gS L nl) (rgs L nl st ln (lkF L nl nr st ln m)) i j = 1 ∧ ∀ m', m' < n → gwn (gS L nl) (rgs L nl st ln (lkF L nl nr st ln m')) i j = 1 → gtrn (gS L nl) (rgs L nl st ln (lkF L nl nr st ln m)) ≤ gtrn (gS L nl) (rgs L nl st ln (lkF L nl nr st ln m')))) ?_ ?_ ⟨rfl, Or.inl ⟨rfl, fun m hm => absurd hm (Nat.not_lt_zero _)⟩⟩
    · rintro n ⟨v, _⟩ hn ⟨rfl, hv⟩
      right
      dsimp only at hv ⊢
      obtain ⟨k1, k2, k3⟩ := lkF_o hn
      obtain ⟨p1, p2, p3, _⟩ := r6 n hn
      obtain ⟨q1, q2, q3, mc, q4⟩ := r7 _ k1
      have tb := tn_bd hg hR hL.1 k1
      rw [alHas_r r4' (by omega) (by omega), if_neg (by omega)]; repeat (first | rw [Option.bind_some] | rw [Sum.elim_inl] | rw [Sum.elim_inr])
      rw [if_neg (by decide), alNext_r r4' hn (by omega)]; repeat (first | rw [Option.bind_some] | rw [Sum.elim_inl] | rw [Sum.elim_inr])
      rw [toN_o (show (chg s 1 4).1 (sp n) = _ from p1) rfl]; repeat (first | rw [Option.bind_some] | rw [Sum.elim_inl] | rw [Sum.elim_inr])
      rw [xN_o (b := rc (lkF L nl nr st ln n)) (show (chg s 1 4).1 (sp n) = _ from p1) rfl rfl]; repeat (first | rw [Option.bind_some] | rw [Sum.elim_inl] | rw [Sum.elim_inr])
      rw [if_pos (isK_t (show (chg s 1 4).1 (rc (lkF L nl nr st ln n)) = _ from q3) rfl), c_inR (s := chg s 1 4) hg hR r1 k1 q3 q4 hx hy bx bj]; repeat (first | rw [Option.bind_some] | rw [Sum.elim_inl] | rw [Sum.elim_inr])
      rw [i_suc]
      have inr := inR_i hg hR hL.1 k1 k2 i j
      by_cases z : gxr (gS L nl) i j (rgs L nl st ln (lkF L nl nr st ln n)) false = true
      · have zw := inr.mp z
        rw [if_pos z, if_neg (by decide), xR_o (b := ou) (show (chg s 1 4).1 fd = _ from r3) rfl rfl]; repeat (first | rw [Option.bind_some] | rw [Sum.elim_inl] | rw [Sum.elim_inr])
        rcases hv with ⟨rfl, hv⟩ | ⟨m, hm, rfl, hm1, hm2⟩
        · rw [if_pos rfl]; repeat (first | rw [Option.bind_some] | rw [Sum.elim_inl] | rw [Sum.elim_inr])
          refine ⟨_, rfl, rfl, Or.inr ⟨n, by omega, rfl, zw, fun m' hm' hw' => ?_⟩⟩
          by_cases e : m' = n
          · rw [e]; exact Int.le_refl _
          · exact absurd hw' (hv m' (by omega))
        · have mns : m < spn L nl st ln nr := by omega
          obtain ⟨k1', k2', k3'⟩ := lkF_o mns
          obtain ⟨p1', _⟩ := r6 m mns
          obtain ⟨_, _, q3', _⟩ := r7 _ k1'
          have tb' := tn_bd hg hR hL.1 k1'
          have ne : ¬ some (sp m) = some ou := fun w => r10 m mns (Option.some.inj w)
          have ns : nst (chg s 1 4) (vR (some (sp m))) = true := by
            show (match s.1 (sp m) with | some x => x.2.2.1 != 1000 | none => false) = true
            rw [p1']; rfl
          rw [if_neg ne, if_pos ns, xI_o (x := Int32.ofInt (gtrn (gS L nl) (rgs L nl st ln (lkF L nl nr st ln n)))) (show (chg s 1 4).1 (rc (lkF L nl nr st ln n)) = _ from q3) rfl rfl]; repeat (first | rw [Option.bind_some] | rw [Sum.elim_inl] | rw [Sum.elim_inr])
          rw [xN_o (b := rc (lkF L nl nr st ln m)) (show (chg s 1 4).1 (sp m) = _ from p1') rfl rfl]; repeat (first | rw [Option.bind_some] | rw [Sum.elim_inl] | rw [Sum.elim_inr])
          rw [xI_o (x := Int32.ofInt (gtrn (gS L nl) (rgs L nl st ln (lkF L nl nr st ln m)))) (show (chg s 1 4).1 (rc (lkF L nl nr st ln m)) = _ from q3') rfl rfl]; repeat (first | rw [Option.bind_some] | rw [Sum.elim_inl] | rw [Sum.elim_inr])
          by_cases lt : gtrn (gS L nl) (rgs L nl st ln (lkF L nl nr st ln n)) < gtrn (gS L nl) (rgs L nl st ln (lkF L nl nr st ln m))
          · rw [if_pos ((ofI_lt tb.1 tb.2 tb'.1 tb'.2).mpr lt)]; repeat (first | rw [Option.bind_some] | rw [Sum.elim_inl] | rw [Sum.elim_inr])
            refine ⟨_, rfl, rfl, Or.inr ⟨n, by omega, rfl, zw, fun m' hm' hw' => ?_⟩⟩
            by_cases e : m' = n
            · rw [e]; exact Int.le_refl _
            · have := hm2 m' (by omega) hw'; omega
          · rw [if_neg (fun w => lt ((ofI_lt tb.1 tb.2 tb'.1 tb'.2).mp w))]; repeat (first | rw [Option.bind_some] | rw [Sum.elim_inl] | rw [Sum.elim_inr])
            refine ⟨_, rfl, rfl, Or.inr ⟨m, by omega, rfl, hm1, fun m' hm' hw' => ?_⟩⟩
            by_cases e : m' = n
            · rw [e]; omega
            · exact hm2 m' (by omega) hw'
      · rw [if_neg z, if_pos rfl]; repeat (first | rw [Option.bind_some] | rw [Sum.elim_inl] | rw [Sum.elim_inr])
        refine ⟨_, rfl, rfl, ?_⟩
        have nz : gwn (gS L nl) (rgs L nl st ln (lkF L nl nr st ln n)) i j ≠ 1 := fun w => z (inr.mpr w)
        rcases hv with ⟨rfl, hv⟩ | ⟨m, hm, rfl, hm1, hm2⟩
        · refine Or.inl ⟨rfl, fun m hm => ?_⟩
          by_cases e : m = n
          · rw [e]; exact nz
          · exact hv m (by omega)
        · refine Or.inr ⟨m, by omega, rfl, hm1, fun m' hm' hw' => ?_⟩
          by_cases e : m' = n
          · rw [e] at hw'; exact absurd hw' nz
          · exact hm2 m' (by omega) hw'
    · rintro ⟨v, _⟩ ⟨rfl, hv⟩
      dsimp only at hv ⊢
      refine ⟨v, by rw [alHas_r r4' (by omega) (by omega), if_pos rfl, Option.bind_some, if_pos rfl], ?_⟩
      obtain ⟨f1, f2⟩ := Fam.at (gS_geo hg hL.1) (RF_fam hg hR hL.1) i j
      rw [hL.2.1] at f1 f2
      unfold spo
      by_cases z : lab i j = -1
      · rw [if_pos z]
        rcases hv with ⟨rfl, _⟩ | ⟨m, hm, rfl, hm1, _⟩
        · rfl
        · have := f1 z _ (lkF_o hm).1; omega
      · rw [if_neg z]
        obtain ⟨k, k1, k2, k3, k4, k5⟩ := f2 z
        have lk := (lfB_i hg hR hL.1 k1).mpr k2
        have e1 := hL.2.2 k k1 lk
        have e2 := lkF_s k1 lk
        have e3 := spn_lt k1 lk
        rcases hv with ⟨_, hv⟩ | ⟨m, hm, rfl, hm1, hm2⟩
        · have := hv _ e3
          rw [e2] at this
          exact absurd k4 this
        · obtain ⟨g1, g2, g3⟩ := lkF_o hm
          have le := hm2 _ e3 (by rw [e2]; exact k4)
          rw [e2] at le
          by_cases ek : lkF L nl nr st ln m = k
          · rw [← k3, e1, ← ek, g3]; rfl
          · have := k5 _ g1 ((lfB_i hg hR hL.1 g1).mp g2) ek hm1
            omega
  obtain ⟨v, e, rfl⟩ := key
  rw [e]; rfl
end
