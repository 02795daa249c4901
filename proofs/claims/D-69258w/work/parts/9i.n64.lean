/-! the plan: find, on both sides -/
section
variable {own : Nat → Nat} {s : CS} {t : TS}
theorem bel_0 : bel 0 1001 := ⟨0, by omega, rfl⟩
theorem lnH_rs {L : PLn} {nl : Nat} {LC LD : Nat → Nat} {ml : Int32} {X : Nat} (h : lnH (rs s.1 own X) L nl LC LD ml) : lnH s.1 L nl LC LD ml := ⟨(rs_some.mp h.1).2, fun l hl => (rs_some.mp (h.2.1 l hl)).2, h.2.2⟩
theorem pl_find (hw : wfS s) (r : R2 (rs s.1 own 2) t) (h179 : 179 ≤ s.2.1) (hc : s.2.2.1 + 200000 < 4000000000) : Rg thr1 (fun X => X = 2) 2 (R2k t) own s t 8000 91000 (c_896 102 s) (t_562 t) := by
  have hR := r
  obtain ⟨L, nl, LC, LD, DC, nd, fo, be, co, fi, r⟩ := r
  have q := r
  obtain ⟨r1, r2, r3, r4, ⟨l1, l2, ⟨ml, l3⟩, l6⟩, d, r7⟩ := r
  have h102 := (rs_some.mp r1).2
  have go : (if t.1 1 = 0 then (if t.1 111 < 60 then some 1 else some 0) else some 0) = some (if t.1 1 = 0 ∧ fi < 60 then (1 : Int32) else 0) := by
    rw [r3]
    by_cases z : t.1 1 = 0
    · rw [if_pos z]
      by_cases w : fi < 60
      · rw [if_pos ((i_ltL (by omega) (by decide)).mpr w), if_pos ⟨z, w⟩]
      · rw [if_neg (fun k => w ((i_ltL (by omega) (by decide)).mp k)), if_neg (fun k => w k.2)]
    · rw [if_neg z, if_neg (fun k => z k.1)]
  unfold t_562
  rw [go, Option.bind_some]
  by_cases z : t.1 1 = 0 ∧ fi < 60
  · rw [if_pos z, stays_eq t (Or.inr rfl), Option.bind_some]
    dsimp only
    rw [if_neg (show ¬ (1 : Int32) = 0 by decide), if_neg (show ¬ (1 : Int32) = 0 by decide)]
    have a0 : agr [0] [] t (ptI t 0 0) := agr_p agr_refl (by simp)
    have hln := lnR_cg l2 a0 (by simp) (by simp)
    have ac : ∀ {T : TS}, agr [109, 110, 111, 112, 113, 117, 118, 119, 120, 124, 127, 130, 135] [58, 59, 60, 61, 62, 63, 64, 65, 66, 67, 68, 69, 70, 71, 72, 73, 74, 75] (ptI t 0 0) T → agr [0, 109, 110, 111, 112, 113, 117, 118, 119, 120, 124, 127, 130, 135] [58, 59, 60, 61, 62, 63, 64, 65, 66, 67, 68, 69, 70, 71, 72, 73, 74, 75] t T := fun h => agr_trans (agr_mono a0 (by simp) (by simp)) (agr_mono h (by simp) (by simp))
    have fiB : Int32.ofNat fi < 60 := (i_ltL (by omega) (by decide)).mpr z.2
    have fin : ∀ (b : Bool) (x : Int32 × TS) (nr : Nat) (st ln : Nat → Nat) (lab : Int → Int → Int) (nm : Nat → Int32) (S : CS) (f2 f3 : Value) (pid nid aid : Nat → Nat → Nat) (si rc rl sp sl : Nat → Nat), t_685 (ptI t 0 0) = some x → x.1 = Int32.ofNat (spn L nl st ln nr) → FT x.2 L nl nr st ln lab nm → x.2.1 109 = 1 → x.2.1 110 = 1 → x.2.1 111 = t.1 111 + 1 → agr [109, 110, 111, 112, 113, 117, 118, 119, 120, 124, 127, 130, 135] [58, 59, 60, 61, 62, 63, 64, 65, 66, 67, 68, 69, 70, 71, 72, 73, 74, 75] (ptI t 0 0) x.2 → (∀ k, k < spn L nl st ln nr → bel (nm k) 1001) → c_896 102 s = some (.inl (Int32.ofNat (spn L nl st ln nr), S)) → S.1 102 = some (true, false, 67, [.ref 103, .ref s.2.1, f2, f3, .int 1, .int (Int32.ofNat fi + 1), .int 0]) → (∀ q, q < s.2.1 → q ≠ 102 → S.1 q = s.1 q) → wfS S → s.2.1 ≤ S.2.1 → FD s.2.1 S.1 L nl nr st ln LC s.2.1 (s.2.1 + 1) (s.2.1 + 2) (s.2.1 + 3) (s.2.1 + 4) pid nid aid si rc rl sp sl (fun k => if lfB L nl st ln k = true then .ref (sp (spn L nl st ln k)) else .ref (spo (s.2.1 + 2) sp (fcS L nl st lab k))) nm (inF L nl st lab (KRs L nl nr st ln)) → S.2.2.1 ≤ s.2.2.1 + 8000 → S.2.2.2 ≤ s.2.2.2 + 91000 → Rg thr1 (fun X => X = 2) 2 (R2k t) own s t 8000 91000 (c_896 102 s) (Option.bind (t_685 (ptI t 0 0)) (fun x2 => some (x2.1, x2.2))) := by
      intro b x nr st ln lab nm S f2 f3 pid nid aid si rc rl sp sl e1 e2 hT t1 t2 t3 a hb e3 hv hf wS nS hD c1 c2
      rw [e1, Option.bind_some]
      refine Or.inl ⟨x.1, S, x.2, ow2 own s.2.1, by rw [e3, e2], rfl, by rw [a.1 0 (by simp)]; rfl, fun Z h1 h2 => agr_rt (ac a) (fun c hc => ?_) (fun c hc => ?_), ⟨nS, fun q hq => if_neg (by omega), fun q hq hx => hf q hq (fun w => hx (by rw [w]; exact (rs_some.mp r1).1)), fun q h1 h2 => if_pos h1, wS⟩, ⟨R2_new hw q z.2 (by rw [hv, r3, z.1]) hf (ac a) t1 t2 t3 hT hb hD h179, Or.inl z.1⟩, c1, c2⟩
      · simp only [List.mem_cons, List.not_mem_nil, or_false] at hc
        rcases hc with rfl | rfl | rfl | rfl | rfl | rfl | rfl | rfl | rfl | rfl | rfl | rfl | rfl | rfl <;> first | exact fun w => h1 w.symm | exact fun w => h2 w.symm
      · simp only [List.mem_cons, List.not_mem_nil, or_false] at hc
        rcases hc with rfl | rfl | rfl | rfl | rfl | rfl | rfl | rfl | rfl | rfl | rfl | rfl | rfl | rfl | rfl | rfl | rfl | rfl <;> first | exact fun w => h1 w.symm | exact fun w => h2 w.symm
    rw [r3, z.1] at h102
    rcases r7 with ⟨rfl, h9, h10⟩ | ⟨fd, rfl, h9, h10, hF⟩
    · obtain ⟨x, e1, nr, st, ln, lab, e2, hT, t1, t2, t3, a⟩ := t_run (Lo := L) (no := 0) (nro := 0) (sto := id) (lno := id) (labo := fun _ _ => 0) (onm := fun _ => 0) hln l1 false (by rw [if_neg (by decide)]; exact h9) (fun h => by cases h)
      obtain ⟨S, f2, f3, pid, nid, aid, si, rc, rl, sp, sl, e3, hv, hf, wS, nS, hD, c1, c2⟩ := c_findC (Lo := L) (no := 0) (nro := 0) (sto := id) (lno := id) (labo := fun _ _ => 0) (nmo := fun _ => 0) (b1 := 0) (LCo := id) (fdo := 0) (fLo := 0) (ouo := 0) (olo := 0) (mpo := 0) (pido := fun _ _ => 0) (nido := fun _ _ => 0) (aido := fun _ _ => 0) (sio := id) (rco := id) (rlo := id) (spp := id) (slo := id) (rsvo := fun _ => .null) (inno := fun _ => []) l1 hT.2.1 hT.2.2.2.1 hw hc (lnH_rs l3) false h102 fiB (fun _ => rfl) (fun h => by cases h)
      exact fin false x nr st ln lab _ S f2 f3 pid nid aid si rc rl sp sl e1 e2 hT t1 t2 t3 a (fun k hk => bel_0) e3 hv hf wS nS hD c1 c2
    · obtain ⟨Lf, nf, nro, sto, lno, labo, fLo, ouo, olo, mpo, pido, nido, aido, sio, rco, rlo, spp, slo, hT0, hD0, _, _, _, hb0, _⟩ := hF
      have hT0' : FT (ptI t 0 0) Lf nf nro sto lno labo (fun k => t.2.2.1 64 k) := FT_cg hT0 a0 (by simp) (by simp) (by simp)
      have hD0' := FD_own (b1 := 179) (LC' := LC) (h' := s.1) hD0 (Nat.le_refl _) (fun a c _ e => (rs_some.mp e).2) (fun _ _ => rfl)
      obtain ⟨x, e1, nr, st, ln, lab, e2, hT, t1, t2, t3, a⟩ := t_run hln l1 true (by rw [if_pos rfl]; exact h9) (fun _ => hT0')
      obtain ⟨S, f2, f3, pid, nid, aid, si, rc, rl, sp, sl, e3, hv, hf, wS, nS, hD, c1, c2⟩ := c_findC l1 hT.2.1 hT.2.2.2.1 hw hc (lnH_rs l3) true h102 fiB (fun h => by cases h) (fun _ => ⟨rfl, hT0.1, hT0.2.1, hT0.2.2.2.1, hD0'⟩)
      exact fin true x nr st ln lab _ S f2 f3 pid nid aid si rc rl sp sl e1 e2 hT t1 t2 t3 a (fun k hk => crN_nm (P := fun v => bel v 1001) bel_0 _ (fun o ho => hb0 o ho) k) e3 hv hf wS nS hD c1 c2
  · rw [if_neg z, stays_eq t (Or.inl rfl), Option.bind_some]
    dsimp only
    rw [if_pos rfl, if_pos rfl]
    refine Or.inr ⟨0, 12, 1, s, own, ⟨rfl, rfl⟩, ?_, rfl, Frm.refl hw, ⟨hR, Or.inr rfl⟩, by omega, by omega⟩
    unfold c_896
    rw [xI_o (x := t.1 1) h102 rfl rfl, Option.bind_some, xI_o (x := t.1 111) h102 rfl rfl, Option.bind_some, go, Option.bind_some, if_neg z, may_eq, if_pos rfl, Option.bind_some]
    rfl
end
