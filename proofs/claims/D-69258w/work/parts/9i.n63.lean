/-! the plan: a finding whole: the component -/
section
variable {b1 : Nat} {s : CS} {L : PLn} {nl nr : Nat} {st ln LC LD : Nat → Nat} {lab : Int → Int → Int} {ml : Int32}
variable {Lo : PLn} {no nro : Nat} {sto lno LCo : Nat → Nat} {labo : Int → Int → Int} {fdo fLo ouo olo mpo : Nat} {pido nido aido : Nat → Nat → Nat} {sio rco rlo spp slo : Nat → Nat} {rsvo : Nat → Value} {nmo : Nat → Int32} {inno : Int → List Nat}
theorem c_findC (hg : gdL L nl) (hR : RF L nl nr st ln) (hL : LabN L nl nr st ln lab) (hw : wfS s) (hc : s.2.2.1 + 200000 < 4000000000) (hLn : lnH s.1 L nl LC LD ml) (b : Bool) {fo be co x4 : Value} {fi : Int32} (hv : s.1 102 = some (true, false, 67, [.ref 103, fo, be, co, x4, .int fi, .int 0])) (hfi : fi < 60) (hb0 : b = false → fo = .null) (hb1 : b = true → fo = .ref fdo ∧ gdL Lo no ∧ RF Lo no nro sto lno ∧ LabN Lo no nro sto lno labo ∧ FD b1 s.1 Lo no nro sto lno LCo fdo fLo ouo olo mpo pido nido aido sio rco rlo spp slo rsvo nmo inno) :
    ∃ S f2 f3 pid nid aid si rc rl sp sl, c_896 102 s = some (.inl (Int32.ofNat (spn L nl st ln nr), S)) ∧ S.1 102 = some (true, false, 67, [.ref 103, .ref s.2.1, f2, f3, .int 1, .int (fi + 1), .int 0]) ∧ (∀ q, q < s.2.1 → q ≠ 102 → S.1 q = s.1 q) ∧ wfS S ∧ s.2.1 ≤ S.2.1 ∧ FD s.2.1 S.1 L nl nr st ln LC s.2.1 (s.2.1 + 1) (s.2.1 + 2) (s.2.1 + 3) (s.2.1 + 4) pid nid aid si rc rl sp sl (fun k => if lfB L nl st ln k = true then .ref (sp (spn L nl st ln k)) else .ref (spo (s.2.1 + 2) sp (fcS L nl st lab k))) (nmF b labo lab nmo (spn L nl st ln nr) (spn Lo no sto lno nro)) (inF L nl st lab (KRs L nl nr st ln)) ∧ S.2.2.1 ≤ s.2.2.1 + 8000 ∧ S.2.2.2 ≤ s.2.2.2 + 91000 := by
  have l102 := wf_lt hw hv
  unfold c_896
  rw [xI_o (x := 0) hv rfl rfl, Option.bind_some, if_pos rfl, xI_o (x := fi) hv rfl rfl, Option.bind_some, if_pos hfi, Option.bind_some, may_eq, if_neg (by decide), Option.bind_some]
  dsimp only [Sum.elim_inl]
  rw [xI_o (x := fi) hv rfl rfl, Option.bind_some, xP_o (k := 5) hv rfl (by show 5 < 7; decide), Option.bind_some]
  obtain ⟨s6, hs6⟩ : ∃ s6, s6 = cup s 102 (true, false, 67, [.ref 103, fo, be, co, x4, .int (fi + 1), .int 0]) := ⟨_, rfl⟩
  rw [show cup s 102 (true, false, 67, [Value.ref 103, fo, be, co, x4, .int fi, .int 0].set 5 (.int (fi + 1))) = s6 from hs6.symm]
  have v6 : s6.1 102 = some (true, false, 67, [.ref 103, fo, be, co, x4, .int (fi + 1), .int 0]) := by rw [hs6]; exact cup_eq ..
  have t6 : ∀ q, q ≠ 102 → s6.1 q = s.1 q := fun q hq => by rw [hs6]; exact cup_ne hq
  have k6 : ∀ q c, s.1 q = some c → c.2.2.1 ≠ 67 → s6.1 q = some c := fun q c e z => by
    rw [t6 q (fun w => by rw [w, hv] at e; cases e; exact z rfl)]; exact e
  have c6 : s6.2 = s.2 := by rw [hs6]; rfl
  have w6 : wfS s6 := by rw [hs6]; exact wf_cup hw l102
  have hLn6 : lnH s6.1 L nl LC LD ml := ⟨k6 _ _ hLn.1 (by show ¬ (1013 : Nat) = 67; decide), fun l hl => k6 _ _ (hLn.2.1 l hl) (by show ¬ (59 : Nat) = 67; decide), hLn.2.2⟩
  obtain ⟨S, pid, nid, aid, si, rc, rl, sp, sl, e, wS, nS, fS, rS, cS1, cS2⟩ := c_fnd hg hR hL w6 (by rw [c6]; omega) hLn6 v6 (A := Sum (Int32 × CS) (Nat × CS)) (fun F x27 => Option.bind (xR x27 [(67, 1)] 102) (fun r28 => Option.bind (xP x27 [(67, 2)] 102 (vR r28)) (fun s29 => Option.bind (xP s29 [(67, 1)] 102 (.ref F)) (fun s30 => Option.bind (xP s30 [(67, 4)] 102 (.int 1)) (fun s31 => Option.bind (xR s31 [(67, 2)] 102) (fun r32 => Option.bind ((if r32 = none then some s31 else (if isK s31 [67] 102 = true then Option.bind (c_900 102 s31) (fun x33 => (if isK x33 [67] 102 = true then Option.bind (c_902 102 x33) (fun x34 => some x34) else none)) else none))) (fun v88 => Option.bind (xN v88 [(61, 0)] F) (fun a35 => (if isK v88 [13] a35 = true then Option.bind (alSize v88 a35) (fun x36 => some (.inl (x36, v88))) else none)))))))))
  rw [e]
  rw [c6] at nS fS rS cS1 cS2 ⊢
  have fS' : ∀ q c, s6.1 q = some c → q < s.2.1 → S.1 q = some c := fun q c e h => by rw [fS q h]; exact e
  have vS := fS' _ _ v6 l102
  obtain ⟨F, hF⟩ : ∃ F, F = s.2.1 := ⟨_, rfl⟩
  rw [← hF] at fS fS' rS ⊢
  have hdr : ∃ r28 : Option Nat, xR S [(67, 1)] 102 = some r28 ∧ vR r28 = fo := by
    cases b with
    | false => rw [hb0 rfl] at vS ⊢; exact ⟨none, xR_z vS rfl rfl, rfl⟩
    | true => rw [(hb1 rfl).1] at vS ⊢; exact ⟨some fdo, xR_o vS rfl rfl, rfl⟩
  obtain ⟨r28, e28, v28⟩ := hdr
  rw [e28, Option.bind_some, v28, xP_o (k := 2) vS rfl (by show 2 < 7; decide), Option.bind_some]
  rw [xP_o (k := 1) (show (cup S 102 (true, false, 67, [Value.ref 103, fo, be, co, x4, .int (fi + 1), .int 0].set 2 fo)).1 102 = some (true, false, 67, [.ref 103, fo, fo, co, x4, .int (fi + 1), .int 0]) from cup_eq ..) rfl (by show 1 < 7; decide), Option.bind_some]
  obtain ⟨S30, hS30⟩ : ∃ S30, S30 = cup (cup S 102 (true, false, 67, [Value.ref 103, fo, be, co, x4, .int (fi + 1), .int 0].set 2 fo)) 102 (true, false, 67, [Value.ref 103, fo, fo, co, x4, .int (fi + 1), .int 0].set 1 (.ref F)) := ⟨_, rfl⟩
  rw [← hS30]
  have v30 : S30.1 102 = some (true, false, 67, [.ref 103, .ref F, fo, co, x4, .int (fi + 1), .int 0]) := by rw [hS30]; exact cup_eq ..
  have t30 : ∀ q, q ≠ 102 → S30.1 q = S.1 q := fun q hq => by rw [hS30, cup_ne hq, cup_ne hq]
  rw [xP_o (k := 4) v30 rfl (by show 4 < 7; decide), Option.bind_some]
  obtain ⟨S31, hS31⟩ : ∃ S31, S31 = cup S30 102 (true, false, 67, [Value.ref 103, .ref F, fo, co, x4, .int (fi + 1), .int 0].set 4 (.int 1)) := ⟨_, rfl⟩
  rw [← hS31]
  have v31 : S31.1 102 = some (true, false, 67, [.ref 103, .ref F, fo, co, .int 1, .int (fi + 1), .int 0]) := by rw [hS31]; exact cup_eq ..
  have t31 : ∀ q, q ≠ 102 → S31.1 q = S.1 q := fun q hq => by rw [hS31, cup_ne hq, t30 q hq]
  have n31 : S31.2 = S.2 := by rw [hS31, hS30]; rfl
  have w31 : wfS S31 := by
    intro a ha
    rw [n31] at ha
    rw [t31 a (by omega)]
    exact wS a ha
  have k31 : ∀ q c, S.1 q = some c → c.2.2.1 ≠ 67 → S31.1 q = some c := fun q c e z => by
    rw [t31 q (fun w => by rw [w, vS] at e; cases e; exact z rfl)]; exact e
  have r31 : FD F S31.1 L nl nr st ln LC F (F + 1) (F + 2) (F + 3) (F + 4) pid nid aid si rc rl sp sl (fun k => if lfB L nl st ln k = true then .ref (sp (spn L nl st ln k)) else .ref (spo (F + 2) sp (fcS L nl st lab k))) (fun _ => 0) (inF L nl st lab (KRs L nl nr st ln)) := FD_ext rS (fun q c e z _ _ => k31 q c e z)
  have f31 : ∀ q, q < F → q ≠ 102 → S31.1 q = s.1 q := fun q h1 h2 => by rw [t31 q h2, fS q h1, t6 q h2]
  have fin : ∀ (V : CS) (f2 f3 : Value) (nm : Nat → Int32), V.1 102 = some (true, false, 67, [.ref 103, .ref F, f2, f3, .int 1, .int (fi + 1), .int 0]) → (∀ q, q < F → q ≠ 102 → V.1 q = s.1 q) → wfS V → F ≤ V.2.1 → FD F V.1 L nl nr st ln LC F (F + 1) (F + 2) (F + 3) (F + 4) pid nid aid si rc rl sp sl (fun k => if lfB L nl st ln k = true then .ref (sp (spn L nl st ln k)) else .ref (spo (F + 2) sp (fcS L nl st lab k))) nm (inF L nl st lab (KRs L nl nr st ln)) → V.2.2.1 ≤ s.2.2.1 + 8000 → V.2.2.2 ≤ s.2.2.2 + 91000 → ∃ S f2 f3 pid nid aid si rc rl sp sl, Option.bind (some V) (fun v88 => Option.bind (xN v88 [(61, 0)] F) (fun a35 => (if isK v88 [13] a35 = true then Option.bind (alSize v88 a35) (fun x36 => some (Sum.inl (β := Nat × CS) (x36, v88))) else none))) = some (Sum.inl (Int32.ofNat (spn L nl st ln nr), S)) ∧ S.1 102 = some (true, false, 67, [.ref 103, .ref F, f2, f3, .int 1, .int (fi + 1), .int 0]) ∧ (∀ q, q < F → q ≠ 102 → S.1 q = s.1 q) ∧ wfS S ∧ F ≤ S.2.1 ∧ FD F S.1 L nl nr st ln LC F (F + 1) (F + 2) (F + 3) (F + 4) pid nid aid si rc rl sp sl (fun k => if lfB L nl st ln k = true then .ref (sp (spn L nl st ln k)) else .ref (spo (F + 2) sp (fcS L nl st lab k))) nm (inF L nl st lab (KRs L nl nr st ln)) ∧ S.2.2.1 ≤ s.2.2.1 + 8000 ∧ S.2.2.2 ≤ s.2.2.2 + 91000 := by
    intro V f2 f3 nm h1 h2 h3 h4 h5 h6 h7
    obtain ⟨mF, z⟩ := h5.2.2.1
    refine ⟨V, f2, f3, pid, nid, aid, si, rc, rl, sp, sl, ?_, h1, h2, h3, h4, h5, h6, h7⟩
    rw [Option.bind_some, xN_o (b := F + 1) h5.2.1 rfl rfl, Option.bind_some, if_pos (isK_t z rfl), alSize_r z, Option.bind_some]
  cases b with
  | false =>
    have fn := hb0 rfl
    have e32 : xR S31 [(67, 2)] 102 = some none := by rw [fn] at v31; exact xR_z v31 rfl rfl
    rw [e32, Option.bind_some, if_pos rfl]
    refine fin S31 fo co _ v31 f31 w31 (by rw [n31]; omega) r31 (by rw [n31]; omega) (by rw [n31]; omega)
  | true =>
    obtain ⟨fn, hgo, hRo, hLo, ro⟩ := hb1 rfl
    rw [fn] at v31
    rw [xR_o (b := fdo) v31 rfl rfl, Option.bind_some, if_neg (by intro w; cases w), if_pos (isK_t v31 rfl)]
    have ro31 : FD b1 S31.1 Lo no nro sto lno LCo fdo fLo ouo olo mpo pido nido aido sio rco rlo spp slo rsvo nmo inno := FD_ext ro (fun q c e z _ _ => by
      rw [f31 q (by rw [hF]; exact wf_lt hw e) (fun w => by rw [w, hv] at e; cases e; exact z rfl)]; exact e)
    obtain ⟨V, a, b, eV, wV, vV, cV, fV, nV, aV, bV, ha, hb⟩ := c_share hg hR hL hgo hRo hLo r31 ro31 v31 w31 (by rw [n31]; omega) hL.2.1 hLo.2.1
    rw [eV, Option.bind_some, if_pos (isK_t vV rfl)]
    have kV : ∀ q c, S31.1 q = some c → c.2.2.1 ≠ 67 → V.1 q = some c := fun q c e z => by
      rw [fV q (wf_lt w31 e) (fun w => by rw [w, v31] at e; cases e; exact z rfl)]; exact e
    have rV : FD F V.1 L nl nr st ln LC F (F + 1) (F + 2) (F + 3) (F + 4) pid nid aid si rc rl sp sl (fun k => if lfB L nl st ln k = true then .ref (sp (spn L nl st ln k)) else .ref (spo (F + 2) sp (fcS L nl st lab k))) (fun _ => 0) (inF L nl st lab (KRs L nl nr st ln)) := FD_ext r31 (fun q c e z _ _ => kV q c e z)
    have roV : FD b1 V.1 Lo no nro sto lno LCo fdo fLo ouo olo mpo pido nido aido sio rco rlo spp slo rsvo nmo inno := FD_ext ro31 (fun q c e z _ _ => kV q c e z)
    obtain ⟨W, eW, wW, rW, fW, nW, aW, bW⟩ := c_carry hg hR hL hgo hRo hLo rV roV vV cV wV (fun o j ho hj w => by
      have := wf_lt hw (ro.2.2.2.2.1 o ho).1
      have := (rV.2.2.2.2.1 j hj).2.1
      omega)
    rw [eW, Option.bind_some]
    have l31 : F ≤ S31.2.1 := by rw [n31]; omega
    have spF := fun j hj => (rV.2.2.2.2.1 j hj).2.1
    refine fin W (.ref fdo) (.ref S31.2.1) _ ?_ (fun q h1 h2 => ?_) wW (by omega) rW ?_ ?_
    · rw [fW 102 (by omega) (fun j hj w => by have := spF j hj; omega)]; exact vV
    · rw [fW q (by omega) (fun j hj w => by have := spF j hj; omega), fV q (by omega) h2, f31 q h1 h2]
    · rw [n31] at aV; omega
    · rw [n31] at bV; omega
end
