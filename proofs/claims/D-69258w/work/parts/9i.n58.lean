/-! the plan: what spaces before and now have in common: the loops -/
def enS (ms : List Nat) (n : Nat) : Int32 := if n < ms.length then Int32.ofNat (ms.getD n 0) else -1
def epS (ms : List Nat) (n : Nat) : Int32 := if n = 0 then -1 else Int32.ofNat (ms.getD (n - 1) 0)
section
variable {b0 b1 : Nat} {s : CS} {L : PLn} {nl nr : Nat} {st ln LC : Nat → Nat} {lab : Int → Int → Int} {fd fL ou ol mp : Nat} {pid nid aid : Nat → Nat → Nat} {si rc rl sp sl : Nat → Nat} {rsv : Nat → Value} {nm : Nat → Int32} {inn : Int → List Nat}
variable {Lo : PLn} {no nro : Nat} {sto lno LCo : Nat → Nat} {labo : Int → Int → Int} {fdo fLo ouo olo mpo : Nat} {pido nido aido : Nat → Nat → Nat} {sio rco rlo spp slo : Nat → Nat} {rsvo : Nat → Value} {nmo : Nat → Int32} {inno : Int → List Nat}
def shT (labo lab : Int → Int → Int) (mx my : List Nat) (ns os k l m : Nat) : Int := if m < os * ns ∧ labo (mx.getD k 0 : Nat) (my.getD l 0 : Nat) = (m / ns : Nat) ∧ lab (mx.getD k 0 : Nat) (my.getD l 0 : Nat) = (m % ns : Nat) then ((mx.getD (k + 1) 0 : Int) - mx.getD k 0) * ((my.getD (l + 1) 0 : Int) - my.getD l 0) else 0
theorem ShS_k {S : CS} {C N : Nat} {cf : Nat → Int} {a b : Nat} {xs : List Value} (h : ShS s S C N cf a b) (hC : s.1 C = some (true, true, 0, xs)) : ∀ q c, s.1 q = some c → c.2.2.1 ≠ 0 → S.1 q = some c := fun q c e z => by
  rw [h.2.2.1 q (fun w => by rw [w, hC] at e; cases e; exact z rfl)]; exact e
/-- a column of rectangles -/
theorem c_sh2 (hg : gdL L nl) (hR : RF L nl nr st ln) (hL : LabN L nl nr st ln lab) (hgo : gdL Lo no) (hRo : RF Lo no nro sto lno) (hLo : LabN Lo no nro sto lno labo) {S : CS} {C v0 B : Nat} (r : FD b0 s.1 L nl nr st ln LC fd fL ou ol mp pid nid aid si rc rl sp sl rsv nm inn) (ro : FD b1 s.1 Lo no nro sto lno LCo fdo fLo ouo olo mpo pido nido aido sio rco rlo spp slo rsvo nmo inno) {f0 f4 f5 f6 : Value} (hv : s.1 v0 = some (true, false, 67, [f0, .ref fd, .ref fdo, .ref C, f4, f5, f6])) {xs : List Value} (hC : s.1 C = some (true, true, 0, xs)) {mx my : List Nat} (hx : mgX L Lo nl no mx) (hy : mgY L Lo nl no my) {bs : List Value} (hB : s.1 B = some (true, false, 1003, bs)) (hb : ∀ q, bit bs q = true ↔ q ∈ my) {ns os : Nat} (hns : ns = spn L nl st ln nr) (hos : os = spn Lo no sto lno nro) {cf : Nat → Int} {c1 c2 : Nat} (hS : ShS s S C (os * ns) cf c1 c2) {n : Nat} (hn : n < mx.length) :
    Tr (wh (S := CS × Int32 × Int32) (X := CS) (fun p42 => (if p42.2.2 < 0 then some (.inr p42.1) else Option.bind ((if epS mx n = (-1) then some p42.1 else (if p42.2.1 = (-1) then some p42.1 else Option.bind (xN p42.1 [(67, 2)] v0) (fun a17 => (if isK p42.1 [61] a17 = true then Option.bind (c_873 a17 (epS mx n + enS mx n) (p42.2.1 + p42.2.2) p42.1) (fun x18 => Option.bind (x18.1) (fun a19 => Option.bind (xI x18.2 [(62, 0)] a19) (fun x20 => Option.bind (xN x18.2 [(67, 1)] v0) (fun a21 => (if isK x18.2 [61] a21 = true then Option.bind (c_873 a21 (epS mx n + enS mx n) (p42.2.1 + p42.2.2) x18.2) (fun x22 => Option.bind (x22.1) (fun a23 => Option.bind (xI x22.2 [(62, 0)] a23) (fun x24 => (if x20 = (-1) then some x22.2 else (if x24 = (-1) then some x22.2 else Option.bind (xR x22.2 [(67, 3)] v0) (fun r25 => Option.bind (r25) (fun a26 => Option.bind (aI x22.2 [0, 12] a26 ((Int32.ofNat ns * x20) + x24)) (fun x27 => Option.bind (aPut x22.2 0 a26 ((Int32.ofNat ns * x20) + x24) (.int (x27 + ((enS mx n - epS mx n) * (p42.2.2 - p42.2.1))))) (fun s28 => some s28))))))))) else none))))) else none))))) (fun v96 => (if isK v96 [3] B = true then Option.bind (bsNext v96 B (p42.2.2 + 1)) (fun x29 => some (.inl (v96, p42.2.2, x29))) else none)))) (S, -1, enS my 0)) (fun S' => ∃ a b, a ≤ c1 + 50 ∧ b ≤ c2 + 200 ∧ ShS s S' C (os * ns) (fun m => cf m + if n = 0 then 0 else gsm (fun l => shT labo lab mx my ns os (n - 1) l m) (List.range (my.length - 1))) a b) := by
  have by' : ∀ q ∈ my, q < 25 := fun q hq => by
    rcases (hy.2 q).mp hq with h | h
    · exact edY_lt hgo (Nat.le_refl _) _ h
    · exact edY_lt hg (Nat.le_refl _) _ h
  have ly : my.length ≤ 25 := pw_len hy.1 by'
  have hCv : C ≠ v0 := fun w => by rw [w, hv] at hC; cases hC
  refine wh_cnt my.length (fun l (x : CS × Int32 × Int32) => x.2.1 = epS my l ∧ x.2.2 = enS my l ∧ ∃ a b, a ≤ c1 + 2 * l ∧ b ≤ c2 + 8 * l ∧ ShS s x.1 C (os * ns) (fun m => cf m + if n = 0 then 0 else gsm (fun l => shT labo lab mx my ns os (n - 1) l m) (List.range (l - 1))) a b) ?_ ?_ ⟨rfl, rfl, c1, c2, Nat.le_refl _, Nat.le_refl _, ShS_cf hS (fun m => by split <;> exact (Int.add_zero _).symm)⟩
  · rintro l ⟨U, _, _⟩ hl ⟨rfl, rfl, a, b, ha, hb', hU⟩
    right
    dsimp only at hU ⊢
    have kp := ShS_k hU hC
    have en : enS my l = Int32.ofNat (my.getD l 0) := if_pos hl
    have bl := by' (my.getD l 0) (by rw [getD_lt hl]; exact List.getElem_mem hl)
    have nx : ∀ U' : CS, U'.1 B = some (true, false, 1003, bs) → (if isK U' [3] B = true then Option.bind (bsNext U' B (enS my l + 1)) (fun x29 => some (Sum.inl (β := CS) (U', enS my l, x29))) else none) = some (.inl (U', epS my (l + 1), enS my (l + 1))) := by
      intro U' h
      rw [if_pos (isK_t h rfl), en, bs_nxS hy.1 h hb (fun q hq => by have := by' q hq; omega) hl, Option.bind_some]
      rfl
    rw [en, if_neg (i_nlt0 (by omega)), ← en]
    by_cases zn : n = 0
    · rw [show epS mx n = -1 from if_pos zn, if_pos rfl, Option.bind_some, nx U (kp _ _ hB (by show ¬ (1003 : Nat) = 0; decide))]
      refine ⟨_, rfl, rfl, rfl, a, b, by omega, by omega, ShS_cf hU (fun m => ?_)⟩
      rw [if_pos zn, if_pos zn]
    · have ep : epS mx n = Int32.ofNat (mx.getD (n - 1) 0) := if_neg zn
      have b2 : ∀ q ∈ mx, q < 25 := fun q hq => by
        rcases (hx.2 q).mp hq with h | h
        · exact edX_lt hgo (Nat.le_refl _) _ h
        · exact edX_lt hg (Nat.le_refl _) _ h
      have bn := b2 (mx.getD (n - 1) 0) (by rw [getD_lt (show n - 1 < mx.length by omega)]; exact List.getElem_mem _)
      rw [if_neg (by rw [ep]; exact i_ne1 (by omega))]
      by_cases zl : l = 0
      · rw [if_pos (show epS my l = -1 from if_pos zl), Option.bind_some, nx U (kp _ _ hB (by show ¬ (1003 : Nat) = 0; decide))]
        refine ⟨_, rfl, rfl, rfl, a, b, by omega, by omega, ShS_cf hU (fun m => ?_)⟩
        rw [zl]
      · have epl : epS my l = Int32.ofNat (my.getD (l - 1) 0) := if_neg zl
        have bl1 := by' (my.getD (l - 1) 0) (by rw [getD_lt (show l - 1 < my.length by omega)]; exact List.getElem_mem _)
        rw [if_neg (by rw [epl]; exact i_ne1 (by omega))]
        have r' : FD b0 U.1 L nl nr st ln LC fd fL ou ol mp pid nid aid si rc rl sp sl rsv nm inn := FD_ext r (fun q c e _ z _ => kp q c e z)
        have ro' : FD b1 U.1 Lo no nro sto lno LCo fdo fLo ouo olo mpo pido nido aido sio rco rlo spp slo rsvo nmo inno := FD_ext ro (fun q c e _ z _ => kp q c e z)
        obtain ⟨U', e, hU'⟩ := c_sh1 hg hR hL hgo hRo hLo r' ro' (kp _ _ hv (by show ¬ (67 : Nat) = 0; decide)) hCv hx hy hns hos hU (k := n - 1) (l := l - 1) (by omega) (by omega)
        rw [show n - 1 + 1 = n by omega, show l - 1 + 1 = l by omega] at e
        rw [ep, epl, show enS mx n = Int32.ofNat (mx.getD n 0) from if_pos hn, en, e, Option.bind_some, ← en, nx U' (ShS_k hU' hC _ _ hB (by show ¬ (1003 : Nat) = 0; decide))]
        refine ⟨_, rfl, rfl, rfl, a + 2, b + 8, by omega, by omega, ShS_cf hU' (fun m => ?_)⟩
        rw [if_neg zn, if_neg zn, show l + 1 - 1 = (l - 1) + 1 by omega, List.range_succ, sm_app, sm_sg, Int.add_assoc]
        rfl
  · rintro ⟨U, _, _⟩ ⟨rfl, rfl, a, b, ha, hb', hU⟩
    dsimp only at hU ⊢
    rw [show enS my my.length = -1 from if_neg (by omega), if_pos (by decide)]
    exact ⟨U, rfl, a, b, by omega, by omega, hU⟩
end
