/-! the plan: names go over: the component -/
theorem i_zlt {k : Nat} (h : k < 2147483648) : (0 : Int32) < Int32.ofNat k ↔ 0 < k := i_lt (j := 0) (by omega) h
section
variable {b0 b1 : Nat} {s : CS} {L : PLn} {nl nr : Nat} {st ln LC : Nat → Nat} {lab : Int → Int → Int} {fd fL ou ol mp : Nat} {pid nid aid : Nat → Nat → Nat} {si rc rl sp sl : Nat → Nat} {rsv : Nat → Value} {nm : Nat → Int32} {inn : Int → List Nat}
variable {Lo : PLn} {no nro : Nat} {sto lno LCo : Nat → Nat} {labo : Int → Int → Int} {fdo fLo ouo olo mpo : Nat} {pido nido aido : Nat → Nat → Nat} {sio rco rlo spp slo : Nat → Nat} {rsvo : Nat → Value} {nmo : Nat → Int32} {inno : Int → List Nat}
/-- a state amid the carrying: best shares and names so far -/
def CaS (s U : CS) (B ns : Nat) (sp sl rk : Nat → Nat) (p : (Nat → Nat) × (Nat → Int32)) (a b : Nat) : Prop := wfS U ∧ U.1 B = some (true, true, 0, rowC (fun k => .int (Int32.ofNat (p.1 k))) ns) ∧ (∀ j, j < ns → U.1 (sp j) = some (true, false, 62, [.int (Int32.ofNat j), .ref (rk j), .ref (sl j), .int (p.2 j)])) ∧ (∀ q, q ≠ B → (∀ j, j < ns → q ≠ sp j) → U.1 q = s.1 q) ∧ U.2.1 = s.2.1 ∧ U.2.2.1 = s.2.2.1 + a ∧ U.2.2.2 = s.2.2.2 + b
theorem CaS_k {U : CS} {B ns : Nat} {sp sl rk : Nat → Nat} {p p0 : (Nat → Nat) × (Nat → Int32)} {a b a0 b0 : Nat} (h : CaS s U B ns sp sl rk p a b) (h0 : CaS s s B ns sp sl rk p0 a0 b0) : ∀ q c, s.1 q = some c → c.2.2.1 ≠ 0 → c.2.2.1 ≠ 62 → U.1 q = some c := fun q c e z1 z2 => by
  rw [h.2.2.2.1 q (fun w => by rw [w, h0.2.1] at e; cases e; exact z1 rfl) (fun j hj w => by rw [w, h0.2.2.1 j hj] at e; cases e; exact z2 rfl)]; exact e
/-- an old space's best -/
theorem c_car1 {U : CS} {v0 C a10 ns os o fL : Nat} {mc : Int32} {sp sl rk : Nat → Nat} {nms : Nat → Int32} {A : Nat → Nat → Nat} {onm : Int32} (hA : ∀ o s, A o s ≤ 576) (hns : ns ≤ 100) (hos : os ≤ 100) (ho : o < os) {f0 f1 f2 f4 f5 f6 : Value} (hv : U.1 v0 = some (true, false, 67, [f0, f1, f2, .ref C, f4, f5, f6])) (hC : U.1 C = some (true, true, 0, rowC (fun m => .int (Int32.ofNat (A (m / ns) (m % ns)))) (os * ns))) (hL : U.1 fL = some (true, false, 1013, .int mc :: rowC (fun j => .ref (sp j)) ns)) (hs : ∀ j, j < ns → U.1 (sp j) = some (true, false, 62, [.int (Int32.ofNat j), .ref (rk j), .ref (sl j), .int (nms j)])) {g1 g2 : Value} (h10 : U.1 a10 = some (true, false, 62, [.int (Int32.ofNat o), g1, g2, .int onm])) (k0 : Int32) :
    wh (S := Int32 × Option Nat × Int32 × Int32) (X := Int32 × Option Nat × Int32) (fun p29 => Option.bind (alHas U fL p29.2.2.2) (fun x14 => (if x14 = 0 then some (.inr (p29.1, p29.2.1, p29.2.2.1)) else Option.bind (alNext U fL mc p29.2.2.2) (fun e15 => Option.bind (toN U [62] e15) (fun a16 => Option.bind (xN U [(67, 3)] v0) (fun a17 => Option.bind (xI U [(62, 0)] a10) (fun x18 => Option.bind (xI U [(62, 0)] a16) (fun x19 => Option.bind (aI U [0, 12] a17 ((Int32.ofNat ns * x18) + x19)) (fun x20 => Option.bind (xI U [(62, 3)] a10) (fun x21 => Option.bind ((if 0 < x21 then (if p29.2.2.1 < x20 then some (some a16, x20) else some (p29.2.1, p29.2.2.1)) else some (p29.2.1, p29.2.2.1))) (fun v57 => some (.inl (p29.1, v57.1, v57.2, p29.2.2.2 + 1))))))))))))) (k0, none, 0, 0) = some (k0, (if 0 < onm then bsO (A o) ns else (none, 0)).1.map sp, Int32.ofNat (if 0 < onm then bsO (A o) ns else (none, 0)).2) := by
  refine tr_eq (wh_cnt ns (fun n (x : Int32 × Option Nat × Int32 × Int32) => x = (k0, (if 0 < onm then bsO (A o) n else (none, 0)).1.map sp, Int32.ofNat (if 0 < onm then bsO (A o) n else (none, 0)).2, Int32.ofNat n)) ?_ ?_ (by split <;> rfl))
  · rintro n _ hn rfl
    right
    dsimp only
    have hlt : ns * o + n < os * ns := by
      have : ns * (o + 1) ≤ ns * os := Nat.mul_le_mul_left _ ho
      rw [Nat.mul_add] at this
      rw [Nat.mul_comm os ns]
      omega
    have hN : os * ns ≤ 10000 := Nat.mul_le_mul hos hns
    have hdiv : (ns * o + n) / ns = o := by rw [Nat.mul_add_div (by omega), Nat.div_eq_of_lt hn]; omega
    have hmod : (ns * o + n) % ns = n := by rw [Nat.mul_add_mod, Nat.mod_eq_of_lt hn]
    rw [alHas_r hL (by omega) (by omega), if_neg (by omega), Option.bind_some, if_neg (by decide), alNext_r hL hn (by omega), Option.bind_some, toN_o (hs n hn) rfl, Option.bind_some, xN_o (b := C) hv rfl rfl, Option.bind_some, xI_o (x := Int32.ofNat o) h10 rfl rfl, Option.bind_some, xI_o (x := Int32.ofNat n) (hs n hn) rfl rfl, Option.bind_some, i_mul, i_add, aI_r hC (by decide) rfl hlt (by omega) rfl, Option.bind_some, xI_o (x := onm) h10 rfl rfl, Option.bind_some, hdiv, hmod, i_suc]
    have b1 := (bsO_le (hA o) n).1
    have b2 := hA o n
    by_cases z : 0 < onm
    · rw [if_pos z, if_pos z, if_pos z]
      show ∃ a', _ ∧ a' = (k0, (if (bsO (A o) n).2 < A o n then (some n, A o n) else bsO (A o) n).1.map sp, Int32.ofNat (if (bsO (A o) n).2 < A o n then (some n, A o n) else bsO (A o) n).2, Int32.ofNat (n + 1))
      by_cases w : (bsO (A o) n).2 < A o n
      · rw [if_pos ((i_lt (by omega) (by omega)).mpr w), if_pos w]
        exact ⟨_, rfl, rfl⟩
      · rw [if_neg (fun q => w ((i_lt (by omega) (by omega)).mp q)), if_neg w]
        exact ⟨_, rfl, rfl⟩
    · rw [if_neg z, if_neg z, if_neg z]
      exact ⟨_, rfl, rfl⟩
  · rintro _ rfl
    dsimp only
    rw [alHas_r hL (by omega) (by omega), if_pos rfl, Option.bind_some, if_pos rfl]
    exact ⟨_, rfl, rfl⟩
/-- the spaces' names change -/
theorem FD_nm {h h' : lHeap} {nm' : Nat → Int32} (r : FD b0 h L nl nr st ln LC fd fL ou ol mp pid nid aid si rc rl sp sl rsv nm inn) (e : ∀ a c, h a = some c → (∀ j, j < spn L nl st ln nr → a ≠ sp j) → h' a = some c) (e2 : ∀ j, j < spn L nl st ln nr → h' (sp j) = some (true, false, 62, [.int (Int32.ofNat j), .ref (rc (lkF L nl nr st ln j)), .ref (sl j), .int (nm' j)])) : FD b0 h' L nl nr st ln LC fd fL ou ol mp pid nid aid si rc rl sp sl rsv nm' inn := by
  have ek : ∀ a c, h a = some c → c.2.2.1 ≠ 62 → h' a = some c := fun a c z w => e a c z (fun j hj q => by rw [q, (r.2.2.2.2.1 j hj).1] at z; cases z; exact w rfl)
  obtain ⟨⟨rv, r1, r2⟩, r3, ⟨mf, r4⟩, ⟨r5, mo, r5b⟩, r6, r7, r8, r9, r10, r11⟩ := r
  refine ⟨⟨rv, ?_, r2⟩, ek _ _ r3 (by show ¬ (61 : Nat) = 62; decide), ⟨mf, ek _ _ r4 (by show ¬ (1013 : Nat) = 62; decide)⟩, ⟨e _ _ r5 (fun j hj q => r10 j hj q.symm), mo, ek _ _ r5b (by show ¬ (1013 : Nat) = 62; decide)⟩, fun j hj => ?_, fun k hk => ?_, r8, r9, r10, r11⟩
  · have m1 : ∃ cm es, h mp = some (true, false, 1042, .int cm :: fl es) := by obtain ⟨⟨mc, es, q, _⟩, _⟩ := r1.1; exact ⟨mc, es, q⟩
    obtain ⟨mc, es, m1⟩ := m1
    exact GSt_ex r1 (fun a c h1 h2 => ek a c h1 (by omega)) ((ek _ _ m1 (by show ¬ (1042 : Nat) = 62; decide)).trans m1.symm) (fun k hk => ek _ _ (r1.2.1 k hk).2 (by show ¬ (65 : Nat) = 62; decide))
  · obtain ⟨a1, a2, a3, m, a4⟩ := r6 j hj
    exact ⟨e2 j hj, a2, a3, m, ek _ _ a4 (by show ¬ (1013 : Nat) = 62; decide)⟩
  · obtain ⟨a1, a2, a3, m, a4⟩ := r7 k hk
    exact ⟨a1, a2, ek _ _ a3 (by show ¬ (66 : Nat) = 62; decide), m, ek _ _ a4 (by show ¬ (1013 : Nat) = 62; decide)⟩
theorem c_carry (hg : gdL L nl) (hR : RF L nl nr st ln) (hL : LabN L nl nr st ln lab) (hgo : gdL Lo no) (hRo : RF Lo no nro sto lno) (hLo : LabN Lo no nro sto lno labo) {v0 C : Nat} (r : FD b0 s.1 L nl nr st ln LC fd fL ou ol mp pid nid aid si rc rl sp sl rsv (fun _ => 0) inn) (ro : FD b1 s.1 Lo no nro sto lno LCo fdo fLo ouo olo mpo pido nido aido sio rco rlo spp slo rsvo nmo inno) {f0 f4 f5 f6 : Value} (hv : s.1 v0 = some (true, false, 67, [f0, .ref fd, .ref fdo, .ref C, f4, f5, f6])) (hC : s.1 C = some (true, true, 0, rowC (fun m => .int (Int32.ofNat (cmN labo lab (m / spn L nl st ln nr) (m % spn L nl st ln nr)))) (spn Lo no sto lno nro * spn L nl st ln nr))) (hw : wfS s) (hd : ∀ o j, o < spn Lo no sto lno nro → j < spn L nl st ln nr → spp o ≠ sp j) :
    ∃ S, c_902 v0 s = some S ∧ wfS S ∧ FD b0 S.1 L nl nr st ln LC fd fL ou ol mp pid nid aid si rc rl sp sl rsv (crN (cmN labo lab) nmo (spn L nl st ln nr) (spn Lo no sto lno nro)).2 inn ∧ (∀ q, q < s.2.1 → (∀ j, j < spn L nl st ln nr → q ≠ sp j) → S.1 q = s.1 q) ∧ S.2.1 = s.2.1 + 1 ∧ S.2.2.1 ≤ s.2.2.1 + 102 ∧ S.2.2.2 ≤ s.2.2.2 + 504 := by
  have n100 := spn_100 hg hR hL.1
  have o100 := spn_100 hgo hRo hLo.1
  obtain ⟨ml, z1⟩ := r.2.2.1
  obtain ⟨mlo, z2⟩ := ro.2.2.1
  have rsp := r.2.2.2.2.1
  have rspo := ro.2.2.2.2.1
  obtain ⟨ns, hns⟩ : ∃ n, n = spn L nl st ln nr := ⟨_, rfl⟩
  obtain ⟨os, hos⟩ : ∃ n, n = spn Lo no sto lno nro := ⟨_, rfl⟩
  have z1' := z1
  rw [← hns] at n100 hC hd rsp z1'
  rw [← hos] at o100 hC hd rspo z2
  have hN : os * ns ≤ 10000 := Nat.mul_le_mul (show os ≤ 100 by omega) (show ns ≤ 100 by omega)
  unfold c_902
  rw [xN_o (b := fd) hv rfl rfl, Option.bind_some, xN_o (b := fL) r.2.1 rfl rfl, Option.bind_some, if_pos (isK_t z1' rfl), alSize_r z1', Option.bind_some]
  obtain ⟨S1, e1, w1⟩ := nwa_o (s := s) 0 (.int 0) ns (by omega) hw
  rw [e1, Option.bind_some]
  dsimp only
  have k1 : ∀ q c, s.1 q = some c → S1.1 q = some c := fun q c e => by rw [w1.2.1 q (by have := wf_lt hw e; omega)]; exact e
  rw [xN_o (b := fdo) (k1 _ _ hv) rfl rfl, Option.bind_some, xN_o (b := fLo) (k1 _ _ ro.2.1) rfl rfl, Option.bind_some, if_pos (isK_t (k1 _ _ z2) rfl), alMc_l (k1 _ _ z2), Option.bind_some]
  dsimp only
  obtain ⟨S2, hS2⟩ : ∃ S2, S2 = chg S1 1 4 := ⟨_, rfl⟩
  rw [← hS2]
  have s2 : S2.1 = S1.1 := by rw [hS2]; rfl
  have k2 : ∀ q c, s.1 q = some c → S2.1 q = some c := fun q c e => by rw [s2]; exact k1 q c e
  have c2 : S2.2.1 = s.2.1 + 1 ∧ S2.2.2.1 = s.2.2.1 + 2 ∧ S2.2.2.2 = s.2.2.2 + (ns + 4) := by
    rw [hS2]
    refine ⟨w1.2.2.1, ?_, ?_⟩
    · show S1.2.2.1 + 1 = _; rw [w1.2.2.2.2.1]
    · show S1.2.2.2 + 4 = _; rw [w1.2.2.2.2.2]; rfl
  have base : CaS S2 S2 s.2.1 ns sp sl (fun j => rc (lkF L nl nr st ln j)) (crN (cmN labo lab) nmo ns 0) 0 0 := by
    refine ⟨by rw [hS2]; exact wf_chg w1.2.2.2.1, by rw [s2]; exact w1.1, fun j hj => k2 _ _ (rsp j hj).1, fun q _ _ => rfl, rfl, rfl, rfl⟩
  have key : ∀ X : Option CS, Tr X (fun U => CaS S2 U s.2.1 ns sp sl (fun j => rc (lkF L nl nr st ln j)) (crN (cmN labo lab) nmo ns os) os (4 * os)) → ∃ S, Option.bind X (fun v => some v) = some S ∧ wfS S ∧ FD b0 S.1 L nl nr st ln LC fd fL ou ol mp pid nid aid si rc rl sp sl rsv (crN (cmN labo lab) nmo (spn L nl st ln nr) (spn Lo no sto lno nro)).2 inn ∧ (∀ q, q < s.2.1 → (∀ j, j < spn L nl st ln nr → q ≠ sp j) → S.1 q = s.1 q) ∧ S.2.1 = s.2.1 + 1 ∧ S.2.2.1 ≤ s.2.2.1 + 102 ∧ S.2.2.2 ≤ s.2.2.2 + 504 := by
    rintro X ⟨U, rfl, hU⟩
    refine ⟨U, rfl, hU.1, ?_, fun q hq hq2 => ?_, ?_, ?_, ?_⟩
    · rw [← hns, ← hos]
      refine FD_nm r (fun a c e h => ?_) (fun j hj => hU.2.2.1 j (by omega))
      rw [hU.2.2.2.1 a (by have := wf_lt hw e; omega) (fun j hj => h j (by omega))]
      exact k2 a c e
    · rw [hU.2.2.2.1 q (by omega) (by rw [hns]; exact hq2), s2, w1.2.1 q (by omega)]
    · rw [hU.2.2.2.2.1]; exact c2.1
    · rw [hU.2.2.2.2.2.1]; omega
    · rw [hU.2.2.2.2.2.2]; omega
  refine key _ ?_
  refine wh_cnt os (fun o (x : CS × Int32) => x.2 = Int32.ofNat o ∧ CaS S2 x.1 s.2.1 ns sp sl (fun j => rc (lkF L nl nr st ln j)) (crN (cmN labo lab) nmo ns o) o (4 * o)) ?_ ?_ ⟨rfl, base⟩
  · rintro o ⟨U, _⟩ ho ⟨rfl, hU⟩
    right
    dsimp only at hU ⊢
    have kp := CaS_k hU base
    have kU := fun q c (e : s.1 q = some c) => kp q c (k2 q c e)
    have zo := kU _ _ z2 (by show ¬ (1013 : Nat) = 0; decide) (by show ¬ (1013 : Nat) = 62; decide)
    have zn := kU _ _ z1' (by show ¬ (1013 : Nat) = 0; decide) (by show ¬ (1013 : Nat) = 62; decide)
    have vU := kU _ _ hv (by show ¬ (67 : Nat) = 0; decide) (by show ¬ (67 : Nat) = 62; decide)
    have fU := kU _ _ r.2.1 (by show ¬ (61 : Nat) = 0; decide) (by show ¬ (61 : Nat) = 62; decide)
    have sU : ∀ q c, s.1 q = some c → (∀ j, j < ns → q ≠ sp j) → U.1 q = some c := fun q c e h => by rw [hU.2.2.2.1 q (by have := wf_lt hw e; omega) h]; exact k2 q c e
    have oU := sU _ _ (rspo o ho).1 (fun j hj => hd o j ho hj)
    have CU := sU _ _ hC (fun j hj w => by rw [w, (rsp j hj).1] at hC; cases hC)
    rw [alHas_r zo (by omega) (by omega), if_neg (by omega), Option.bind_some, if_neg (by decide), alNext_r zo ho (by omega), Option.bind_some, toN_o oU rfl, Option.bind_some, xN_o (b := fd) vU rfl rfl, Option.bind_some, xN_o (b := fL) fU rfl rfl, Option.bind_some, if_pos (isK_t zn rfl), alMc_l zn, Option.bind_some]
    dsimp only
    obtain ⟨V, hV⟩ : ∃ V, V = chg U 1 4 := ⟨_, rfl⟩
    rw [← hV]
    have sV : V.1 = U.1 := by rw [hV]; rfl
    have cV : CaS S2 V s.2.1 ns sp sl (fun j => rc (lkF L nl nr st ln j)) (crN (cmN labo lab) nmo ns o) (o + 1) (4 * (o + 1)) := by
      obtain ⟨u1, u2, u3, u4, u5, u6, u7⟩ := hU
      rw [hV]
      refine ⟨wf_chg u1, u2, u3, u4, u5, ?_, ?_⟩
      · show U.2.2.1 + 1 = _; omega
      · show U.2.2.2 + 4 = _; omega
    rw [c_car1 (cmN_le labo lab) (by omega) (by omega) ho (by rw [sV]; exact vU) (by rw [sV]; exact CU) (by rw [sV]; exact zn) (by rw [sV]; exact hU.2.2.1) (by rw [sV]; exact oU), Option.bind_some]
    dsimp only
    have hb2 : ∀ b, (if 0 < nmo o then bsO (cmN labo lab o) ns else (none, 0)).1 = some b → b < ns := by
      intro b
      split
      · exact (bsO_le (cmN_le labo lab o) ns).2 b
      · intro h; cases h
    have hb1 : (if 0 < nmo o then bsO (cmN labo lab o) ns else (none, 0)).2 ≤ 576 := by
      split
      · exact (bsO_le (cmN_le labo lab o) ns).1
      · exact Nat.zero_le _
    have hp := fun k => crN_le (cmN_le labo lab) nmo ns o k
    show ∃ a' : CS × Int32, _ ∧ a'.2 = Int32.ofNat (o + 1) ∧ CaS S2 a'.1 s.2.1 ns sp sl (fun j => rc (lkF L nl nr st ln j)) (crO (if 0 < nmo o then bsO (cmN labo lab o) ns else (none, 0)) (nmo o) (crN (cmN labo lab) nmo ns o)) (o + 1) (4 * (o + 1))
    generalize crN (cmN labo lab) nmo ns o = p at *
    generalize (if 0 < nmo o then bsO (cmN labo lab o) ns else (none, 0)) = best at *
    obtain ⟨best, most⟩ := best
    dsimp only at hb1 hb2
    rw [i_suc]
    cases best with
    | none =>
      rw [if_pos (show Option.map sp (none, most).1 = none from rfl), Option.bind_some]
      exact ⟨_, rfl, rfl, cV⟩
    | some b =>
      have bn := hb2 b rfl
      have pb := hp b
      obtain ⟨u1, u2, u3, u4, u5, u6, u7⟩ := cV
      have spB : ∀ j, j < ns → sp j ≠ s.2.1 := fun j hj => by have := wf_lt hw (rsp j hj).1; omega
      dsimp only [Option.map]
      rw [if_neg (by intro w; cases w), Option.bind_some, xI_o (x := Int32.ofNat b) (u3 b bn) rfl rfl, Option.bind_some, aI_r u2 (by decide) rfl bn (by omega) rfl, Option.bind_some]
      by_cases z : p.1 b < most
      · rw [if_pos ((i_lt (by omega) (by omega)).mpr z), Option.bind_some, aPut_r u2 bn (by omega), Option.bind_some]
        obtain ⟨W, hW⟩ : ∃ W, W = cup V s.2.1 (true, true, 0, rowC (fun j => if j = b then Value.int (Int32.ofNat most) else (fun k => Value.int (Int32.ofNat (p.1 k))) j) ns) := ⟨_, rfl⟩
        rw [← hW]
        have wk : ∀ q, q ≠ s.2.1 → W.1 q = V.1 q := fun q hq => by rw [hW]; exact cup_ne hq
        have wB : W.1 s.2.1 = some (true, true, 0, rowC (fun j => if j = b then Value.int (Int32.ofNat most) else (fun k => Value.int (Int32.ofNat (p.1 k))) j) ns) := by rw [hW]; exact cup_eq ..
        rw [xI_o (x := nmo o) (show W.1 (spp o) = some (true, false, 62, [.int (Int32.ofNat o), .ref (rco (lkF Lo no nro sto lno o)), .ref (slo o), .int (nmo o)]) by rw [wk _ (by have := wf_lt hw (rspo o ho).1; omega), sV]; exact oU) rfl rfl, Option.bind_some]
        rw [xP_o (k := 3) (show W.1 (sp b) = some (true, false, 62, [.int (Int32.ofNat b), .ref (rc (lkF L nl nr st ln b)), .ref (sl b), .int (p.2 b)]) by rw [wk _ (spB b bn)]; exact u3 b bn) rfl (by show 3 < 4; decide), Option.bind_some, Option.bind_some]
        have cr : crO (some b, most) (nmo o) p = (fun q => if q = b then most else p.1 q, fun q => if q = b then nmo o else p.2 q) := by unfold crO; dsimp only; rw [if_pos z]
        refine ⟨_, rfl, rfl, ?_⟩
        rw [cr]
        have wfW : wfS W := by rw [hW]; exact wf_cup u1 (wf_lt u1 u2)
        refine ⟨wf_cup wfW (wf_lt wfW (by rw [wk _ (spB b bn)]; exact u3 b bn)), ?_, fun j hj => ?_, fun q hq hq2 => ?_, by rw [hW] ; exact u5, by rw [hW]; exact u6, by rw [hW]; exact u7⟩
        · rw [cup_ne (spB b bn).symm, wB]
          congr 4
          refine rowC_congr (fun k hk => ?_)
          dsimp only
          split <;> rfl
        · by_cases e : j = b
          · rw [e, cup_eq]
            dsimp only
            rw [if_pos rfl]
            rfl
          · rw [cup_ne (fun w => e (r.2.2.2.2.2.2.2.1 j b (by omega) (by omega) w)), wk _ (spB j hj), u3 j hj]
            dsimp only
            rw [if_neg e]
        · rw [cup_ne (hq2 b bn), wk q hq]
          exact u4 q hq hq2
      · rw [if_neg (fun w => z ((i_lt (by omega) (by omega)).mp w)), Option.bind_some]
        have cr : crO (some b, most) (nmo o) p = p := by unfold crO; dsimp only; rw [if_neg z]
        refine ⟨_, rfl, rfl, ?_⟩
        rw [cr]
        exact ⟨u1, u2, u3, u4, u5, u6, u7⟩
  · rintro ⟨U, _⟩ ⟨rfl, hU⟩
    dsimp only at hU ⊢
    have zo := CaS_k hU base _ _ (k2 _ _ z2) (by show ¬ (1013 : Nat) = 0; decide) (by show ¬ (1013 : Nat) = 62; decide)
    rw [alHas_r zo (by omega) (by omega), if_pos rfl, Option.bind_some, if_pos rfl]
    exact ⟨U, rfl, hU⟩
end
