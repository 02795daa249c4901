/-! the plan: what spaces before and now have in common: whole -/
def mgL (a b : List Nat) : List Nat := (List.range 25).filter (fun q => decide (q ∈ a ∨ q ∈ b))
theorem mgL_o {a b : List Nat} (ha : ∀ q ∈ a, q < 25) (hb : ∀ q ∈ b, q < 25) : (mgL a b).Pairwise (· < ·) ∧ ∀ q, q ∈ mgL a b ↔ q ∈ a ∨ q ∈ b := by
  refine ⟨List.Pairwise.filter _ List.pairwise_lt_range, fun q => ?_⟩
  unfold mgL
  rw [List.mem_filter, decide_eq_true_eq, List.mem_range]
  constructor
  · exact fun h => h.2
  · intro h
    refine ⟨?_, h⟩
    rcases h with h | h
    · exact ha q h
    · exact hb q h
section
variable {b0 b1 : Nat} {s : CS} {L : PLn} {nl nr : Nat} {st ln LC : Nat → Nat} {lab : Int → Int → Int} {fd fL ou ol mp : Nat} {pid nid aid : Nat → Nat → Nat} {si rc rl sp sl : Nat → Nat} {rsv : Nat → Value} {nm : Nat → Int32} {inn : Int → List Nat}
variable {Lo : PLn} {no nro : Nat} {sto lno LCo : Nat → Nat} {labo : Int → Int → Int} {fdo fLo ouo olo mpo : Nat} {pido nido aido : Nat → Nat → Nat} {sio rco rlo spp slo : Nat → Nat} {rsvo : Nat → Value} {nmo : Nat → Int32} {inno : Int → List Nat}
theorem c_share (hg : gdL L nl) (hR : RF L nl nr st ln) (hL : LabN L nl nr st ln lab) (hgo : gdL Lo no) (hRo : RF Lo no nro sto lno) (hLo : LabN Lo no nro sto lno labo) {v0 : Nat} (r : FD b0 s.1 L nl nr st ln LC fd fL ou ol mp pid nid aid si rc rl sp sl rsv nm inn) (ro : FD b1 s.1 Lo no nro sto lno LCo fdo fLo ouo olo mpo pido nido aido sio rco rlo spp slo rsvo nmo inno) {f0 f3 f4 f5 f6 : Value} (hv : s.1 v0 = some (true, false, 67, [f0, .ref fd, .ref fdo, f3, f4, f5, f6])) (hw : wfS s) (hc : s.2.2.1 + 100000 < 4000000000) (ho : lab (-1) (-1) = -1) (hoo : labo (-1) (-1) = -1) :
    ∃ S a b, c_900 v0 s = some S ∧ wfS S ∧ S.1 v0 = some (true, false, 67, [f0, .ref fd, .ref fdo, .ref s.2.1, f4, f5, f6]) ∧ S.1 s.2.1 = some (true, true, 0, rowC (fun m => .int (Int32.ofNat (cmN labo lab (m / spn L nl st ln nr) (m % spn L nl st ln nr)))) (spn Lo no sto lno nro * spn L nl st ln nr)) ∧ (∀ q, q < s.2.1 → q ≠ v0 → S.1 q = s.1 q) ∧ S.2.1 = s.2.1 + 3 ∧ S.2.2.1 = s.2.2.1 + a ∧ S.2.2.2 = s.2.2.2 + b ∧ a ≤ 1263 ∧ b ≤ 15028 := by
  have n100 := spn_100 hg hR hL.1
  have o100 := spn_100 hgo hRo hLo.1
  obtain ⟨ns, hns⟩ : ∃ n, n = spn L nl st ln nr := ⟨_, rfl⟩
  obtain ⟨os, hos⟩ : ∃ n, n = spn Lo no sto lno nro := ⟨_, rfl⟩
  rw [← hns] at n100
  rw [← hos] at o100
  have hN : os * ns ≤ 10000 := Nat.mul_le_mul (show os ≤ 100 by omega) (show ns ≤ 100 by omega)
  obtain ⟨ml, z1⟩ := r.2.2.1
  obtain ⟨mlo, z2⟩ := ro.2.2.1
  have v0l := wf_lt hw hv
  unfold c_900
  rw [xN_o (b := fd) hv rfl rfl, Option.bind_some, xN_o (b := fL) r.2.1 rfl rfl, Option.bind_some, if_pos (isK_t z1 rfl), alSize_r z1, Option.bind_some]
  rw [xN_o (b := fdo) hv rfl rfl, Option.bind_some, xN_o (b := fLo) ro.2.1 rfl rfl, Option.bind_some, if_pos (isK_t z2 rfl), alSize_r z2, Option.bind_some, ← hns, ← hos, i_mul]
  obtain ⟨S1, e1, w1⟩ := nwa_o (s := s) 0 (.int 0) (os * ns) (by omega) hw
  rw [e1, Option.bind_some]
  dsimp only
  have k1 : ∀ q c, s.1 q = some c → S1.1 q = some c := fun q c e => by rw [w1.2.1 q (by have := wf_lt hw e; omega)]; exact e
  rw [xP_o (k := 3) (k1 _ _ hv) rfl (by show 3 < 7; decide), Option.bind_some]
  obtain ⟨S2, hS2⟩ : ∃ S2, S2 = cup S1 v0 (true, false, 67, [f0, .ref fd, .ref fdo, .ref s.2.1, f4, f5, f6]) := ⟨_, rfl⟩
  rw [show cup S1 v0 (true, false, 67, [f0, Value.ref fd, .ref fdo, f3, f4, f5, f6].set 3 (.ref s.2.1)) = S2 from hS2.symm]
  have v2 : S2.1 v0 = some (true, false, 67, [f0, .ref fd, .ref fdo, .ref s.2.1, f4, f5, f6]) := by rw [hS2]; exact cup_eq ..
  have t2 : ∀ q, q ≠ v0 → S2.1 q = S1.1 q := fun q hq => by rw [hS2]; exact cup_ne hq
  have k2 : ∀ q c, s.1 q = some c → c.2.2.1 ≠ 67 → S2.1 q = some c := fun q c e z => by
    rw [t2 q (fun w => by rw [w, hv] at e; cases e; exact z rfl)]; exact k1 q c e
  have wf2 : wfS S2 := by rw [hS2]; exact wf_cup w1.2.2.2.1 (by rw [w1.2.2.1]; omega)
  have c2 : S2.2.1 = s.2.1 + 1 ∧ S2.2.2.1 = s.2.2.1 + 1 ∧ S2.2.2.2 = s.2.2.2 + os * ns := by rw [hS2]; exact ⟨w1.2.2.1, w1.2.2.2.2.1, w1.2.2.2.2.2⟩
  have a2 : S2.1 s.2.1 = some (true, true, 0, rowC (fun _ => .int 0) (os * ns)) := by rw [t2 _ (by omega)]; exact w1.1
  have r2 : FD b0 S2.1 L nl nr st ln LC fd fL ou ol mp pid nid aid si rc rl sp sl rsv nm inn := FD_ext r (fun q c e z _ _ => k2 q c e z)
  have ro2 : FD b1 S2.1 Lo no nro sto lno LCo fdo fLo ouo olo mpo pido nido aido sio rco rlo spp slo rsvo nmo inno := FD_ext ro (fun q c e z _ _ => k2 q c e z)
  rw [xN_o (b := fdo) v2 rfl rfl, Option.bind_some, xN_o (b := fd) v2 rfl rfl, Option.bind_some]
  obtain ⟨rv, g1, _⟩ := r2.1
  obtain ⟨rvo, g2, _⟩ := ro2.1
  obtain ⟨S3, xs3, e3, wf3, b3, p3, t3, c3a, c3b, c3c⟩ := c_edges (v := 1) wf2 g2.1 g1.1 ro2.2.1 r2.2.1 (by omega)
  rw [e3, Option.bind_some]
  dsimp only
  have k3 : ∀ q c, S2.1 q = some c → S3.1 q = some c := fun q c e => by rw [t3 q (wf_lt wf2 e)]; exact e
  have r3 : FD b0 S3.1 L nl nr st ln LC fd fL ou ol mp pid nid aid si rc rl sp sl rsv nm inn := FD_ext r2 (fun q c e _ _ _ => k3 q c e)
  have ro3 : FD b1 S3.1 Lo no nro sto lno LCo fdo fLo ouo olo mpo pido nido aido sio rco rlo spp slo rsvo nmo inno := FD_ext ro2 (fun q c e _ _ _ => k3 q c e)
  rw [xN_o (b := fdo) (k3 _ _ v2) rfl rfl, Option.bind_some, xN_o (b := fd) (k3 _ _ v2) rfl rfl, Option.bind_some]
  obtain ⟨rv', g3, _⟩ := r3.1
  obtain ⟨rvo', g4, _⟩ := ro3.1
  obtain ⟨S4, xs4, e4, wf4, b4, p4, t4, c4a, c4b, c4c⟩ := c_edges (v := 0) wf3 g4.1 g3.1 ro3.2.1 r3.2.1 (by omega)
  rw [e4, Option.bind_some]
  dsimp only
  have k4 : ∀ q c, S3.1 q = some c → S4.1 q = some c := fun q c e => by rw [t4 q (wf_lt wf3 e)]; exact e
  have r4 : FD b0 S4.1 L nl nr st ln LC fd fL ou ol mp pid nid aid si rc rl sp sl rsv nm inn := FD_ext r3 (fun q c e _ _ _ => k4 q c e)
  have ro4 : FD b1 S4.1 Lo no nro sto lno LCo fdo fLo ouo olo mpo pido nido aido sio rco rlo spp slo rsvo nmo inno := FD_ext ro3 (fun q c e _ _ _ => k4 q c e)
  have v4 := k4 _ _ (k3 _ _ v2)
  have a4 := k4 _ _ (k3 _ _ a2)
  have hX := mgL_o (a := edX Lo no) (b := edX L nl) (edX_lt hgo (Nat.le_refl _)) (edX_lt hg (Nat.le_refl _))
  have hY := mgL_o (a := edY Lo no) (b := edY L nl) (edY_lt hgo (Nat.le_refl _)) (edY_lt hg (Nat.le_refl _))
  have bX : ∀ q ∈ mgL (edX Lo no) (edX L nl), q < 25 := fun q hq => List.mem_range.mp (List.mem_filter.mp hq).1
  have bY : ∀ q ∈ mgL (edY Lo no) (edY L nl), q < 25 := fun q hq => List.mem_range.mp (List.mem_filter.mp hq).1
  have p3' : ∀ q, bit xs3 q = true ↔ q ∈ mgL (edX Lo no) (edX L nl) := fun q => by
    rw [p3 q, hX.2 q, edX_pt, edX_pt]
    constructor
    · rintro (⟨x, y, h, rfl⟩ | ⟨x, y, h, rfl⟩)
      · exact Or.inl ⟨y, h⟩
      · exact Or.inr ⟨y, h⟩
    · rintro (⟨y, h⟩ | ⟨y, h⟩)
      · exact Or.inl ⟨q, y, h, rfl⟩
      · exact Or.inr ⟨q, y, h, rfl⟩
  have p4' : ∀ q, bit xs4 q = true ↔ q ∈ mgL (edY Lo no) (edY L nl) := fun q => by
    rw [p4 q, hY.2 q, edY_pt, edY_pt]
    constructor
    · rintro (⟨x, y, h, rfl⟩ | ⟨x, y, h, rfl⟩)
      · exact Or.inl ⟨x, h⟩
      · exact Or.inr ⟨x, h⟩
    · rintro (⟨x, h⟩ | ⟨x, h⟩)
      · exact Or.inl ⟨x, q, h, rfl⟩
      · exact Or.inr ⟨x, q, h, rfl⟩
  have area := fun o z => cmA_mg (o := o) (s := z) hg hL.1 ho hgo hLo.1 hoo (show mgX L Lo nl no (mgL (edX Lo no) (edX L nl)) from hX) (show mgY L Lo nl no (mgL (edY Lo no) (edY L nl)) from hY)
  have hX : mgX L Lo nl no (mgL (edX Lo no) (edX L nl)) := hX
  have hY : mgY L Lo nl no (mgL (edY Lo no) (edY L nl)) := hY
  generalize mgL (edX Lo no) (edX L nl) = mx at *
  generalize mgL (edY Lo no) (edY L nl) = my at *
  have lx : mx.length ≤ 25 := pw_len hX.1 bX
  have b3' := k4 _ _ b3
  rw [if_pos (isK_t b3' rfl), bs_nx0 hX.1 b3' p3' (fun q hq => by have := bX q hq; omega), Option.bind_some]
  have hB3 : S2.2.1 < s.2.1 + 3 := by omega
  have key : ∀ X : Option CS, Tr X (fun U => ∃ a b, a ≤ 1250 ∧ b ≤ 5000 ∧ ShS S4 U s.2.1 (os * ns) (fun m => gsm (fun k => gsm (fun l => shT labo lab mx my ns os k l m) (List.range (my.length - 1))) (List.range (mx.length - 1))) (0 + a) (0 + b)) → ∃ S a b, Option.bind X (fun v => some v) = some S ∧ wfS S ∧ S.1 v0 = some (true, false, 67, [f0, .ref fd, .ref fdo, .ref s.2.1, f4, f5, f6]) ∧ S.1 s.2.1 = some (true, true, 0, rowC (fun m => .int (Int32.ofNat (cmN labo lab (m / ns) (m % ns)))) (os * ns)) ∧ (∀ q, q < s.2.1 → q ≠ v0 → S.1 q = s.1 q) ∧ S.2.1 = s.2.1 + 3 ∧ S.2.2.1 = s.2.2.1 + a ∧ S.2.2.2 = s.2.2.2 + b ∧ a ≤ 1263 ∧ b ≤ 15028 := by
    rintro X ⟨U, rfl, a, b, ha, hb, hU⟩
    obtain ⟨u1, u2, u3, u4, u5, u6⟩ := hU
    refine ⟨U, 13 + a, os * ns + 28 + b, rfl, u1, ?_, ?_, fun q hq hq0 => ?_, ?_, ?_, ?_, ?_, ?_⟩
    · rw [u3 _ (by omega)]; exact v4
    · rw [u2]
      congr 4
      refine rowC_congr (fun m hm => ?_)
      rw [← cmN_i, ← area (m / ns) (m % ns)]
      congr 2
      refine sm_congr (fun k _ => sm_congr (fun l _ => ?_))
      unfold shT
      by_cases z : labo (mx.getD k 0 : Nat) (my.getD l 0 : Nat) = (m / ns : Nat) ∧ lab (mx.getD k 0 : Nat) (my.getD l 0 : Nat) = (m % ns : Nat)
      · rw [if_pos ⟨hm, z⟩, if_pos z]
      · rw [if_neg (fun w => z w.2), if_neg z]
    · rw [u3 q (by omega), t4 q (by omega), t3 q (by omega), t2 q hq0, w1.2.1 q (by omega)]
    · rw [u4]; omega
    · rw [u5]; omega
    · rw [u6]; omega
    · omega
    · omega
  refine key _ ?_
  refine wh_cnt mx.length (fun n (x : CS × Int32 × Int32) => x.2.1 = epS mx n ∧ x.2.2 = enS mx n ∧ ∃ a b, a ≤ 50 * n ∧ b ≤ 200 * n ∧ ShS S4 x.1 s.2.1 (os * ns) (fun m => gsm (fun k => gsm (fun l => shT labo lab mx my ns os k l m) (List.range (my.length - 1))) (List.range (n - 1))) a b) ?_ ?_ ⟨rfl, rfl, 0, 0, Nat.le_refl _, Nat.le_refl _, wf4, a4, fun q _ => rfl, rfl, rfl, rfl⟩
  · rintro n ⟨U, _, _⟩ hn ⟨rfl, rfl, a, b, ha, hb, hU⟩
    right
    dsimp only at hU ⊢
    have kp := ShS_k hU a4
    have en : enS mx n = Int32.ofNat (mx.getD n 0) := if_pos hn
    have bl := bX (mx.getD n 0) (by rw [getD_lt hn]; exact List.getElem_mem hn)
    have bU := kp _ _ b4 (by show ¬ (1003 : Nat) = 0; decide)
    rw [en, if_neg (i_nlt0 (by omega)), ← en, if_pos (isK_t bU rfl), bs_nx0 hY.1 bU p4' (fun q hq => by have := bY q hq; omega), Option.bind_some]
    obtain ⟨U', eU, a', b', ha', hb', hU'⟩ := c_sh2 hg hR hL hgo hRo hLo r4 ro4 v4 a4 hX hY b4 p4' hns hos hU hn
    rw [show (if 0 < my.length then Int32.ofNat (my.getD 0 0) else -1) = enS my 0 from rfl, eU, Option.bind_some]
    have bU' := ShS_k hU' a4 _ _ b3' (by show ¬ (1003 : Nat) = 0; decide)
    rw [if_pos (isK_t bU' rfl), en, bs_nxS hX.1 bU' p3' (fun q hq => by have := bX q hq; omega) hn, Option.bind_some]
    refine ⟨_, rfl, rfl, rfl, a', b', by omega, by omega, ShS_cf hU' (fun m => ?_)⟩
    by_cases z : n = 0
    · rw [if_pos z, z, Int.add_zero]
    · rw [if_neg z, show n + 1 - 1 = (n - 1) + 1 by omega, List.range_succ, sm_app, sm_sg]
  · rintro ⟨U, _, _⟩ ⟨rfl, rfl, a, b, ha, hb, hU⟩
    dsimp only at hU ⊢
    rw [show enS mx mx.length = -1 from if_neg (by omega), if_pos (by decide)]
    refine ⟨U, rfl, a, b, by omega, by omega, ?_⟩
    rw [Nat.zero_add, Nat.zero_add]
    exact hU
end
