/-! the plan: what spaces before and now have in common: a step -/
section
variable {b0 b1 : Nat} {s : CS} {L : PLn} {nl nr : Nat} {st ln LC : Nat → Nat} {lab : Int → Int → Int} {fd fL ou ol mp : Nat} {pid nid aid : Nat → Nat → Nat} {si rc rl sp sl : Nat → Nat} {rsv : Nat → Value} {nm : Nat → Int32} {inn : Int → List Nat}
variable {Lo : PLn} {no nro : Nat} {sto lno LCo : Nat → Nat} {labo : Int → Int → Int} {fdo fLo ouo olo mpo : Nat} {pido nido aido : Nat → Nat → Nat} {sio rco rlo spp slo : Nat → Nat} {rsvo : Nat → Value} {nmo : Nat → Int32} {inno : Int → List Nat}
theorem c_atM (hg : gdL L nl) (hR : RF L nl nr st ln) (hL : LabN L nl nr st ln lab) (r : FD b0 s.1 L nl nr st ln LC fd fL ou ol mp pid nid aid si rc rl sp sl rsv nm inn) {mx my : List Nat} (hx : mx.Pairwise (· < ·)) (hy : my.Pairwise (· < ·)) (sx : ∀ q ∈ edX L nl, q ∈ mx) (sy : ∀ q ∈ edY L nl, q ∈ my) (bx : ∀ q ∈ mx, q < 25) (by' : ∀ q ∈ my, q < 25) {k l : Nat} (hk : k + 1 < mx.length) (hl : l + 1 < my.length) : c_873 fd (Int32.ofNat (mx.getD k 0) + Int32.ofNat (mx.getD (k + 1) 0)) (Int32.ofNat (my.getD l 0) + Int32.ofNat (my.getD (l + 1) 0)) s = some (some (spo ou sp (lab (mx.getD k 0 : Nat) (my.getD l 0 : Nat))), chg s 1 4) := by
  have x1 := bx (mx.getD k 0) (by rw [getD_lt (show k < mx.length by omega)]; exact List.getElem_mem _)
  have x2 := bx (mx.getD (k + 1) 0) (by rw [getD_lt hk]; exact List.getElem_mem _)
  have y1 := by' (my.getD l 0) (by rw [getD_lt (show l < my.length by omega)]; exact List.getElem_mem _)
  have y2 := by' (my.getD (l + 1) 0) (by rw [getD_lt hl]; exact List.getElem_mem _)
  have xl := pw_lt hx (show k < k + 1 by omega) hk
  have yl := pw_lt hy (show l < l + 1 by omega) hl
  rw [i_add, i_add, ← i_ofI, ← i_ofI, c_at hg hR hL r (i := (mx.getD k 0 : Nat)) (j := (((my.getD l 0 + my.getD (l + 1) 0) / 2 : Nat) : Int)) (fun q hq => ?_) (by omega) (by omega) (by omega)]
  · rw [lab_gOf hg hL.1 (i' := (mx.getD k 0 : Nat)) (j' := (my.getD l 0 : Nat)) rfl (col_sub hy sy ?_)]
    have a := (colO_iff hy (c := l) (i := (my.getD l 0 + my.getD (l + 1) 0) / 2) hl).mpr (by omega)
    have b := (colO_iff hy (c := l) (i := my.getD l 0) hl).mpr (by omega)
    rw [a, b]
  · obtain ⟨x, y, u, v, h1, h2, h3, h4, h5, h6⟩ := gS_pts (L := L) (nl := nl) hq
    have e := (sX_i hg hq).1
    rw [h1] at e
    have e : x = sX L nl q := by omega
    obtain ⟨m, hm, em⟩ := List.getElem_of_mem (sx _ (pt_xy h5).1)
    rw [← getD_lt hm] at em
    rw [← e, ← em]
    rcases Nat.lt_or_ge m (k + 1) with z | z
    · have : mx.getD m 0 ≤ mx.getD k 0 := by
        by_cases w : m = k
        · rw [w]; exact Nat.le_refl _
        · exact Nat.le_of_lt (pw_lt hx (by omega) (by omega))
      constructor <;> intro _ <;> omega
    · have : mx.getD (k + 1) 0 ≤ mx.getD m 0 := by
        by_cases w : m = k + 1
        · rw [w]; exact Nat.le_refl _
        · exact Nat.le_of_lt (pw_lt hx (by omega) hm)
      constructor <;> intro _ <;> omega
/-- what stays while shares are counted: the array's cell alone changes -/
def ShS (s S : CS) (C N : Nat) (cf : Nat → Int) (a b : Nat) : Prop := wfS S ∧ S.1 C = some (true, true, 0, rowC (fun m => .int (Int32.ofInt (cf m))) N) ∧ (∀ q, q ≠ C → S.1 q = s.1 q) ∧ S.2.1 = s.2.1 ∧ S.2.2.1 = s.2.2.1 + a ∧ S.2.2.2 = s.2.2.2 + b
theorem ShS_cf {S : CS} {C N : Nat} {cf cf' : Nat → Int} {a b : Nat} (h : ShS s S C N cf a b) (e : ∀ m, cf m = cf' m) : ShS s S C N cf' a b := by rw [show cf = cf' from funext e] at h; exact h
/-- one rectangle -/
theorem c_sh1 (hg : gdL L nl) (hR : RF L nl nr st ln) (hL : LabN L nl nr st ln lab) (hgo : gdL Lo no) (hRo : RF Lo no nro sto lno) (hLo : LabN Lo no nro sto lno labo) {S : CS} {C v0 : Nat} (r : FD b0 S.1 L nl nr st ln LC fd fL ou ol mp pid nid aid si rc rl sp sl rsv nm inn) (ro : FD b1 S.1 Lo no nro sto lno LCo fdo fLo ouo olo mpo pido nido aido sio rco rlo spp slo rsvo nmo inno) {f0 f4 f5 f6 : Value} (hv : S.1 v0 = some (true, false, 67, [f0, .ref fd, .ref fdo, .ref C, f4, f5, f6])) (hC : C ≠ v0) {mx my : List Nat} (hx : mgX L Lo nl no mx) (hy : mgY L Lo nl no my) {ns os : Nat} (hns : ns = spn L nl st ln nr) (hos : os = spn Lo no sto lno nro) {cf : Nat → Int} {c1 c2 : Nat} (hS : ShS s S C (os * ns) cf c1 c2) {k l : Nat} (hk : k + 1 < mx.length) (hl : l + 1 < my.length) :
    ∃ S', (Option.bind (xN S [(67, 2)] v0) (fun a17 => (if isK S [61] a17 = true then Option.bind (c_873 a17 (Int32.ofNat (mx.getD k 0) + Int32.ofNat (mx.getD (k + 1) 0)) (Int32.ofNat (my.getD l 0) + Int32.ofNat (my.getD (l + 1) 0)) S) (fun x18 => Option.bind (x18.1) (fun a19 => Option.bind (xI x18.2 [(62, 0)] a19) (fun x20 => Option.bind (xN x18.2 [(67, 1)] v0) (fun a21 => (if isK x18.2 [61] a21 = true then Option.bind (c_873 a21 (Int32.ofNat (mx.getD k 0) + Int32.ofNat (mx.getD (k + 1) 0)) (Int32.ofNat (my.getD l 0) + Int32.ofNat (my.getD (l + 1) 0)) x18.2) (fun x22 => Option.bind (x22.1) (fun a23 => Option.bind (xI x22.2 [(62, 0)] a23) (fun x24 => (if x20 = (-1) then some x22.2 else (if x24 = (-1) then some x22.2 else Option.bind (xR x22.2 [(67, 3)] v0) (fun r25 => Option.bind (r25) (fun a26 => Option.bind (aI x22.2 [0, 12] a26 ((Int32.ofNat ns * x20) + x24)) (fun x27 => Option.bind (aPut x22.2 0 a26 ((Int32.ofNat ns * x20) + x24) (.int (x27 + ((Int32.ofNat (mx.getD (k + 1) 0) - Int32.ofNat (mx.getD k 0)) * (Int32.ofNat (my.getD (l + 1) 0) - Int32.ofNat (my.getD l 0)))))) (fun s28 => some s28))))))))) else none))))) else none)) : Option CS) = some S' ∧ ShS s S' C (os * ns) (fun m => cf m + if m < os * ns ∧ labo (mx.getD k 0 : Nat) (my.getD l 0 : Nat) = (m / ns : Nat) ∧ lab (mx.getD k 0 : Nat) (my.getD l 0 : Nat) = (m % ns : Nat) then ((mx.getD (k + 1) 0 : Int) - mx.getD k 0) * ((my.getD (l + 1) 0 : Int) - my.getD l 0) else 0) (c1 + 2) (c2 + 8) := by
  have bx : ∀ q ∈ mx, q < 25 := fun q hq => by
    rcases (hx.2 q).mp hq with h | h
    · exact edX_lt hgo (Nat.le_refl _) _ h
    · exact edX_lt hg (Nat.le_refl _) _ h
  have by' : ∀ q ∈ my, q < 25 := fun q hq => by
    rcases (hy.2 q).mp hq with h | h
    · exact edY_lt hgo (Nat.le_refl _) _ h
    · exact edY_lt hg (Nat.le_refl _) _ h
  have n100 := spn_100 hg hR hL.1
  have o100 := spn_100 hgo hRo hLo.1
  rw [← hns] at n100
  rw [← hos] at o100
  obtain ⟨w0, hCC, hfr, hS1, hS2, hS3⟩ := hS
  rw [xN_o (b := fdo) hv rfl rfl, Option.bind_some, if_pos (isK_t ro.2.1 rfl)]
  rw [c_atM hgo hRo hLo ro hx.1 hy.1 (fun q hq => (hx.2 q).mpr (Or.inl hq)) (fun q hq => (hy.2 q).mpr (Or.inl hq)) bx by' hk hl, Option.bind_some]
  dsimp only
  rw [Option.bind_some, FD_num hgo hRo hLo ro (mx.getD k 0 : Nat) (my.getD l 0 : Nat) (S := chg S 1 4) rfl, Option.bind_some]
  rw [xN_o (b := fd) (show (chg S 1 4).1 v0 = _ from hv) rfl rfl, Option.bind_some, if_pos (isK_t (show (chg S 1 4).1 fd = _ from r.2.1) rfl)]
  rw [c_atM (s := chg S 1 4) hg hR hL r hx.1 hy.1 (fun q hq => (hx.2 q).mpr (Or.inr hq)) (fun q hq => (hy.2 q).mpr (Or.inr hq)) bx by' hk hl, Option.bind_some]
  dsimp only
  rw [Option.bind_some, FD_num hg hR hL r (mx.getD k 0 : Nat) (my.getD l 0 : Nat) (S := chg (chg S 1 4) 1 4) rfl, Option.bind_some]
  have none' : (¬ ∃ o z : Nat, labo (mx.getD k 0 : Nat) (my.getD l 0 : Nat) = o ∧ lab (mx.getD k 0 : Nat) (my.getD l 0 : Nat) = z) → ∃ S', some (chg (chg S 1 4) 1 4) = some S' ∧ ShS s S' C (os * ns) (fun m => cf m + if m < os * ns ∧ labo (mx.getD k 0 : Nat) (my.getD l 0 : Nat) = (m / ns : Nat) ∧ lab (mx.getD k 0 : Nat) (my.getD l 0 : Nat) = (m % ns : Nat) then ((mx.getD (k + 1) 0 : Int) - mx.getD k 0) * ((my.getD (l + 1) 0 : Int) - my.getD l 0) else 0) (c1 + 2) (c2 + 8) := by
    intro h
    refine ⟨_, rfl, ShS_cf (cf := cf) ⟨wf_chg (wf_chg w0), hCC, hfr, hS1, ?_, ?_⟩ (fun m => ?_)⟩
    · show S.2.2.1 + 1 + 1 = _; omega
    · show S.2.2.2 + 4 + 4 = _; omega
    · rw [if_neg (fun z => h ⟨_, _, z.2.1, z.2.2⟩), Int.add_zero]
  rcases hLo.lt hgo hRo (mx.getD k 0 : Nat) (my.getD l 0 : Nat) with zo | ⟨o, zo, wo⟩
  · rw [zo, if_pos (show Int32.ofInt (-1) = -1 by rfl)]
    rw [zo] at none'
    exact none' (by rintro ⟨o, z, h, _⟩; omega)
  · rw [zo, i_ofI, if_neg (i_ne1 (by omega))]
    rcases hL.lt hg hR (mx.getD k 0 : Nat) (my.getD l 0 : Nat) with zn | ⟨z, zn, wn⟩
    · rw [zn, if_pos (show Int32.ofInt (-1) = -1 by rfl)]
      rw [zo, zn] at none'
      exact none' (by rintro ⟨_, z, _, h⟩; omega)
    · rw [zn, i_ofI, if_neg (i_ne1 (by omega)), xR_o (b := C) (show (chg (chg S 1 4) 1 4).1 v0 = _ from hv) rfl rfl, Option.bind_some, Option.bind_some, i_mul, i_add]
      have wn' : z < ns := by omega
      have wo' : o < os := by omega
      have hlt : ns * o + z < os * ns := by
        have : ns * (o + 1) ≤ ns * os := Nat.mul_le_mul_left _ wo'
        rw [Nat.mul_add] at this
        rw [Nat.mul_comm os ns]
        omega
      have hN : os * ns ≤ 10000 := by
        have := Nat.mul_le_mul (show os ≤ 100 by omega) (show ns ≤ 100 by omega)
        omega
      have hdiv : (ns * o + z) / ns = o := by rw [Nat.mul_add_div (by omega), Nat.div_eq_of_lt wn']; omega
      have hmod : (ns * o + z) % ns = z := by rw [Nat.mul_add_mod, Nat.mod_eq_of_lt wn']
      rw [aI_r (show (chg (chg S 1 4) 1 4).1 C = _ from hCC) (by decide) rfl hlt (by omega) rfl, Option.bind_some, aPut_r (show (chg (chg S 1 4) 1 4).1 C = _ from hCC) hlt (by omega), Option.bind_some]
      refine ⟨_, rfl, wf_cup (wf_chg (wf_chg w0)) (wf_lt w0 hCC), ?_, fun q hq => ?_, hS1, ?_, ?_⟩
      · rw [cup_eq]
        congr 4
        refine rowC_congr (fun m hm => ?_)
        rw [← i_ofI, ← i_ofI, ← i_ofI, ← i_ofI, i_subI, i_subI, ← Int32.ofInt_mul, i_addI]
        show _ = Value.int (Int32.ofInt (cf m + if m < os * ns ∧ (o : Int) = (m / ns : Nat) ∧ (z : Int) = (m % ns : Nat) then ((mx.getD (k + 1) 0 : Int) - mx.getD k 0) * ((my.getD (l + 1) 0 : Int) - my.getD l 0) else 0))
        by_cases e : m = ns * o + z
        · rw [if_pos e, if_pos (by rw [e, hdiv, hmod]; exact ⟨hlt, rfl, rfl⟩), e]
        · rw [if_neg e, if_neg, Int.add_zero]
          rintro ⟨_, q2, q3⟩
          have := Nat.div_add_mod m ns
          have q2 : m / ns = o := by omega
          have q3 : m % ns = z := by omega
          rw [q2, q3] at this
          exact e this.symm
      · rw [cup_ne hq]; exact hfr q hq
      · show S.2.2.1 + 1 + 1 = _; omega
      · show S.2.2.2 + 4 + 4 = _; omega
end
