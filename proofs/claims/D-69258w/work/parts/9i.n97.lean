/-! the plan: gaps, the component: a door along its line -/
section
variable {s S : CS} {t T : TS} {L : PLn} {nl nr : Nat} {st ln : Nat → Nat} {lab : Int → Int → Int} {LC LD : Nat → Nat} {DC : Nat → Nat → Nat} {fd fL ou ol mp : Nat} {pid nid aid : Nat → Nat → Nat} {si rc rl sp sl : Nat → Nat} {nd : Nat → Nat} {gps : List (Nat × Nat × Nat)} {x y : Nat}
noncomputable def gapC (t : TS) (L : PLn) (nl : Nat) (lab : Int → Int → Int) (g : Nat × Nat × Nat) : lCell := (true, false, 79, [.int (Int32.ofNat g.1), .int (Int32.ofNat g.2.1), .int (Int32.ofInt (gLL (gS L nl) lab (2 * g.2.2))), .int (Int32.ofInt (gLL (gS L nl) lab (2 * g.2.2 + 1))), .int (Int32.ofNat (max (dA t g.1 g.2.1) (kAn L nl g.2.2))), .int (Int32.ofNat (min (dB t g.1 g.2.1) (kB L nl g.2.2)))])
def GpS (s S : CS) (t : TS) (L : PLn) (nl : Nat) (lab : Int → Int → Int) (gps : List (Nat × Nat × Nat)) (x y : Nat) : Prop := wfS S ∧ s.2.1 + 1 ≤ S.2.1 ∧ (∀ q, q < s.2.1 → S.1 q = s.1 q) ∧ (∃ (mc : Int32) (GA : Nat → Nat), S.1 s.2.1 = some (true, false, 1013, .int mc :: rowC (fun k => .ref (GA k)) gps.length) ∧ ∀ k, k < gps.length → s.2.1 < GA k ∧ S.1 (GA k) = some (gapC t L nl lab (gps.getD k (0, 0, 0)))) ∧ S.2.2.1 ≤ s.2.2.1 + x + 2 * gps.length ∧ S.2.2.2 ≤ s.2.2.2 + y + 22 * gps.length
theorem c_pntI {S : CS} {a : Nat} {v1 v2 : Int32} (h : S.1 a = some (true, false, 63, [.int 0, .int 0])) : c_878 a v1 v2 S = some (cup S a (true, false, 63, [.int v1, .int v2])) := by
  unfold c_878
  rw [if_pos (isK_t h rfl), xP_c (k := 0) (fs' := [.int v1, .int 0]) h rfl (by show 0 < 2; decide) rfl, Option.bind_some, xP_c (k := 1) (fs' := [.int v1, .int v2]) (cup_eq ..) rfl (by show 1 < 2; decide) rfl, Option.bind_some, cupU]
theorem c_gapI {S : CS} {a : Nat} {v1 v2 v3 v4 v5 v6 : Int32} (h : S.1 a = some (true, false, 79, [.int 0, .int 0, .int 0, .int 0, .int 0, .int 0])) : c_983 a v1 v2 v3 v4 v5 v6 S = some (cup S a (true, false, 79, [.int v1, .int v2, .int v3, .int v4, .int v5, .int v6])) := by
  unfold c_983
  rw [if_pos (isK_t h rfl), xP_c (k := 0) (fs' := [.int v1, .int 0, .int 0, .int 0, .int 0, .int 0]) h rfl (by show 0 < 6; decide) rfl, Option.bind_some, xP_c (k := 1) (fs' := [.int v1, .int v2, .int 0, .int 0, .int 0, .int 0]) (cup_eq ..) rfl (by show 1 < 6; decide) rfl, Option.bind_some, xP_c (k := 2) (fs' := [.int v1, .int v2, .int v3, .int 0, .int 0, .int 0]) (cup_eq ..) rfl (by show 2 < 6; decide) rfl, Option.bind_some, xP_c (k := 3) (fs' := [.int v1, .int v2, .int v3, .int v4, .int 0, .int 0]) (cup_eq ..) rfl (by show 3 < 6; decide) rfl, Option.bind_some, xP_c (k := 4) (fs' := [.int v1, .int v2, .int v3, .int v4, .int v5, .int 0]) (cup_eq ..) rfl (by show 4 < 6; decide) rfl, Option.bind_some, xP_c (k := 5) (fs' := [.int v1, .int v2, .int v3, .int v4, .int v5, .int v6]) (cup_eq ..) rfl (by show 5 < 6; decide) rfl, Option.bind_some, cupU, cupU, cupU, cupU, cupU]
/-- a gap is put into the list -/
theorem gp_add (r : GpS s S t L nl lab gps x y) (hl : gps.length < 2000) {l d p : Nat} {v1 v2 v3 v4 v5 v6 : Int32} (e : gapC t L nl lab (l, d, p) = (true, false, 79, [.int v1, .int v2, .int v3, .int v4, .int v5, .int v6])) {ln1 : Nat} (hln : xI (nw S 79 [.int 0, .int 0, .int 0, .int 0, .int 0, .int 0]).2 [(59, 0)] ln1 = some v1) : ∃ S', Option.bind (some (nw S 79 [.int 0, .int 0, .int 0, .int 0, .int 0, .int 0])) (fun n44 => Option.bind (xI n44.2 [(59, 0)] ln1) (fun x45 => (if isK n44.2 [79] n44.1 = true then Option.bind (c_983 n44.1 x45 v2 v3 v4 v5 v6 n44.2) (fun x46 => (if isK x46 [13] s.2.1 = true then Option.bind (alAdd x46 s.2.1 (.ref n44.1)) (fun s47 => some s47) else none)) else none))) = some S' ∧ GpS s S' t L nl lab (gps ++ [(l, d, p)]) x y := by
  obtain ⟨h1, h2, h3, ⟨mc, GA, h4, h5⟩, h6, h7⟩ := r
  obtain ⟨S1, e1, u1⟩ := nw_o (s := S) 79 [.int 0, .int 0, .int 0, .int 0, .int 0, .int 0] h1
  rw [e1] at hln ⊢
  have lG := wf_lt h1 h4
  rw [Option.bind_some]
  dsimp only at hln ⊢
  rw [hln, Option.bind_some, if_pos (isK_t u1.1 rfl), c_gapI u1.1, Option.bind_some]
  have g1 : (cup S1 S.2.1 (true, false, 79, [.int v1, .int v2, .int v3, .int v4, .int v5, .int v6])).1 s.2.1 = some (true, false, 1013, .int mc :: rowC (fun k => .ref (GA k)) gps.length) := by
    rw [cup_ne (by omega), u1.2.1 _ (by omega)]; exact h4
  rw [if_pos (isK_t g1 rfl), alAdd_r g1 (by omega) (elO_o (cup_eq ..)), Option.bind_some]
  refine ⟨_, rfl, ?_, by show s.2.1 + 1 ≤ S1.2.1; rw [u1.2.2.1]; omega, fun q hq => ?_, ⟨mc + 1, fun k => if k = gps.length then S.2.1 else GA k, ?_, fun k hk => ?_⟩, ?_, ?_⟩
  · intro q hq
    have hq : S1.2.1 ≤ q := hq
    rw [u1.2.2.1] at hq
    rw [cput_ne (by omega), cup_ne (by omega), u1.2.1 q (by omega)]
    exact h1 q (by omega)
  · rw [cput_ne (by omega), cup_ne (by omega), u1.2.1 q (by omega)]
    exact h3 q hq
  · rw [cput_eq, List.length_append]
    refine congrArg (fun l => some (true, false, 1013, .int (mc + 1) :: l)) (rowC_congr (fun k hk => ?_))
    dsimp only
    by_cases z : k = gps.length
    · rw [if_pos z, if_pos z]
    · rw [if_neg z, if_neg z]
  · rw [List.length_append] at hk
    have hk : k < gps.length + 1 := hk
    dsimp only
    by_cases z : k = gps.length
    · rw [if_pos z]
      refine ⟨by omega, ?_⟩
      rw [cput_ne (by omega), cup_eq, z, ← e]
      simp [List.getD]
    · rw [if_neg z]
      obtain ⟨g1, g2⟩ := h5 k (by omega)
      have := wf_lt h1 g2
      refine ⟨g1, ?_⟩
      rw [cput_ne (by omega), cup_ne (by omega), u1.2.1 _ (by omega), g2, getD_app (show k < gps.length by omega)]
  · rw [List.length_append]
    show S1.2.2.1 + 1 ≤ _
    rw [u1.2.2.2.2.1]
    simp only [List.length_singleton]
    omega
  · rw [List.length_append]
    show S1.2.2.2 + 16 ≤ _
    rw [u1.2.2.2.2.2]
    simp only [List.length_cons, List.length_nil]
    omega
end
