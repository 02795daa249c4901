/-! the plan's readers: ways, the component whole -/
section
variable {s S : CS} {t T : TS} {L : PLn} {nl nr : Nat} {st ln : Nat → Nat} {lab : Int → Int → Int} {LC LD : Nat → Nat} {DC : Nat → Nat → Nat} {fd fL ou ol mp : Nat} {pid nid aid : Nat → Nat → Nat} {si rc rl sp sl : Nat → Nat} {nd : Nat → Nat} {f : Nat → Nat} {Lq dl : List Nat} {N x y a0 : Nat}
def WX (ln : Nat → Nat) (R : List Nat) : Nat := R.length + 7 * lnS ln R
def WZ (ln : Nat → Nat) (R : List Nat) : Nat := 4 * R.length + 10 * lnS ln R
theorem lnS_a (R R' : List Nat) : lnS ln (R ++ R') = lnS ln R + lnS ln R' := by
  unfold lnS
  rw [List.map_append, List.sum_append]
theorem WX_a (R R' : List Nat) : WX ln (R ++ R') = WX ln R + WX ln R' ∧ WZ ln (R ++ R') = WZ ln R + WZ ln R' := by
  unfold WX WZ
  rw [lnS_a, List.length_append]
  omega
theorem WX_1 (k : Nat) : WX ln [k] = 1 + 7 * ln k ∧ WZ ln [k] = 4 + 10 * ln k := by
  unfold WX WZ lnS
  simp
theorem Wy_xy {x' y' : Nat} (r : WyS s S N ou sp f Lq dl x y) (h : x = x') (h2 : y = y') : WyS s S N ou sp f Lq dl x' y' := by rw [← h, ← h2]; exact r
theorem xR_o' {V : CS} {a : Nat} {r : Option Nat} (h1 : ∀ q c, s.1 q = some c → V.1 q = some c) (h2 : ∀ q c, s.1 q = some c → S.1 q = some c) {k0 : Value} (h : ∃ p1 p2 p3, s.1 a = some (true, false, 62, [k0, p1, p2, p3])) (e : xR S [(62, 1)] a = some r) : xR V [(62, 1)] a = some r := by
  obtain ⟨p1, p2, p3, h⟩ := h
  unfold xR xV at e ⊢
  rw [h2 _ _ h] at e
  rw [h1 _ _ h]
  exact e
theorem wy_join (hw : wfS s) (F : FNx s t L nl nr st ln lab LC fd fL ou ol mp pid nid aid si rc rl sp sl) (H : DrH s t L nl LC LD DC nd) {dn : Nat → Prop} {b v0 : Nat} (r : WyS s S (spn L nl st ln nr) ou sp f Lq dl x y) (J : qmJ (fun c => c = a0) (adW t L nl lab nd) f b Lq dn (fun _ => False)) (hb : b ≤ spn L nl st ln nr) : ∃ S' f' Lq', c_915 v0 (ndC ou sp b) s.2.1 (s.2.1 + 1) S = some S' ∧ WyS s S' (spn L nl st ln nr) ou sp f' Lq' dl (x + WX ln (rgN L nl nr st lab b)) (y + WZ ln (rgN L nl nr st lab b)) ∧ quJ (fun c => c = a0) (adW t L nl lab nd) f' Lq' (fun z => dn z ∨ z = b) := by
  have hle := FN_le F
  have old : ∀ {V : CS}, (∀ q, q < s.2.1 → V.1 q = s.1 q) → ∀ a c, s.1 a = some c → V.1 a = some c := fun {V} h a c e => by rw [h a (wf_lt hw e)]; exact e
  have FS := FN_ext F (old r.2.2.1)
  obtain ⟨o, r1, o1, o2, o3, _⟩ := FN_rgs FS hb
  have rlen := rgN_len (L := L) (nl := nl) (nr := nr) (st := st) (lab := lab) b
  unfold c_915
  rw [o2, Option.bind_some, o3, Option.bind_some]
  have key : ∀ X : Option CS, Tr X (fun v => ∃ f' Lq', WyS s v (spn L nl st ln nr) ou sp f' Lq' dl (x + WX ln (rgN L nl nr st lab b)) (y + WZ ln (rgN L nl nr st lab b)) ∧ quJ (fun c => c = a0) (adW t L nl lab nd) f' Lq' (fun z => dn z ∨ z = b)) → ∃ S' f' Lq', Option.bind X (fun v76 => some v76) = some S' ∧ WyS s S' (spn L nl st ln nr) ou sp f' Lq' dl (x + WX ln (rgN L nl nr st lab b)) (y + WZ ln (rgN L nl nr st lab b)) ∧ quJ (fun c => c = a0) (adW t L nl lab nd) f' Lq' (fun z => dn z ∨ z = b) := by
    rintro X ⟨S', rfl, f', Lq', h1, h2⟩
    exact ⟨S', f', Lq', rfl, h1, h2⟩
  refine key _ ?_
  refine wh_cnt (rgN L nl nr st lab b).length (fun p (v : CS × Int32) => v.2 = Int32.ofNat (p + o) ∧ ∃ f' Lq', WyS s v.1 (spn L nl st ln nr) ou sp f' Lq' dl (x + WX ln ((rgN L nl nr st lab b).take p)) (y + WZ ln ((rgN L nl nr st lab b).take p)) ∧ qmJ (fun c => c = a0) (adW t L nl lab nd) f' b Lq' dn (fun z => ∃ k ∈ (rgN L nl nr st lab b).take p, AdR t L nl lab nd (rgs L nl st ln k) z)) ?_ ?_ ⟨by dsimp only; rw [Nat.zero_add], f, Lq, r, qmJ_skip J (fun z hz => ?_)⟩
  · rintro p ⟨U, _⟩ hp ⟨rfl, f1, L1, u1, u2⟩
    right
    dsimp only at u1 u2 ⊢
    have FU := FN_ext F (old u1.2.2.1)
    obtain ⟨o', r1', p1, p2, p3, p4, p5⟩ := FN_rgs FU hb
    have eo : o' = o := by
      have e2 : r1' = r1 := by
        have h1 := p2.symm.trans ((xR_o' (V := U) (old u1.2.2.1) (old r.2.2.1) (FN_nd F hb) o2))
        exact Option.some.inj h1
      rw [e2, o3] at p3
      have := Option.some.inj p3
      exact ((i_inj (by omega) (by omega)).mp this).symm
    rw [eo] at p4 p5
    obtain ⟨c1, c2, c3, ec⟩ := FN_nd FU hb
    have hm : (rgN L nl nr st lab b).getD p 0 ∈ rgN L nl nr st lab b := by rw [getD_lt hp]; exact List.getElem_mem hp
    have hk := rgN_lt hm
    obtain ⟨sv, _, q1, ⟨m, q2⟩, _, _⟩ := FN_rc F hk
    have q1U := old u1.2.2.1 _ _ q1
    have q2U := old u1.2.2.1 _ _ q2
    rw [if_pos (isK_t ec rfl), p4, Option.bind_some, if_pos ((i_lt (by omega) (by omega)).mpr (by omega)), if_pos (isK_t ec rfl), p5 p hp, Option.bind_some, Option.bind_some, xN_o (b := rl _) q1U rfl rfl, Option.bind_some, if_pos (isK_t q2U rfl), alMc_l q2U, Option.bind_some]
    dsimp only
    obtain ⟨V, h1, f2, L2, h2, h3⟩ := wy_ring hw F H (Wy_chg u1 1 4) u2 hk hb (rgN_fc hm) q2
    rw [h1, Option.bind_some, i_suc]
    have wa := WX_a (ln := ln) ((rgN L nl nr st lab b).take p) [(rgN L nl nr st lab b).getD p 0]
    have w1 := WX_1 (ln := ln) ((rgN L nl nr st lab b).getD p 0)
    refine ⟨_, rfl, by dsimp only; congr 1; omega, f2, L2, ?_, qmJ_skip h3 (fun z hz => Or.inl ?_)⟩
    · rw [take_s hp]
      exact Wy_xy h2 (by omega) (by omega)
    · rw [take_s hp] at hz
      obtain ⟨k, hk1, hk2⟩ := hz
      rcases List.mem_append.mp hk1 with w | w
      · exact Or.inl ⟨k, w, hk2⟩
      · rw [List.mem_singleton.mp w] at hk2
        exact Or.inr hk2
  · rintro ⟨U, _⟩ ⟨rfl, f1, L1, u1, u2⟩
    dsimp only at u1 u2 ⊢
    have FU := FN_ext F (old u1.2.2.1)
    obtain ⟨o', r1', p1, p2, p3, p4, p5⟩ := FN_rgs FU hb
    have eo : o' = o := by
      have e2 : r1' = r1 := by
        have h1 := p2.symm.trans ((xR_o' (V := U) (old u1.2.2.1) (old r.2.2.1) (FN_nd F hb) o2))
        exact Option.some.inj h1
      rw [e2, o3] at p3
      have := Option.some.inj p3
      exact ((i_inj (by omega) (by omega)).mp this).symm
    rw [eo] at p4
    obtain ⟨c1, c2, c3, ec⟩ := FN_nd FU hb
    rw [if_pos (isK_t ec rfl), p4, Option.bind_some, if_neg (fun z => by have := (i_lt (by omega) (by omega)).mp z; omega)]
    rw [List.take_length] at u1 u2
    refine ⟨_, rfl, f1, L1, u1, qmJ_out u2 (fun c hc => ?_)⟩
    obtain ⟨q, h1, h2, h3, h4⟩ := hc
    obtain ⟨k, hk, hm⟩ := F.1.2.1.2.2.2 q h1
    have e := lb_fc F.1.1 F.1.2.1 F.1.2.2.2.1.1 hk hm
    refine ⟨k, List.mem_filter.mpr ⟨List.mem_range.mpr hk, decide_eq_true (by rw [← e]; exact h2)⟩, q, hm, h3, h4⟩
  · obtain ⟨k, hk, _⟩ := hz
    rw [List.take_zero] at hk
    cases hk
end
