/-! the warden: zoneAt -/
section
variable {s : CS} {U : TS} {r sz wc w np b0 mx zm am rl nr : Nat} {bg en Z ZP A RW : Nat → Nat}
theorem tol_n {t : TS} {c z : Nat} (hz : z < 20) (h : v01 (t.2.2.1 c z)) : (if tol t c (Int32.ofNat z) = true then Value.ref (Z (bN (Int32.ofNat z))) else .null) = if t.2.2.1 c z = 1 then .ref (Z z) else .null := by
  have hb : bN (Int32.ofNat z) = z := bN_of (by omega)
  by_cases y : t.2.2.1 c z = 1
  · have : tol t c (Int32.ofNat z) = true := by
      unfold tol
      rw [hb, y]
      have : inB (Int32.ofNat z) 20 = true := by
        unfold inB
        have q1 : ¬ Int32.ofNat z < 0 := i_nlt0 (by omega)
        have q2 : Int32.ofNat z < 20 := (i_lt (j := z) (k := 20) (by omega) (by omega)).mpr hz
        simp [q1, q2]
      rw [this]; rfl
    rw [if_pos this, if_pos y, hb]
  · rw [if_neg (fun k => by obtain ⟨z', q1, q2, q3⟩ := tol_nat k; have := (i_inj (by omega) (by omega)).mp q2; rw [this] at y; exact y q3), if_neg y]
theorem c_zoA (hw : wfS s) (h : TWd U sz wc w bg en) (h2 : s.1 153 = some (true, false, 1035, rowC (fun i => .int (U.2.2.1 102 i)) sz)) (hr : s.1 r = some (rdW bg en sz wc w)) (rm : RM s.1 (vwT U) np b0 mx zm am rl nr Z ZP A RW) {v2 : Option Nat} {v1 : Int32} (hp : (v2 = none ∧ v1 = -1) ∨ ∃ y, y < 20 ∧ U.2.2.1 105 (20 + y) = 1 ∧ v2 = some (Z y) ∧ v1 = Int32.ofNat y) :
    (¬ inN U bg en wc w 0 19 → c_496 r mx v2 s = some (.inr (s.2.1, wwC s (Int32.ofNat w)))) ∧ ∀ z, z < 20 → inN U bg en wc w 0 19 → nuW U bg en w = Int32.ofNat z → (U.2.2.1 105 (20 + z) = 1 ∧ Int32.ofNat z ≠ v1 → c_496 r mx v2 s = some (.inl (some (Z z), cup (chg s 1 1) r (rdW bg en sz wc (w + 1))))) ∧ (¬ (U.2.2.1 105 (20 + z) = 1 ∧ Int32.ofNat z ≠ v1) → c_496 r mx v2 s = some (.inr (s.2.1, wwC (chg s 1 1) (Int32.ofNat w)))) := by
  obtain ⟨m1, m2, ⟨mc, es, m3, m4, m5⟩, _, _, _, _, m8, _⟩ := rm
  have hpk := c_peek hw h h2 hr 0 19
  have hv : ∀ z, (vwT U).2.2.1 105 z = U.2.2.1 105 (20 + z) := fun z => rfl
  unfold c_496
  rw [xN_o (b := zm) m1 rfl rfl, Option.bind_some, if_pos (isK_t hr rfl), hpk]
  refine ⟨fun y => by rw [if_neg y]; rfl, fun z hz y ez => ?_⟩
  rw [if_pos y, ez, Option.bind_some, Sum.elim_inl, Option.bind_some]
  have k42 : isK (chg s 1 1) [42] zm = true := isK_t (s := chg s 1 1) m3 rfl
  have k87 : isK (chg s 1 1) [87] r = true := isK_t (s := chg s 1 1) hr rfl
  have eg : tmGet (chg s 1 1) zm (.int (Int32.ofNat z)) = some (if U.2.2.1 105 (20 + z) = 1 then .ref (Z z) else .null) := by
    rw [tol_get (s := chg s 1 1) (t := vwT U) (c := 105) m3 m4 m5, tol_n hz (m8 z hz).1]; rfl
  rw [if_pos k42, eg, Option.bind_some]
  have wr := c_ww (s := chg s 1 1) (r := r) hw hr
  rcases (m8 z hz).1 with k | k
  · have k : U.2.2.1 105 (20 + z) = 0 := k
    rw [k, if_neg (show ¬ (0 : Int32) = 1 by decide), show toR (chg s 1 1) [90] .null = some none from rfl, Option.bind_some, if_pos rfl, Option.bind_some, if_pos k87, wr]
    exact ⟨fun q => absurd q.1 (by decide), fun _ => rfl⟩
  · have k : U.2.2.1 105 (20 + z) = 1 := k
    obtain ⟨⟨z1, _⟩, _⟩ := (m8 z hz).2.2 k
    have z1 : (chg s 1 1).1 (Z z) = some (zonC (vwT U) ZP z) := z1
    rw [k, if_pos rfl, toR_o z1 rfl, Option.bind_some, if_neg (show ¬ some (Z z) = none from fun q => (nomatch q))]
    have hiff : (some (Z z) = v2) ↔ Int32.ofNat z = v1 := by
      rcases hp with ⟨p1, p2⟩ | ⟨y', p1, p2, p3, p4⟩
      · rw [p1, p2]
        exact ⟨fun q => (nomatch q), fun q => absurd q (fun q => i_nlt0 (show z < 2147483648 by omega) (by rw [q]; decide))⟩
      · rw [p3, p4]
        constructor
        · intro q
          obtain ⟨⟨z2, _⟩, _⟩ := (m8 y' p1).2.2 p2
          rw [← Option.some.inj q] at z2
          have := z1.symm.trans z2
          unfold zonC at this
          simp at this
          exact this.1
        · intro q
          rw [(i_inj (by omega) (by omega)).mp q]
    by_cases x : Int32.ofNat z = v1
    · rw [if_pos (hiff.mpr x), Option.bind_some, if_pos k87, wr]
      exact ⟨fun q => absurd x q.2, fun _ => rfl⟩
    · have hns : nst (chg s 1 1) (vR (some (Z z))) = true := by
        show nst (chg s 1 1) (.ref (Z z)) = true
        unfold nst
        simp only [z1, zonC]; rfl
      rw [if_neg (fun q => x (hiff.mp q)), if_pos hns, Option.bind_some, if_pos k87, c_wok (by decide), Option.bind_some, Sum.elim_inl, if_pos k87, c_nxtW (s := chg s 1 1) h2 h.2.2.2.2.1 h.2.2.2.2.2.2.2 y.1.1 hr]
      exact ⟨fun _ => rfl, fun q => absurd ⟨rfl, x⟩ q⟩
end
