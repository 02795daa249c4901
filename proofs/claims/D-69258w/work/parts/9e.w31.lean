/-! the warden: actAt -/
section
variable {s : CS} {U : TS} {r sz wc w np b0 mx zm am rl nr : Nat} {bg en Z ZP A RW : Nat → Nat}
theorem c_acA (hw : wfS s) (h : TWd U sz wc w bg en) (h2 : s.1 153 = some (true, false, 1035, rowC (fun i => .int (U.2.2.1 102 i)) sz)) (hr : s.1 r = some (rdW bg en sz wc w)) (rm : RM s.1 (vwT U) np b0 mx zm am rl nr Z ZP A RW) :
    (¬ inN U bg en wc w 0 19 → c_497 r mx s = some (.inr (s.2.1, wwC s (Int32.ofNat w)))) ∧ ∀ z, z < 20 → inN U bg en wc w 0 19 → nuW U bg en w = Int32.ofNat z → (U.2.2.1 109 (20 + z) = 1 → c_497 r mx s = some (.inl (some (A z), chg s 1 1))) ∧ (¬ U.2.2.1 109 (20 + z) = 1 → c_497 r mx s = some (.inr (s.2.1, wwC (chg s 1 1) (Int32.ofNat w)))) := by
  obtain ⟨m1, m2, _, ⟨mc, es, m3, m4, m5⟩, _, _, _, m8, _, m10, _⟩ := rm
  have hpk := c_peek hw h h2 hr 0 19
  unfold c_497
  rw [xN_o (b := am) m1 rfl rfl, Option.bind_some, if_pos (isK_t hr rfl), hpk]
  refine ⟨fun y => by rw [if_neg y]; rfl, fun z hz y ez => ?_⟩
  rw [if_pos y, ez, Option.bind_some, Sum.elim_inl, Option.bind_some]
  have k42 : isK (chg s 1 1) [42] am = true := isK_t (s := chg s 1 1) m3 rfl
  have k87 : isK (chg s 1 1) [87] r = true := isK_t (s := chg s 1 1) hr rfl
  have eg : tmGet (chg s 1 1) am (.int (Int32.ofNat z)) = some (if U.2.2.1 109 (20 + z) = 1 then .ref (A z) else .null) := by
    rw [tol_get (s := chg s 1 1) (t := vwT U) (c := 109) m3 m4 m5, tol_n hz (m8 z hz).2.1]; rfl
  rw [if_pos k42, eg, Option.bind_some]
  have wr := c_ww (s := chg s 1 1) (r := r) hw hr
  rcases (m8 z hz).2.1 with k | k
  · have k : U.2.2.1 109 (20 + z) = 0 := k
    rw [k, if_neg (show ¬ (0 : Int32) = 1 by decide), show toR (chg s 1 1) [91] .null = some none from rfl, Option.bind_some, if_pos rfl, Option.bind_some, if_pos k87, wr]
    exact ⟨fun q => absurd q (by decide), fun _ => rfl⟩
  · have k : U.2.2.1 109 (20 + z) = 1 := k
    have z1 : (chg s 1 1).1 (A z) = some (actC (vwT U) z) := (m10 z hz k).1
    rw [k, if_pos rfl, toR_o z1 rfl, Option.bind_some, if_neg (show ¬ some (A z) = none from fun q => (nomatch q)), Option.bind_some, if_pos k87, c_wok (by decide)]
    exact ⟨fun _ => rfl, fun q => absurd rfl q⟩
theorem te_tkZ (h : TWd U sz wc w bg en) (h3 : ¬ U.1 311 < 0) (v : Int32) : t_788 v U = some (-1, U) := by
  unfold t_788
  rw [te_look h h3, Option.bind_some, if_neg h3]
/-- once something is wrong: a row, a hold -/
theorem te_hold (h : TWd U sz wc w bg en) (h3 : ¬ U.1 311 < 0) : t_789 U = some U := by
  unfold t_789
  rw [te_look h h3, Option.bind_some, if_neg h3, Option.bind_some, te_stp h h3, Option.bind_some, if_neg h3]
end
