/-! permits: the first rule that is broken or open -/
section
variable {s : CS} {t : TS} {own : Nat → Nat}
theorem sid_85 : ∀ k : Fin 5, (sid k.val = 85 ↔ k.val = 1) ∧ (sid k.val = 83 ↔ k.val = 3) := by decide
theorem pm_first (k3 : K3 (rs s.1 own 11)) (r : R3 (rs s.1 own 3) t) (d : t.1 218 ≠ -1) : ∃ o : Option Nat, (∀ k, o = some k → k < 12) ∧ c_982 104 s = some (o.elim (-1) Int32.ofNat) ∧ wh (S := Int32) (X := Sum (Int32) (Sum (Unit) (Int32 × TS))) (fun p33 => (if p33 < (t.1 205) then Option.bind (rdI t 89 12 p33) (fun x4 => (if x4 = 1 then some (.inr (.inl p33)) else Option.bind (rdI t 89 12 p33) (fun x5 => (if x5 = 3 then some (.inr (.inl p33)) else some (.inl (p33 + 1)))))) else some (.inr (.inr (.inl ()))))) 0 = some (o.elim (.inr (.inl ())) (fun k => .inl (Int32.ofNat k))) := by
  obtain ⟨nf, n, nr, rl, mc, ru, q, bb, D, r1, rD, rT, rF, rL, r205, nr12, q0, q60, rR, inj, bb0, bbN, rC⟩ := r
  have g : ∀ {p c}, rs s.1 own 3 p = some c → s.1 p = some c := fun h => (rs_some.mp h).2
  have key : ∃ x y, wh (S := Int32) (X := Sum (Int32) (Sum (Unit) (Int32))) (fun p2 => Option.bind (xN s [(78, 1)] 104) (fun a1 => (if isK s [13] a1 = true then Option.bind (alSize s a1) (fun x2 => (if p2 < x2 then Option.bind (xN s [(78, 1)] 104) (fun a3 => (if isK s [13] a3 = true then Option.bind (alGet s a3 p2) (fun e4 => Option.bind (toN s [70] e4) (fun a5 => Option.bind (xR s [(70, 4)] a5) (fun r6 => (if r6 = some 85 then some (.inr (.inl p2)) else (if nst s (vR r6) = true then Option.bind (xN s [(78, 1)] 104) (fun a7 => (if isK s [13] a7 = true then Option.bind (alGet s a7 p2) (fun e8 => Option.bind (toN s [70] e8) (fun a9 => Option.bind (xR s [(70, 4)] a9) (fun r10 => (if r10 = some 83 then some (.inr (.inl p2)) else (if nst s (vR r10) = true then some (.inl (p2 + 1)) else none))))) else none)) else none))))) else none)) else some (.inr (.inr (.inl ()))))) else none))) 0 = some x ∧ wh (S := Int32) (X := Sum (Int32) (Sum (Unit) (Int32 × TS))) (fun p33 => (if p33 < (t.1 205) then Option.bind (rdI t 89 12 p33) (fun x4 => (if x4 = 1 then some (.inr (.inl p33)) else Option.bind (rdI t 89 12 p33) (fun x5 => (if x5 = 3 then some (.inr (.inl p33)) else some (.inl (p33 + 1)))))) else some (.inr (.inr (.inl ()))))) 0 = some y ∧ ((∃ k, k < 12 ∧ x = .inl (Int32.ofNat k) ∧ y = .inl (Int32.ofNat k)) ∨ (x = .inr (.inl ()) ∧ y = .inr (.inl ()))) := by
    refine wh_two nr (fun k (a b : Int32) => a = Int32.ofNat k ∧ b = Int32.ofNat k) ?_ ?_ ⟨rfl, rfl⟩
    · rintro k _ _ hk ⟨rfl, rfl⟩
      obtain ⟨nm, cc, ex, sr, lf, rf, wy, ms, mc', m, CE, h1, _, h3⟩ := rR k hk
      rcases h3 with ⟨w, _⟩ | ⟨_, sn, s4, rfl, a89, _⟩
      · exact absurd w d
      have c1 := g h1
      have hs := (rs_some.mp (k3.2.1 sn s4)).2
      have ns : nst s (vR (some (sid sn))) = true := by
        show (match s.1 (sid sn) with | some x => x.2.2.1 != 1000 | none => false) = true
        rw [hs]; rfl
      obtain ⟨i1, i3⟩ := sid_85 ⟨sn, Nat.lt_succ_of_le s4⟩
      rw [xN_o (g r1) rfl rfl, Option.bind_some, if_pos (isK_t (g rL) rfl), alSize_l (g rL), Option.bind_some, rowC_len, if_pos ((i_lt (by omega) (by omega)).mpr hk), Option.bind_some, if_pos (isK_t (g rL) rfl), alGet_l (g rL) (by rw [rowC_get, if_pos hk]) (by omega), Option.bind_some, toN_o c1 rfl, Option.bind_some, xR_o c1 rfl rfl, Option.bind_some]
      rw [r205, if_pos ((i_lt (by omega) (by omega)).mpr hk), rdI_n (by omega) (by decide), a89]
      simp only [Option.bind_some]
      have n1 : Int32.ofNat sn = 1 ↔ sn = 1 := i_inj (j := sn) (k := 1) (by omega) (by decide)
      have n3 : Int32.ofNat sn = 3 ↔ sn = 3 := i_inj (j := sn) (k := 3) (by omega) (by decide)
      by_cases z1 : sn = 1
      · left
        rw [if_pos (show some (sid sn) = some 85 by rw [i1.mpr z1]), if_pos (n1.mpr z1)]
        exact ⟨_, _, rfl, rfl, Or.inl ⟨k, by omega, rfl, rfl⟩⟩
      · rw [if_neg (fun w => z1 (i1.mp (Option.some.inj w))), if_neg (fun w => z1 (n1.mp w)), if_pos ns, if_pos (isK_t (g rL) rfl), alGet_l (g rL) (by rw [rowC_get, if_pos hk]) (by omega), Option.bind_some, toN_o c1 rfl, Option.bind_some, xR_o c1 rfl rfl]
        simp only [Option.bind_some]
        by_cases z3 : sn = 3
        · left
          rw [if_pos (show some (sid sn) = some 83 by rw [i3.mpr z3]), if_pos (n3.mpr z3)]
          exact ⟨_, _, rfl, rfl, Or.inl ⟨k, by omega, rfl, rfl⟩⟩
        · right
          rw [if_neg (fun w => z3 (i3.mp (Option.some.inj w))), if_neg (fun w => z3 (n3.mp w)), if_pos ns]
          exact ⟨_, _, rfl, rfl, i_suc k, i_suc k⟩
    · rintro _ _ ⟨rfl, rfl⟩
      rw [xN_o (g r1) rfl rfl, Option.bind_some, if_pos (isK_t (g rL) rfl), alSize_l (g rL), Option.bind_some, rowC_len, if_neg (fun w => Nat.lt_irrefl _ ((i_lt (by omega) (by omega)).mp w)), r205, if_neg (fun w => Nat.lt_irrefl _ ((i_lt (by omega) (by omega)).mp w))]
      exact ⟨_, _, rfl, rfl, Or.inr ⟨rfl, rfl⟩⟩
  obtain ⟨x, y, e1, e2, h⟩ := key
  unfold c_982
  rw [e1, e2, Option.bind_some]
  rcases h with ⟨k, hk, rfl, rfl⟩ | ⟨rfl, rfl⟩
  · exact ⟨some k, ⟨fun j hj => by rw [← Option.some.inj hj]; exact hk, rfl, rfl⟩⟩
  · exact ⟨none, ⟨fun j hj => absurd hj (by simp), rfl, rfl⟩⟩
end
