/-! the gate: how many are inside -/
section
variable {own : Nat → Nat} {s : CS} {t : TS} {K zn nr nS nT nC nR nP nL a : Nat} {rel : Int32} {S C CS' CM CT E RS RM' RT P G D L F : Nat → Nat} {RW : Nat → Nat → Nat}
theorem ga_rooms (r : R4x s.1 t K zn nr nS nT nC nR nP nL a rel S C CS' CM CT E RS RM' RT P G D L F RW) : c_1050 108 s = some (if t.1 1 = 0 then -1 else t.1 9) := by
  unfold c_1050
  rw [xI_o (x := if t.1 1 = 0 then -1 else t.1 9) r.1.1 rfl rfl]; rfl
theorem ga_ports (r : R4x s.1 t K zn nr nS nT nC nR nP nL a rel S C CS' CM CT E RS RM' RT P G D L F RW) : c_1052 108 s = some (Int32.ofNat nP) := by
  obtain ⟨⟨mc, x⟩, _⟩ := r.2.2.2.2.2.2.1
  unfold c_1052
  rw [xN_o (b := 110) r.1.1 rfl rfl]; repeat (first | rw [Option.bind_some] | rw [Sum.elim_inl] | rw [Sum.elim_inr])
  rw [if_pos (isK_t x rfl), alSize_r x]; rfl
theorem ga_insd (r : R4x s.1 t K zn nr nS nT nC nR nP nL a rel S C CS' CM CT E RS RM' RT P G D L F RW) : ∃ n, n ≤ 40 ∧ c_1051 108 s = some (Int32.ofNat n) ∧ t_667 t = some (Int32.ofNat n) := by
  have g := r.1.1
  have g9 := r.1.2.2.2.1
  have hnr := r.1.2.2.2.2.1
  obtain ⟨⟨mc, x1⟩, x2, x3, x4, _⟩ := r.2.1
  obtain ⟨x, y, h1, h2, h3, n, h4, h5⟩ := wh_two (f := (fun p4 : Int32 × Int32 => Option.bind (xN s [(89, 4)] 108) (fun a1 => (if isK s [13] a1 = true then Option.bind (alSize s a1) (fun x2 => (if p4.2 < x2 then Option.bind (xN s [(89, 4)] 108) (fun a3 => (if isK s [13] a3 = true then Option.bind (alGet s a3 p4.2) (fun e4 => Option.bind (toN s [81] e4) (fun a5 => (if isK s [81] a5 = true then Option.bind (c_997 a5 s) (fun x6 => Option.bind ((if x6 = 0 then some (0 : Int32) else some 1)) (fun v20 => some (Sum.inl (β := Int32) (p4.1 + v20, p4.2 + 1)))) else none))) else none)) else some (.inr p4.1))) else none)))) (g := (fun p4 : Int32 × Int32 => (if p4.2 < (t.1 27) then Option.bind (rdI t 24 40 p4.2) (fun x1 => Option.bind ((if x1 < (t.1 9) then Option.bind (rdI t 27 40 p4.2) (fun x2 => (if x2 < 0 then some 1 else some (0 : Int32))) else some (0 : Int32))) (fun v24 => some (Sum.inl (β := Int32) (p4.1 + v24, p4.2 + 1)))) else some (.inr p4.1)))) (a := (0, 0)) (b := (0, 0)) (Q := fun x y => x = y ∧ ∃ n, n ≤ nS ∧ x = Int32.ofNat n) nS (fun k x y => x = y ∧ x.2 = Int32.ofNat k ∧ ∃ n, n ≤ k ∧ x.1 = Int32.ofNat n) (by
    rintro k ⟨_, _⟩ ⟨_, _⟩ hk ⟨e, rfl, n, hn, rfl⟩
    obtain ⟨rfl, rfl⟩ := Prod.ext_iff.mp e
    right
    obtain ⟨dS, okS, _⟩ := x4 k hk
    obtain ⟨h24, h27, _⟩ := okS
    have e9 : bN (t.1 9) = nr := by rw [g9, bN_of (by omega)]
    have hv : ∃ v : Nat, v ≤ 1 ∧ (∀ {A : Type} (f : Int32 → Option A), Option.bind (c_997 (S k) s) (fun x6 => Option.bind ((if x6 = 0 then some (0 : Int32) else some 1)) f) = f (Int32.ofNat v)) ∧ (∀ {A : Type} (f : Int32 → Option A), Option.bind (if t.2.2.1 24 k < t.1 9 then Option.bind (some (t.2.2.1 27 k)) (fun x2 => if x2 < 0 then some (1 : Int32) else some 0) else some 0) f = f (Int32.ofNat v)) := by
      unfold c_997
      rw [xI_o (x := t.2.2.1 25 k) dS rfl rfl, xI_o (x := t.2.2.1 27 k) dS rfl rfl]
      have e27 : t.2.2.1 27 k < 0 ↔ t.2.2.1 27 k = -1 := by
        rcases h27 with z | z
        · rw [z]; exact ⟨fun _ => rfl, fun _ => by decide⟩
        · exact ⟨fun w => absurd w z, fun w => absurd (show t.2.2.1 27 k < 0 by rw [w]; decide) z⟩
      rcases h24 with ⟨z1, z2, z3⟩ | ⟨⟨b, hb, z1⟩, ⟨c, hc, z2⟩, z3⟩
      · refine ⟨0, by omega, fun f => ?_, fun f => ?_⟩
        · simp [z2]
        · rw [z1, if_neg (by rw [g9]; exact fun w => by have := (i_lt (by omega) (by omega)).mp w; omega)]; rfl
      · rw [e9] at hb
        have n25 : ¬ t.2.2.1 25 k = -1 := fun w => by
          rw [z2] at w
          exact i_ne1 (by omega) w
        rw [z1, g9, if_pos ((i_lt (by omega) (by omega)).mpr hb)]
        by_cases z : t.2.2.1 27 k = -1
        · exact ⟨1, by omega, fun f => by simp [n25, z], fun f => by simp [e27.mpr z]⟩
        · exact ⟨0, by omega, fun f => by simp [n25, z], fun f => by rw [Option.bind_some, if_neg (fun w => z (e27.mp w))]; rfl⟩
    obtain ⟨v, hv1, hv2, hv3⟩ := hv
    refine ⟨(Int32.ofNat (n + v), Int32.ofNat (k + 1)), (Int32.ofNat (n + v), Int32.ofNat (k + 1)), ?_, ?_, rfl, rfl, n + v, by omega, rfl⟩
    · dsimp only
      rw [xN_o (b := 111) g rfl rfl, Option.bind_some, if_pos (isK_t x1 rfl), alSize_r x1, Option.bind_some, if_pos ((i_lt (by omega) (by omega)).mpr hk), Option.bind_some, if_pos (isK_t x1 rfl), alGet_r x1 hk (by omega), Option.bind_some, toN_o dS rfl, Option.bind_some, if_pos (isK_t dS rfl), hv2, i_add, i_suc]
    · dsimp only
      rw [x2, if_pos ((i_lt (by omega) (by omega)).mpr hk), rdI_n (by omega) (by omega), rdI_n (by omega) (by omega), Option.bind_some, hv3, i_add, i_suc]) (by
    rintro ⟨_, _⟩ ⟨_, _⟩ ⟨e, rfl, n, hn, rfl⟩
    obtain ⟨rfl, rfl⟩ := Prod.ext_iff.mp e
    refine ⟨Int32.ofNat n, Int32.ofNat n, ?_, ?_, rfl, n, hn, rfl⟩
    · dsimp only
      rw [xN_o (b := 111) g rfl rfl, Option.bind_some, if_pos (isK_t x1 rfl), alSize_r x1, Option.bind_some, if_neg (fun z => by have := (i_lt (by omega) (by omega)).mp z; omega)]
    · dsimp only
      rw [x2, if_neg (fun z => by have := (i_lt (by omega) (by omega)).mp z; omega)]) ⟨rfl, rfl, 0, Nat.le_refl _, rfl⟩
  refine ⟨n, by omega, ?_, ?_⟩
  · unfold c_1051
    rw [h1, h5]; rfl
  · unfold t_667
    rw [h2, ← h3, h5]; rfl
end
