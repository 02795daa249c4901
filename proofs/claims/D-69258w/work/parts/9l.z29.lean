/-! the house: pass -/
section
variable {s : CS} {own : Nat → Nat} {t : TS} {K N : Nat}
theorem div10 (a : Nat) : (a + 1) / 10 = a / 10 + (if (a + 1) % 10 = 0 then 1 else 0) := by
  split <;> omega
set_option maxRecDepth 10000 in
theorem sec_pass {n m : Nat} (r : RH s own t K N) (hb : t.1 1 ≠ 0) (h2 : t.1 2 = Int32.ofNat n) (hm : m ≤ 60) (h6 : n + m ≤ 6000) (hN : N ≤ 30 * n) : ∃ S T, wh (S := CS × Int32) (X := CS) (fun p26 => (if p26.2 < Int32.ofNat m then (if isK p26.1 [45] 100 = true then Option.bind (c_473 100 p26.1) (fun x8 => some (.inl (x8, p26.2 + 1))) else none) else some (.inr p26.1))) (s, 0) = some S ∧ wh (S := TS × Int32) (X := TS) (fun p28 => (if p28.2 < Int32.ofNat m then Option.bind (t_663 p28.1) (fun x2 => some (.inl (x2, p28.2 + 1))) else some (.inr p28.1))) (t, 0) = some T ∧ ∃ own', RH S own' T K (N + 30 * m) ∧ Frm HP own own' s S ∧ T.1 0 = t.1 0 ∧ S.2.2.1 + PHc S T (N + 30 * m) ≤ s.2.2.1 + PHc s t N + 93 * m + 12 * ((n + m) / 10 - n / 10) ∧ S.2.2.2 + PHs S T (N + 30 * m) ≤ s.2.2.2 + PHs s t N + 644 * m + 190 * ((n + m) / 10 - n / 10) := by
  refine wh_two m (fun k (a : CS × Int32) (b : TS × Int32) => a.2 = Int32.ofNat k ∧ b.2 = Int32.ofNat k ∧ ∃ own', RH a.1 own' b.1 K (N + 30 * k) ∧ Frm HP own own' s a.1 ∧ b.1.1 0 = t.1 0 ∧ b.1.1 1 = t.1 1 ∧ b.1.1 2 = Int32.ofNat (n + k) ∧ a.1.2.2.1 + PHc a.1 b.1 (N + 30 * k) ≤ s.2.2.1 + PHc s t N + 93 * k + 12 * ((n + k) / 10 - n / 10) ∧ a.1.2.2.2 + PHs a.1 b.1 (N + 30 * k) ≤ s.2.2.2 + PHs s t N + 644 * k + 190 * ((n + k) / 10 - n / 10)) ?_ ?_ ⟨rfl, rfl, own, r, Frm.refl r.wf, rfl, rfl, h2, by show s.2.2.1 + PHc s t N ≤ _; omega, by show s.2.2.2 + PHs s t N ≤ _; omega⟩
  · rintro k ⟨S, _⟩ ⟨T, _⟩ hk ⟨rfl, rfl, own1, r1, f1, e0, e1, e2, c1, c2⟩
    dsimp only at r1 f1 e0 e1 e2 c1 c2 ⊢
    obtain ⟨S2, T2, own2, a1, a2, r2, f2, g0, g1, g2, d1, d2⟩ := sec_all r1 (by rw [e1]; exact hb) e2 (by omega) (by omega)
    have hlt : Int32.ofNat k < Int32.ofNat m := (i_lt (by omega) (by omega)).mpr hk
    refine Or.inr ⟨(S2, Int32.ofNat (k + 1)), (T2, Int32.ofNat (k + 1)), ?_, ?_, rfl, rfl, own2, r2, f1.trans f2, g0.trans e0, g1.trans e1, g2, ?_, ?_⟩
    · rw [if_pos hlt, if_pos (isK_t r1.c100 rfl), a1, Option.bind_some, i_suc]
    · rw [if_pos hlt, a2, Option.bind_some, i_suc]
    · have := div10 (n + k)
      show S2.2.2.1 + PHc S2 T2 (N + 30 * k + 30) ≤ _
      have e : n + (k + 1) = n + k + 1 := by omega
      rw [e, this]
      have le : n / 10 ≤ (n + k) / 10 := Nat.div_le_div_right (by omega)
      split at d1 <;> rename_i z
      · rw [if_pos z]; omega
      · rw [if_neg z]; omega
    · have := div10 (n + k)
      show S2.2.2.2 + PHs S2 T2 (N + 30 * k + 30) ≤ _
      have e : n + (k + 1) = n + k + 1 := by omega
      rw [e, this]
      have le : n / 10 ≤ (n + k) / 10 := Nat.div_le_div_right (by omega)
      split at d2 <;> rename_i z
      · rw [if_pos z]; omega
      · rw [if_neg z]; omega
  · rintro ⟨S, _⟩ ⟨T, _⟩ ⟨rfl, rfl, own1, r1, f1, e0, e1, e2, c1, c2⟩
    dsimp only at r1 f1 e0 e1 e2 c1 c2 ⊢
    have hlt : ¬ Int32.ofNat m < Int32.ofNat m := fun w => by have := (i_lt (by omega) (by omega)).mp w; omega
    exact ⟨S, T, by rw [if_neg hlt], by rw [if_neg hlt], own1, r1, f1, e0, c1, c2⟩
theorem hs_pass (r : RH s own t K N) (v1 : Int32) : Hr thr0 own s t K N 5660 39790 (c_472 100 v1 s) (t_662 v1 t) := by
  have hv : (if v1 < 1 then some (0 : Int32) else (if 60 < v1 then some 0 else some 1)) = some (if v1 < 1 then 0 else if 60 < v1 then 0 else 1) := by
    by_cases a : v1 < 1
    · rw [if_pos a, if_pos a]
    · by_cases b : 60 < v1
      · rw [if_neg a, if_neg a, if_pos b, if_pos b]
      · rw [if_neg a, if_neg a, if_neg b, if_neg b]
  unfold c_472 t_662
  rw [hv, Option.bind_some, Option.bind_some, need_eq]
  by_cases z : (if v1 < 1 then (0 : Int32) else if 60 < v1 then 0 else 1) = 0
  · rw [if_pos z]
    refine Hr.arg (x := 0) r rfl ?_ (by omega) (by omega)
    have key : ∀ {o : Option Int32}, (∃ v, o = some v) → Option.bind o (fun v22 => Option.bind (t_558 (if v1 < 1 then (0 : Int32) else if 60 < v1 then 0 else 1) v22 t) (fun x1 => (if x1.1 = 0 then some (0, x1.2) else Option.bind (wh (S := TS × Int32) (X := TS) (fun p28 => (if p28.2 < v1 then Option.bind (t_663 p28.1) (fun x2 => some (.inl (x2, p28.2 + 1))) else some (.inr p28.1))) (x1.2, 0)) (fun v35 => some (v35.1 2, v35))))) = some (0, ptI t 0 1) := by
      rintro o ⟨v, rfl⟩
      rw [Option.bind_some, z, goes_0, Option.bind_some, if_pos rfl]
    refine key ?_
    by_cases y : t.1 1 = 0
    · exact ⟨_, if_pos y⟩
    · rw [if_neg y]
      by_cases w : 6000 < t.1 2 + v1
      · exact ⟨_, if_pos w⟩
      · exact ⟨_, if_neg w⟩
  · rw [if_neg z]
    have hz1 : (if v1 < 1 then (0 : Int32) else if 60 < v1 then 0 else 1) = 1 := by
      by_cases a : v1 < 1
      · rw [if_pos a] at z; exact absurd rfl z
      · by_cases b : 60 < v1
        · rw [if_neg a, if_pos b] at z; exact absurd rfl z
        · rw [if_neg a, if_neg b]
    obtain ⟨m, hm, hm1, rfl⟩ : ∃ m : Nat, m ≤ 60 ∧ 1 ≤ m ∧ v1 = Int32.ofNat m := by
      by_cases a : v1 < 1
      · rw [if_pos a] at z; exact absurd rfl z
      · by_cases b : 60 < v1
        · rw [if_neg a, if_pos b] at z; exact absurd rfl z
        · have e1 : (1 : Int32).toInt = 1 := rfl
          have e6 : (60 : Int32).toInt = 60 := rfl
          rw [Int32.lt_iff_toInt_lt, e1] at a
          rw [Int32.lt_iff_toInt_lt, e6] at b
          refine ⟨v1.toInt.toNat, by omega, by omega, Int32.toInt_inj.mp ?_⟩
          rw [i_toInt (by omega)]
          omega
    rw [hz1, Option.bind_some, Sum.elim_inl, r.bu, Option.bind_some]
    by_cases y : t.1 1 = 0
    · rw [if_pos y, if_pos y, Option.bind_some, Option.bind_some, may_eq, if_pos rfl, goes_2]
      exact Hr.sta (x := 0) r rfl (by rw [Option.bind_some, if_pos rfl]) (by omega) (by omega)
    · obtain ⟨n, h2, hn, hN⟩ := r.nn.nw
      rw [if_neg y, if_neg y, r.ck.1, Option.bind_some, r.ck.2, Option.bind_some]
      have h6 : (6000 < t.1 2 + Int32.ofNat m) ↔ 6000 < n + m := by
        rw [h2, i_add]
        exact i_lt (j := 6000) (by omega) (by omega)
      by_cases w : 6000 < n + m
      · rw [if_pos (h6.mpr w), Option.bind_some, Option.bind_some, may_eq, if_pos rfl, goes_2]
        exact Hr.sta (x := 0) r rfl (by rw [Option.bind_some, if_pos rfl]) (by omega) (by omega)
      · rw [if_neg (fun q => w (h6.mp q)), Option.bind_some, Option.bind_some, may_eq, if_neg (show ¬ (1 : Int32) = 0 by decide), goes_1 _ (by decide), Option.bind_some, Option.bind_some, Sum.elim_inl, if_neg (show ¬ (1 : Int32) = 0 by decide)]
        obtain ⟨S, T, a1, a2, own', r', f', e0, c1, c2⟩ := sec_pass (r.pt 0) (t := ptI t 0 0) y h2 hm (by omega) hN
        have hd : (n + m) / 10 - n / 10 ≤ 6 := by omega
        refine ⟨T.1 2, T, S, own', K, N + 30 * m, ?_, r', Nat.le_succ _, f', ?_, ?_, Or.inl ⟨?_, e0⟩⟩
        · rw [a2]; rfl
        · have : PHc s (ptI t 0 0) N = PHc s t N := by unfold PHc; rw [(Pc_kp (KpN.p0 (v := 0))).1]
          omega
        · have : PHs s (ptI t 0 0) N = PHs s t N := by unfold PHs; rw [(Pc_kp (KpN.p0 (v := 0))).2]
          omega
        · rw [a1, Option.bind_some, r'.ck.1, Option.bind_some, r'.ck.2]; rfl
end
