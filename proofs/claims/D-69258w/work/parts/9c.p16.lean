/-! the program: a block reckons, on both sides -/
section
variable {t : TS} {n k : Nat}
theorem t_rec (K : Nat) (hK : K < 26) (ho : okW t n) (hk : k < n) (h : t.2.2.1 125 k = Int32.ofNat K) : t_812 (Int32.ofNat k) t = some (app t k (evl t k K)) := by
  match K, hK, h with
  | 0, _, h => exact tkd_0 ho hk h
  | 1, _, h => exact tkd_1 ho hk h
  | 2, _, h => exact tkd_2 ho hk h
  | 3, _, h => exact tkd_3 ho hk h
  | 4, _, h => exact tkd_4 ho hk h
  | 5, _, h => exact tkd_5 ho hk h
  | 6, _, h => exact tkd_6 ho hk h
  | 7, _, h => exact tkd_7 ho hk h
  | 8, _, h => exact tkd_8 ho hk h
  | 9, _, h => exact tkd_9 ho hk h
  | 10, _, h => exact tkd_10 ho hk h
  | 11, _, h => exact tkd_11 ho hk h
  | 12, _, h => exact tkd_12 ho hk h
  | 13, _, h => exact tkd_13 ho hk h
  | 14, _, h => exact tkd_14 ho hk h
  | 15, _, h => exact tkd_15 ho hk h
  | 16, _, h => exact tkd_16 ho hk h
  | 17, _, h => exact tkd_17 ho hk h
  | 18, _, h => exact tkd_18 ho hk h
  | 19, _, h => exact tkd_19 ho hk h
  | 20, _, h => exact tkd_20 ho hk h
  | 21, _, h => exact tkd_21 ho hk h
  | 22, _, h => exact tkd_22 ho hk h
  | 23, _, h => exact tkd_23 ho hk h
  | 24, _, h => exact tkd_24 ho hk h
  | 25, _, h => exact tkd_25 ho hk h
  | K + 26, hK, _ => omega
theorem evl_w {K : Nat} {w : Int32} (h : evl t k K = .inr w) : w = 1 ∨ w = 2 ∨ w = 3 := by
  unfold evl ev1 ev2 ev3 at h
  dsimp only at h
  repeat' split at h
  all_goals first | (cases h; done) | (cases h; simp; done)
end
/-- what becomes of a kind's answer -/
noncomputable def cT (v0 v1 : Nat) (oo : Option (Sum (Int32 × CS) (Nat × CS))) : Option CS :=
  Option.bind (α := Sum (CS) (CS)) (Option.bind (α := Sum (CS × Nat) (Sum (CS) (CS))) (Option.bind (α := Sum (Int32 × CS) (Nat × CS)) oo (Sum.elim (fun x2 => Option.bind (α := CS) (xP x2.2 [(94, 7)] v1 (.int x2.1)) (fun s4 => some (.inr (.inl s4)))) (fun q3 => (if isK q3.2 [133] q3.1 = true then some (.inl (q3.2, q3.1)) else none)))) (Sum.elim (fun v25 => Option.bind (α := Int32) (xI v25.1 [(133, 0)] v25.2) (fun x8 => (if isK v25.1 [100] v0 = true then Option.bind (α := CS) (c_1106 v0 v1 x8 v25.1) (fun x9 => Option.bind (α := Int32) (xI x9 [(94, 10)] v1) (fun x10 => Option.bind (α := Int32) ((if x10 = 0 then Option.bind (α := Int32) (xI x9 [(94, 7)] v1) (fun x11 => some x11) else Option.bind (α := Int32) (xI x9 [(94, 11)] v1) (fun x12 => some x12))) (fun v40 => Option.bind (α := CS) (xP x9 [(94, 7)] v1 (.int v40)) (fun s13 => some (.inr s13))))) else none))) (fun z => some z))) (Sum.elim (fun v14 => Option.bind (α := Int32) (xI v14 [(94, 10)] v1) (fun x14 => Option.bind (α := Int32) ((if x14 = 0 then Option.bind (α := Int32) (xI v14 [(94, 7)] v1) (fun x15 => some x15) else Option.bind (α := Int32) (xI v14 [(94, 11)] v1) (fun x16 => some x16))) (fun v23 => Option.bind (α := CS) (xP v14 [(94, 7)] v1 (.int v23)) (fun s17 => some s17)))) (fun z => some z))
section
variable {s : CS} {t : TS} {n k : Nat} {B : Nat → Nat → Nat}
theorem kNo {K j : Nat} (hb : Bx s t n B k) (hK : K < 26) (h : [j].contains (kci K % 1000) = false) : ¬ isK s [j] (kid K) = true := by
  rw [isK_o (hb.2.1.1 K hK), h]; simp
theorem kYes {K j : Nat} (hb : Bx s t n B k) (hK : K < 26) (h : [j].contains (kci K % 1000) = true) : isK s [j] (kid K) = true := isK_t (hb.2.1.1 K hK) h
theorem c_kd {K : Nat} (hb : Bx s t n B k) (hK : K < 26) (h : t.2.2.1 125 k = Int32.ofNat K) : xN s [(94, 1)] (B k 0) = some (kid K) := by
  have r1 := (hb.2.2.1 k hb.2.2.2.1).1
  refine xN_o r1 rfl ?_
  simp [bC, h, bN, i_clamp (show K < 2147483648 by omega)]
theorem cr_0 (hb : Bx s t n B k) (h : t.2.2.1 125 k = Int32.ofNat 0) : c_1104 115 (B k 0) 0 s = cT 115 (B k 0) (tel s B t k (evl t k 0)) := by
  unfold c_1104 cT
  rw [if_pos rfl, c_kd hb (by omega) h, Option.bind_some, if_neg (kNo hb (by omega) (by decide)), if_pos (kYes hb (by omega) (by decide)), rk_0 hb]
theorem cr_1 (hb : Bx s t n B k) (h : t.2.2.1 125 k = Int32.ofNat 1) : c_1104 115 (B k 0) 0 s = cT 115 (B k 0) (tel s B t k (evl t k 1)) := by
  unfold c_1104 cT
  rw [if_pos rfl, c_kd hb (by omega) h, Option.bind_some, if_neg (kNo hb (by omega) (by decide)), if_neg (kNo hb (by omega) (by decide)), if_neg (kNo hb (by omega) (by decide)), if_neg (kNo hb (by omega) (by decide)), if_neg (kNo hb (by omega) (by decide)), if_neg (kNo hb (by omega) (by decide)), if_neg (kNo hb (by omega) (by decide)), if_neg (kNo hb (by omega) (by decide)), if_neg (kNo hb (by omega) (by decide)), if_neg (kNo hb (by omega) (by decide)), if_neg (kNo hb (by omega) (by decide)), if_neg (kNo hb (by omega) (by decide)), if_pos (kYes hb (by omega) (by decide)), rk_1 hb]
theorem cr_2 (hb : Bx s t n B k) (h : t.2.2.1 125 k = Int32.ofNat 2) : c_1104 115 (B k 0) 0 s = cT 115 (B k 0) (tel s B t k (evl t k 2)) := by
  unfold c_1104 cT
  rw [if_pos rfl, c_kd hb (by omega) h, Option.bind_some, if_neg (kNo hb (by omega) (by decide)), if_neg (kNo hb (by omega) (by decide)), if_neg (kNo hb (by omega) (by decide)), if_neg (kNo hb (by omega) (by decide)), if_neg (kNo hb (by omega) (by decide)), if_neg (kNo hb (by omega) (by decide)), if_neg (kNo hb (by omega) (by decide)), if_neg (kNo hb (by omega) (by decide)), if_neg (kNo hb (by omega) (by decide)), if_neg (kNo hb (by omega) (by decide)), if_neg (kNo hb (by omega) (by decide)), if_neg (kNo hb (by omega) (by decide)), if_neg (kNo hb (by omega) (by decide)), if_neg (kNo hb (by omega) (by decide)), if_neg (kNo hb (by omega) (by decide)), if_neg (kNo hb (by omega) (by decide)), if_neg (kNo hb (by omega) (by decide)), if_neg (kNo hb (by omega) (by decide)), if_neg (kNo hb (by omega) (by decide)), if_pos (kYes hb (by omega) (by decide)), rk_2 hb]
theorem cr_3 (hb : Bx s t n B k) (h : t.2.2.1 125 k = Int32.ofNat 3) : c_1104 115 (B k 0) 0 s = cT 115 (B k 0) (tel s B t k (evl t k 3)) := by
  unfold c_1104 cT
  rw [if_pos rfl, c_kd hb (by omega) h, Option.bind_some, if_neg (kNo hb (by omega) (by decide)), if_neg (kNo hb (by omega) (by decide)), if_neg (kNo hb (by omega) (by decide)), if_neg (kNo hb (by omega) (by decide)), if_neg (kNo hb (by omega) (by decide)), if_neg (kNo hb (by omega) (by decide)), if_neg (kNo hb (by omega) (by decide)), if_neg (kNo hb (by omega) (by decide)), if_neg (kNo hb (by omega) (by decide)), if_neg (kNo hb (by omega) (by decide)), if_neg (kNo hb (by omega) (by decide)), if_neg (kNo hb (by omega) (by decide)), if_neg (kNo hb (by omega) (by decide)), if_neg (kNo hb (by omega) (by decide)), if_neg (kNo hb (by omega) (by decide)), if_neg (kNo hb (by omega) (by decide)), if_neg (kNo hb (by omega) (by decide)), if_neg (kNo hb (by omega) (by decide)), if_neg (kNo hb (by omega) (by decide)), if_neg (kNo hb (by omega) (by decide)), if_pos (kYes hb (by omega) (by decide)), rk_3 hb]
theorem cr_4 (hb : Bx s t n B k) (h : t.2.2.1 125 k = Int32.ofNat 4) : c_1104 115 (B k 0) 0 s = cT 115 (B k 0) (tel s B t k (evl t k 4)) := by
  unfold c_1104 cT
  rw [if_pos rfl, c_kd hb (by omega) h, Option.bind_some, if_neg (kNo hb (by omega) (by decide)), if_neg (kNo hb (by omega) (by decide)), if_neg (kNo hb (by omega) (by decide)), if_neg (kNo hb (by omega) (by decide)), if_neg (kNo hb (by omega) (by decide)), if_neg (kNo hb (by omega) (by decide)), if_neg (kNo hb (by omega) (by decide)), if_neg (kNo hb (by omega) (by decide)), if_neg (kNo hb (by omega) (by decide)), if_neg (kNo hb (by omega) (by decide)), if_neg (kNo hb (by omega) (by decide)), if_neg (kNo hb (by omega) (by decide)), if_neg (kNo hb (by omega) (by decide)), if_neg (kNo hb (by omega) (by decide)), if_neg (kNo hb (by omega) (by decide)), if_neg (kNo hb (by omega) (by decide)), if_neg (kNo hb (by omega) (by decide)), if_neg (kNo hb (by omega) (by decide)), if_neg (kNo hb (by omega) (by decide)), if_neg (kNo hb (by omega) (by decide)), if_neg (kNo hb (by omega) (by decide)), if_pos (kYes hb (by omega) (by decide)), rk_4 hb]
theorem cr_5 (hb : Bx s t n B k) (h : t.2.2.1 125 k = Int32.ofNat 5) : c_1104 115 (B k 0) 0 s = cT 115 (B k 0) (tel s B t k (evl t k 5)) := by
  unfold c_1104 cT
  rw [if_pos rfl, c_kd hb (by omega) h, Option.bind_some, if_neg (kNo hb (by omega) (by decide)), if_neg (kNo hb (by omega) (by decide)), if_neg (kNo hb (by omega) (by decide)), if_neg (kNo hb (by omega) (by decide)), if_neg (kNo hb (by omega) (by decide)), if_neg (kNo hb (by omega) (by decide)), if_neg (kNo hb (by omega) (by decide)), if_neg (kNo hb (by omega) (by decide)), if_neg (kNo hb (by omega) (by decide)), if_neg (kNo hb (by omega) (by decide)), if_neg (kNo hb (by omega) (by decide)), if_neg (kNo hb (by omega) (by decide)), if_neg (kNo hb (by omega) (by decide)), if_neg (kNo hb (by omega) (by decide)), if_neg (kNo hb (by omega) (by decide)), if_neg (kNo hb (by omega) (by decide)), if_neg (kNo hb (by omega) (by decide)), if_neg (kNo hb (by omega) (by decide)), if_neg (kNo hb (by omega) (by decide)), if_neg (kNo hb (by omega) (by decide)), if_neg (kNo hb (by omega) (by decide)), if_neg (kNo hb (by omega) (by decide)), if_pos (kYes hb (by omega) (by decide)), rk_5 hb]
theorem cr_6 (hb : Bx s t n B k) (h : t.2.2.1 125 k = Int32.ofNat 6) : c_1104 115 (B k 0) 0 s = cT 115 (B k 0) (tel s B t k (evl t k 6)) := by
  unfold c_1104 cT
  rw [if_pos rfl, c_kd hb (by omega) h, Option.bind_some, if_neg (kNo hb (by omega) (by decide)), if_neg (kNo hb (by omega) (by decide)), if_neg (kNo hb (by omega) (by decide)), if_neg (kNo hb (by omega) (by decide)), if_neg (kNo hb (by omega) (by decide)), if_neg (kNo hb (by omega) (by decide)), if_neg (kNo hb (by omega) (by decide)), if_neg (kNo hb (by omega) (by decide)), if_neg (kNo hb (by omega) (by decide)), if_neg (kNo hb (by omega) (by decide)), if_neg (kNo hb (by omega) (by decide)), if_neg (kNo hb (by omega) (by decide)), if_neg (kNo hb (by omega) (by decide)), if_neg (kNo hb (by omega) (by decide)), if_neg (kNo hb (by omega) (by decide)), if_neg (kNo hb (by omega) (by decide)), if_neg (kNo hb (by omega) (by decide)), if_neg (kNo hb (by omega) (by decide)), if_neg (kNo hb (by omega) (by decide)), if_neg (kNo hb (by omega) (by decide)), if_neg (kNo hb (by omega) (by decide)), if_neg (kNo hb (by omega) (by decide)), if_neg (kNo hb (by omega) (by decide)), if_pos (kYes hb (by omega) (by decide)), rk_6 hb]
theorem cr_7 (hb : Bx s t n B k) (h : t.2.2.1 125 k = Int32.ofNat 7) : c_1104 115 (B k 0) 0 s = cT 115 (B k 0) (tel s B t k (evl t k 7)) := by
  unfold c_1104 cT
  rw [if_pos rfl, c_kd hb (by omega) h, Option.bind_some, if_neg (kNo hb (by omega) (by decide)), if_neg (kNo hb (by omega) (by decide)), if_neg (kNo hb (by omega) (by decide)), if_neg (kNo hb (by omega) (by decide)), if_neg (kNo hb (by omega) (by decide)), if_neg (kNo hb (by omega) (by decide)), if_neg (kNo hb (by omega) (by decide)), if_neg (kNo hb (by omega) (by decide)), if_neg (kNo hb (by omega) (by decide)), if_neg (kNo hb (by omega) (by decide)), if_neg (kNo hb (by omega) (by decide)), if_neg (kNo hb (by omega) (by decide)), if_neg (kNo hb (by omega) (by decide)), if_neg (kNo hb (by omega) (by decide)), if_neg (kNo hb (by omega) (by decide)), if_neg (kNo hb (by omega) (by decide)), if_neg (kNo hb (by omega) (by decide)), if_neg (kNo hb (by omega) (by decide)), if_neg (kNo hb (by omega) (by decide)), if_neg (kNo hb (by omega) (by decide)), if_neg (kNo hb (by omega) (by decide)), if_neg (kNo hb (by omega) (by decide)), if_neg (kNo hb (by omega) (by decide)), if_neg (kNo hb (by omega) (by decide)), if_pos (kYes hb (by omega) (by decide)), rk_7 hb]
theorem cr_8 (hb : Bx s t n B k) (h : t.2.2.1 125 k = Int32.ofNat 8) : c_1104 115 (B k 0) 0 s = cT 115 (B k 0) (tel s B t k (evl t k 8)) := by
  unfold c_1104 cT
  rw [if_pos rfl, c_kd hb (by omega) h, Option.bind_some, if_neg (kNo hb (by omega) (by decide)), if_neg (kNo hb (by omega) (by decide)), if_neg (kNo hb (by omega) (by decide)), if_neg (kNo hb (by omega) (by decide)), if_neg (kNo hb (by omega) (by decide)), if_neg (kNo hb (by omega) (by decide)), if_neg (kNo hb (by omega) (by decide)), if_neg (kNo hb (by omega) (by decide)), if_neg (kNo hb (by omega) (by decide)), if_neg (kNo hb (by omega) (by decide)), if_neg (kNo hb (by omega) (by decide)), if_neg (kNo hb (by omega) (by decide)), if_neg (kNo hb (by omega) (by decide)), if_neg (kNo hb (by omega) (by decide)), if_neg (kNo hb (by omega) (by decide)), if_neg (kNo hb (by omega) (by decide)), if_neg (kNo hb (by omega) (by decide)), if_neg (kNo hb (by omega) (by decide)), if_neg (kNo hb (by omega) (by decide)), if_neg (kNo hb (by omega) (by decide)), if_neg (kNo hb (by omega) (by decide)), if_neg (kNo hb (by omega) (by decide)), if_neg (kNo hb (by omega) (by decide)), if_neg (kNo hb (by omega) (by decide)), if_neg (kNo hb (by omega) (by decide)), if_pos (kYes hb (by omega) (by decide)), rk_8 hb]
theorem cr_9 (hb : Bx s t n B k) (h : t.2.2.1 125 k = Int32.ofNat 9) : c_1104 115 (B k 0) 0 s = cT 115 (B k 0) (tel s B t k (evl t k 9)) := by
  unfold c_1104 cT
  rw [if_pos rfl, c_kd hb (by omega) h, Option.bind_some, if_neg (kNo hb (by omega) (by decide)), if_neg (kNo hb (by omega) (by decide)), if_pos (kYes hb (by omega) (by decide)), rk_9 hb]
theorem cr_10 (hb : Bx s t n B k) (h : t.2.2.1 125 k = Int32.ofNat 10) : c_1104 115 (B k 0) 0 s = cT 115 (B k 0) (tel s B t k (evl t k 10)) := by
  unfold c_1104 cT
  rw [if_pos rfl, c_kd hb (by omega) h, Option.bind_some, if_neg (kNo hb (by omega) (by decide)), if_neg (kNo hb (by omega) (by decide)), if_neg (kNo hb (by omega) (by decide)), if_pos (kYes hb (by omega) (by decide)), rk_10 hb]
theorem cr_11 (hb : Bx s t n B k) (h : t.2.2.1 125 k = Int32.ofNat 11) : c_1104 115 (B k 0) 0 s = cT 115 (B k 0) (tel s B t k (evl t k 11)) := by
  unfold c_1104 cT
  rw [if_pos rfl, c_kd hb (by omega) h, Option.bind_some, if_neg (kNo hb (by omega) (by decide)), if_neg (kNo hb (by omega) (by decide)), if_neg (kNo hb (by omega) (by decide)), if_neg (kNo hb (by omega) (by decide)), if_pos (kYes hb (by omega) (by decide)), rk_11 hb]
theorem cr_12 (hb : Bx s t n B k) (h : t.2.2.1 125 k = Int32.ofNat 12) : c_1104 115 (B k 0) 0 s = cT 115 (B k 0) (tel s B t k (evl t k 12)) := by
  unfold c_1104 cT
  rw [if_pos rfl, c_kd hb (by omega) h, Option.bind_some, if_neg (kNo hb (by omega) (by decide)), if_neg (kNo hb (by omega) (by decide)), if_neg (kNo hb (by omega) (by decide)), if_neg (kNo hb (by omega) (by decide)), if_neg (kNo hb (by omega) (by decide)), if_pos (kYes hb (by omega) (by decide)), rk_12 hb]
theorem cr_13 (hb : Bx s t n B k) (h : t.2.2.1 125 k = Int32.ofNat 13) : c_1104 115 (B k 0) 0 s = cT 115 (B k 0) (tel s B t k (evl t k 13)) := by
  unfold c_1104 cT
  rw [if_pos rfl, c_kd hb (by omega) h, Option.bind_some, if_neg (kNo hb (by omega) (by decide)), if_neg (kNo hb (by omega) (by decide)), if_neg (kNo hb (by omega) (by decide)), if_neg (kNo hb (by omega) (by decide)), if_neg (kNo hb (by omega) (by decide)), if_neg (kNo hb (by omega) (by decide)), if_pos (kYes hb (by omega) (by decide)), rk_13 hb]
theorem cr_14 (hb : Bx s t n B k) (h : t.2.2.1 125 k = Int32.ofNat 14) : c_1104 115 (B k 0) 0 s = cT 115 (B k 0) (tel s B t k (evl t k 14)) := by
  unfold c_1104 cT
  rw [if_pos rfl, c_kd hb (by omega) h, Option.bind_some, if_neg (kNo hb (by omega) (by decide)), if_neg (kNo hb (by omega) (by decide)), if_neg (kNo hb (by omega) (by decide)), if_neg (kNo hb (by omega) (by decide)), if_neg (kNo hb (by omega) (by decide)), if_neg (kNo hb (by omega) (by decide)), if_neg (kNo hb (by omega) (by decide)), if_pos (kYes hb (by omega) (by decide)), rk_14 hb]
theorem cr_15 (hb : Bx s t n B k) (h : t.2.2.1 125 k = Int32.ofNat 15) : c_1104 115 (B k 0) 0 s = cT 115 (B k 0) (tel s B t k (evl t k 15)) := by
  unfold c_1104 cT
  rw [if_pos rfl, c_kd hb (by omega) h, Option.bind_some, if_neg (kNo hb (by omega) (by decide)), if_neg (kNo hb (by omega) (by decide)), if_neg (kNo hb (by omega) (by decide)), if_neg (kNo hb (by omega) (by decide)), if_neg (kNo hb (by omega) (by decide)), if_neg (kNo hb (by omega) (by decide)), if_neg (kNo hb (by omega) (by decide)), if_neg (kNo hb (by omega) (by decide)), if_pos (kYes hb (by omega) (by decide)), rk_15 hb]
theorem cr_16 (hb : Bx s t n B k) (h : t.2.2.1 125 k = Int32.ofNat 16) : c_1104 115 (B k 0) 0 s = cT 115 (B k 0) (tel s B t k (evl t k 16)) := by
  unfold c_1104 cT
  rw [if_pos rfl, c_kd hb (by omega) h, Option.bind_some, if_neg (kNo hb (by omega) (by decide)), if_neg (kNo hb (by omega) (by decide)), if_neg (kNo hb (by omega) (by decide)), if_neg (kNo hb (by omega) (by decide)), if_neg (kNo hb (by omega) (by decide)), if_neg (kNo hb (by omega) (by decide)), if_neg (kNo hb (by omega) (by decide)), if_neg (kNo hb (by omega) (by decide)), if_neg (kNo hb (by omega) (by decide)), if_pos (kYes hb (by omega) (by decide)), rk_16 hb]
theorem cr_17 (hb : Bx s t n B k) (h : t.2.2.1 125 k = Int32.ofNat 17) : c_1104 115 (B k 0) 0 s = cT 115 (B k 0) (tel s B t k (evl t k 17)) := by
  unfold c_1104 cT
  rw [if_pos rfl, c_kd hb (by omega) h, Option.bind_some, if_neg (kNo hb (by omega) (by decide)), if_neg (kNo hb (by omega) (by decide)), if_neg (kNo hb (by omega) (by decide)), if_neg (kNo hb (by omega) (by decide)), if_neg (kNo hb (by omega) (by decide)), if_neg (kNo hb (by omega) (by decide)), if_neg (kNo hb (by omega) (by decide)), if_neg (kNo hb (by omega) (by decide)), if_neg (kNo hb (by omega) (by decide)), if_neg (kNo hb (by omega) (by decide)), if_pos (kYes hb (by omega) (by decide)), rk_17 hb]
theorem cr_18 (hb : Bx s t n B k) (h : t.2.2.1 125 k = Int32.ofNat 18) : c_1104 115 (B k 0) 0 s = cT 115 (B k 0) (tel s B t k (evl t k 18)) := by
  unfold c_1104 cT
  rw [if_pos rfl, c_kd hb (by omega) h, Option.bind_some, if_neg (kNo hb (by omega) (by decide)), if_neg (kNo hb (by omega) (by decide)), if_neg (kNo hb (by omega) (by decide)), if_neg (kNo hb (by omega) (by decide)), if_neg (kNo hb (by omega) (by decide)), if_neg (kNo hb (by omega) (by decide)), if_neg (kNo hb (by omega) (by decide)), if_neg (kNo hb (by omega) (by decide)), if_neg (kNo hb (by omega) (by decide)), if_neg (kNo hb (by omega) (by decide)), if_neg (kNo hb (by omega) (by decide)), if_pos (kYes hb (by omega) (by decide)), rk_18 hb]
theorem cr_19 (hb : Bx s t n B k) (h : t.2.2.1 125 k = Int32.ofNat 19) : c_1104 115 (B k 0) 0 s = cT 115 (B k 0) (tel s B t k (evl t k 19)) := by
  unfold c_1104 cT
  rw [if_pos rfl, c_kd hb (by omega) h, Option.bind_some, if_neg (kNo hb (by omega) (by decide)), if_neg (kNo hb (by omega) (by decide)), if_neg (kNo hb (by omega) (by decide)), if_neg (kNo hb (by omega) (by decide)), if_neg (kNo hb (by omega) (by decide)), if_neg (kNo hb (by omega) (by decide)), if_neg (kNo hb (by omega) (by decide)), if_neg (kNo hb (by omega) (by decide)), if_neg (kNo hb (by omega) (by decide)), if_neg (kNo hb (by omega) (by decide)), if_neg (kNo hb (by omega) (by decide)), if_neg (kNo hb (by omega) (by decide)), if_neg (kNo hb (by omega) (by decide)), if_pos (kYes hb (by omega) (by decide)), rk_19 hb]
theorem cr_20 (hb : Bx s t n B k) (h : t.2.2.1 125 k = Int32.ofNat 20) : c_1104 115 (B k 0) 0 s = cT 115 (B k 0) (tel s B t k (evl t k 20)) := by
  unfold c_1104 cT
  rw [if_pos rfl, c_kd hb (by omega) h, Option.bind_some, if_pos (kYes hb (by omega) (by decide)), rk_20 hb]
theorem cr_21 (hb : Bx s t n B k) (h : t.2.2.1 125 k = Int32.ofNat 21) : c_1104 115 (B k 0) 0 s = cT 115 (B k 0) (tel s B t k (evl t k 21)) := by
  unfold c_1104 cT
  rw [if_pos rfl, c_kd hb (by omega) h, Option.bind_some, if_neg (kNo hb (by omega) (by decide)), if_neg (kNo hb (by omega) (by decide)), if_neg (kNo hb (by omega) (by decide)), if_neg (kNo hb (by omega) (by decide)), if_neg (kNo hb (by omega) (by decide)), if_neg (kNo hb (by omega) (by decide)), if_neg (kNo hb (by omega) (by decide)), if_neg (kNo hb (by omega) (by decide)), if_neg (kNo hb (by omega) (by decide)), if_neg (kNo hb (by omega) (by decide)), if_neg (kNo hb (by omega) (by decide)), if_neg (kNo hb (by omega) (by decide)), if_neg (kNo hb (by omega) (by decide)), if_neg (kNo hb (by omega) (by decide)), if_pos (kYes hb (by omega) (by decide)), rk_21 hb]
theorem cr_22 (hb : Bx s t n B k) (h : t.2.2.1 125 k = Int32.ofNat 22) : c_1104 115 (B k 0) 0 s = cT 115 (B k 0) (tel s B t k (evl t k 22)) := by
  unfold c_1104 cT
  rw [if_pos rfl, c_kd hb (by omega) h, Option.bind_some, if_neg (kNo hb (by omega) (by decide)), if_neg (kNo hb (by omega) (by decide)), if_neg (kNo hb (by omega) (by decide)), if_neg (kNo hb (by omega) (by decide)), if_neg (kNo hb (by omega) (by decide)), if_neg (kNo hb (by omega) (by decide)), if_neg (kNo hb (by omega) (by decide)), if_neg (kNo hb (by omega) (by decide)), if_neg (kNo hb (by omega) (by decide)), if_neg (kNo hb (by omega) (by decide)), if_neg (kNo hb (by omega) (by decide)), if_neg (kNo hb (by omega) (by decide)), if_neg (kNo hb (by omega) (by decide)), if_neg (kNo hb (by omega) (by decide)), if_neg (kNo hb (by omega) (by decide)), if_pos (kYes hb (by omega) (by decide)), rk_22 hb]
theorem cr_23 (hb : Bx s t n B k) (h : t.2.2.1 125 k = Int32.ofNat 23) : c_1104 115 (B k 0) 0 s = cT 115 (B k 0) (tel s B t k (evl t k 23)) := by
  unfold c_1104 cT
  rw [if_pos rfl, c_kd hb (by omega) h, Option.bind_some, if_neg (kNo hb (by omega) (by decide)), if_neg (kNo hb (by omega) (by decide)), if_neg (kNo hb (by omega) (by decide)), if_neg (kNo hb (by omega) (by decide)), if_neg (kNo hb (by omega) (by decide)), if_neg (kNo hb (by omega) (by decide)), if_neg (kNo hb (by omega) (by decide)), if_neg (kNo hb (by omega) (by decide)), if_neg (kNo hb (by omega) (by decide)), if_neg (kNo hb (by omega) (by decide)), if_neg (kNo hb (by omega) (by decide)), if_neg (kNo hb (by omega) (by decide)), if_neg (kNo hb (by omega) (by decide)), if_neg (kNo hb (by omega) (by decide)), if_neg (kNo hb (by omega) (by decide)), if_neg (kNo hb (by omega) (by decide)), if_pos (kYes hb (by omega) (by decide)), rk_23 hb]
theorem cr_24 (hb : Bx s t n B k) (h : t.2.2.1 125 k = Int32.ofNat 24) : c_1104 115 (B k 0) 0 s = cT 115 (B k 0) (tel s B t k (evl t k 24)) := by
  unfold c_1104 cT
  rw [if_pos rfl, c_kd hb (by omega) h, Option.bind_some, if_neg (kNo hb (by omega) (by decide)), if_neg (kNo hb (by omega) (by decide)), if_neg (kNo hb (by omega) (by decide)), if_neg (kNo hb (by omega) (by decide)), if_neg (kNo hb (by omega) (by decide)), if_neg (kNo hb (by omega) (by decide)), if_neg (kNo hb (by omega) (by decide)), if_neg (kNo hb (by omega) (by decide)), if_neg (kNo hb (by omega) (by decide)), if_neg (kNo hb (by omega) (by decide)), if_neg (kNo hb (by omega) (by decide)), if_neg (kNo hb (by omega) (by decide)), if_neg (kNo hb (by omega) (by decide)), if_neg (kNo hb (by omega) (by decide)), if_neg (kNo hb (by omega) (by decide)), if_neg (kNo hb (by omega) (by decide)), if_neg (kNo hb (by omega) (by decide)), if_pos (kYes hb (by omega) (by decide)), rk_24 hb]
theorem cr_25 (hb : Bx s t n B k) (h : t.2.2.1 125 k = Int32.ofNat 25) : c_1104 115 (B k 0) 0 s = cT 115 (B k 0) (tel s B t k (evl t k 25)) := by
  unfold c_1104 cT
  rw [if_pos rfl, c_kd hb (by omega) h, Option.bind_some, if_neg (kNo hb (by omega) (by decide)), if_neg (kNo hb (by omega) (by decide)), if_neg (kNo hb (by omega) (by decide)), if_neg (kNo hb (by omega) (by decide)), if_neg (kNo hb (by omega) (by decide)), if_neg (kNo hb (by omega) (by decide)), if_neg (kNo hb (by omega) (by decide)), if_neg (kNo hb (by omega) (by decide)), if_neg (kNo hb (by omega) (by decide)), if_neg (kNo hb (by omega) (by decide)), if_neg (kNo hb (by omega) (by decide)), if_neg (kNo hb (by omega) (by decide)), if_neg (kNo hb (by omega) (by decide)), if_neg (kNo hb (by omega) (by decide)), if_neg (kNo hb (by omega) (by decide)), if_neg (kNo hb (by omega) (by decide)), if_neg (kNo hb (by omega) (by decide)), if_neg (kNo hb (by omega) (by decide)), if_pos (kYes hb (by omega) (by decide)), rk_25 hb]
theorem c_rec (K : Nat) (hK : K < 26) (hb : Bx s t n B k) (h : t.2.2.1 125 k = Int32.ofNat K) : c_1104 115 (B k 0) 0 s = cT 115 (B k 0) (tel s B t k (evl t k K)) := by
  match K, hK, h with
  | 0, _, h => exact cr_0 hb h
  | 1, _, h => exact cr_1 hb h
  | 2, _, h => exact cr_2 hb h
  | 3, _, h => exact cr_3 hb h
  | 4, _, h => exact cr_4 hb h
  | 5, _, h => exact cr_5 hb h
  | 6, _, h => exact cr_6 hb h
  | 7, _, h => exact cr_7 hb h
  | 8, _, h => exact cr_8 hb h
  | 9, _, h => exact cr_9 hb h
  | 10, _, h => exact cr_10 hb h
  | 11, _, h => exact cr_11 hb h
  | 12, _, h => exact cr_12 hb h
  | 13, _, h => exact cr_13 hb h
  | 14, _, h => exact cr_14 hb h
  | 15, _, h => exact cr_15 hb h
  | 16, _, h => exact cr_16 hb h
  | 17, _, h => exact cr_17 hb h
  | 18, _, h => exact cr_18 hb h
  | 19, _, h => exact cr_19 hb h
  | 20, _, h => exact cr_20 hb h
  | 21, _, h => exact cr_21 hb h
  | 22, _, h => exact cr_22 hb h
  | 23, _, h => exact cr_23 hb h
  | 24, _, h => exact cr_24 hb h
  | 25, _, h => exact cr_25 hb h
  | K + 26, hK, _ => omega
theorem bC_out {o f g : Int32} {v : Int32} : (bC (fg t k f g) B k).2.2.2.set 7 (.int v) = (bC (wrI (fg t k f g) 131 k v) B k).2.2.2 := by
  simp [bC, wr_at]
/-- a block's own hand -/
theorem c_hand {S : CS} {U : TS} (h : S.1 (B k 0) = some (bC U B k)) : Option.bind (α := Int32) (xI S [(94, 10)] (B k 0)) (fun x14 => Option.bind (α := Int32) ((if x14 = 0 then Option.bind (α := Int32) (xI S [(94, 7)] (B k 0)) (fun x15 => some x15) else Option.bind (α := Int32) (xI S [(94, 11)] (B k 0)) (fun x16 => some x16))) (fun v23 => Option.bind (α := CS) (xP S [(94, 7)] (B k 0) (.int v23)) (fun s17 => some s17))) = some (cup S (B k 0) (bC (wrI U 131 k (if U.2.2.1 134 k = 0 then U.2.2.1 131 k else U.2.2.1 135 k)) B k)) := by
  rw [xI_o h rfl rfl, Option.bind_some, xI_o h rfl rfl, xI_o h rfl rfl]
  simp only [Option.bind_some, iteS]
  rw [xP_o h rfl (by simp [bC]), Option.bind_some]
  simp [bC, wr_at]
theorem c_okT {o f g : Int32} (hb : Bx s t n B k) : cT 115 (B k 0) (tel s B t k (.inl (o, f, g))) = some (cup s (B k 0) (bC (app t k (.inl (o, f, g))) B k)) := by
  unfold cT tel
  simp only [Option.bind_some, Sum.elim_inl]
  rw [xP_o (ci := 94) (fs := (bC (fg t k f g) B k).2.2.2) (show (cup s (B k 0) (bC (fg t k f g) B k)).1 (B k 0) = some (true, false, 94, (bC (fg t k f g) B k).2.2.2) from cup_eq ..) rfl (by simp [bC]), Option.bind_some, cupU]
  simp only [Option.bind_some, Sum.elim_inl, Sum.elim_inr]
  have h : (cup s (B k 0) (true, false, 94, (bC (fg t k f g) B k).2.2.2.set 7 (.int o))).1 (B k 0) = some (bC (wrI (fg t k f g) 131 k o) B k) := by
    rw [cup_eq]; simp [bC, wr_at]
  have := c_hand h
  refine Eq.trans this ?_
  rw [cupU]
  congr 2
  rw [wr_wr]
  have e4 : (fg t k f g).2.2.1 134 k = t.2.2.1 134 k := by unfold fg; rw [wr_ne (by omega), wr_ne (by omega)]
  have e5 : (fg t k f g).2.2.1 135 k = t.2.2.1 135 k := by unfold fg; rw [wr_ne (by omega), wr_ne (by omega)]
  have f4 : (wrI (fg t k f g) 131 k o).2.2.1 134 k = t.2.2.1 134 k := by rw [wr_ne (by omega), e4]
  have f5 : (wrI (fg t k f g) 131 k o).2.2.1 135 k = t.2.2.1 135 k := by rw [wr_ne (by omega), e5]
  have f1 : (wrI (fg t k f g) 131 k o).2.2.1 131 k = o := by rw [wr_at, if_pos ⟨rfl, rfl⟩]
  rw [f4, f5, f1]
  rfl
def f119 (t : TS) : lCell := (true, true, 0, rowC (fun q => .int (t.2.2.1 140 q)) 4)
theorem c_noT {w : Nat} (hb : Bx s t n B k) (hw : 0 < w ∧ w < 4) (h9 : s.1 119 = some (f119 t)) (hne : B k 0 ≠ 119) : cT 115 (B k 0) (tel s B t k (.inr (Int32.ofNat w))) = some (cup (cup s 119 (f119 (app t k (.inr (Int32.ofNat w))))) (B k 0) (bC (app t k (.inr (Int32.ofNat w))) B k)) := by
  obtain ⟨oo, od, h5⟩ := hb.2.2.2.2.1
  have r1 := (hb.2.2.1 k hb.2.2.2.1).1
  have hbw : bN (Int32.ofNat w) = w := i_clamp (by omega)
  have hf : s.1 (fwo (Int32.ofNat w)) = some (false, false, 133, [.int (Int32.ofNat w)]) := by
    have : w = 1 ∨ w = 2 ∨ w = 3 := by omega
    rcases this with rfl | rfl | rfl
    · exact hb.2.1.2.2.2
    · exact hb.2.1.2.2.1
    · exact hb.2.1.2.1
  unfold cT tel
  simp only [Option.bind_some, Sum.elim_inr]
  rw [if_pos (isK_t hf rfl)]
  simp only [Option.bind_some, Sum.elim_inl]
  rw [xI_o hf rfl rfl, Option.bind_some, if_pos (isK_t h5 rfl)]
  have ef : c_1106 115 (B k 0) (Int32.ofNat w) s = some (cup (cup s 119 (f119 (app t k (.inr (Int32.ofNat w))))) (B k 0) (bC (wrI t 131 k (t.2.2.1 128 k)) B k)) := by
    unfold c_1106
    rw [xR_o h5 rfl rfl, Option.bind_some, Option.bind_some, show (0 : Int32) = Int32.ofNat 0 from rfl, aI_r h9 (by omega) rfl (show 0 < 4 by omega) (by omega) rfl, Option.bind_some, aPut_r h9 (show 0 < 4 by omega) (by omega), Option.bind_some]
    generalize hS : cup s 119 _ = S1
    have g5 : S1.1 115 = some (true, false, 100, [.ref 116, .ref 117, oo, .int od, .ref 118, .ref 119, .int (t.1 414), .int (t.1 1)]) := by rw [← hS, cup_ne (by omega)]; exact h5
    have g9 : S1.1 119 = some (true, true, 0, rowC (fun j => if j = 0 then .int (t.2.2.1 140 0 + 1) else .int (t.2.2.1 140 j)) 4) := by rw [← hS, cup_eq]
    rw [xR_o g5 rfl rfl, Option.bind_some, Option.bind_some, aI_r (x := t.2.2.1 140 w) g9 (by omega) rfl (show w < 4 by omega) (by omega) (by rw [if_neg (by omega)]), Option.bind_some, aPut_r g9 (show w < 4 by omega) (by omega), Option.bind_some]
    rw [← hS, cupU]
    have g1 : (cup s 119 (true, true, 0, rowC (fun j => if j = w then Value.int (t.2.2.1 140 w + 1) else if j = 0 then .int (t.2.2.1 140 0 + 1) else .int (t.2.2.1 140 j)) 4)).1 (B k 0) = some (bC t B k) := by rw [cup_ne hne]; exact r1
    rw [xI_o g1 rfl rfl, Option.bind_some, xP_o g1 rfl (by simp [bC]), Option.bind_some]
    have e1 : f119 (app t k (.inr (Int32.ofNat w))) = (true, true, 0, rowC (fun j => if j = w then Value.int (t.2.2.1 140 w + 1) else if j = 0 then .int (t.2.2.1 140 0 + 1) else .int (t.2.2.1 140 j)) 4) := by
      simp only [f119, app, hbw]
      congr 3
      refine rowC_congr (fun j _ => ?_)
      rw [wr_ne (by omega), wr_at, wr_at]
      by_cases e : j = w
      · rw [if_pos e, if_pos ⟨rfl, e⟩]
      · rw [if_neg e, if_neg (fun z => e z.2)]
        by_cases e0 : j = 0
        · rw [if_pos e0, if_pos ⟨rfl, e0⟩]
        · rw [if_neg e0, if_neg (fun z => e0 z.2)]
    rw [e1]
    congr 2
    simp [bC, wr_at]
  rw [ef, Option.bind_some]
  have h := c_hand (S := cup (cup s 119 (f119 (app t k (.inr (Int32.ofNat w))))) (B k 0) (bC (wrI t 131 k (t.2.2.1 128 k)) B k)) (U := wrI t 131 k (t.2.2.1 128 k)) (cup_eq ..)
  obtain ⟨x, hx1, hx2⟩ := bindC h
  obtain ⟨y, hy1, hy2⟩ := bindC hx2
  obtain ⟨z, hz1, hz2⟩ := bindC hy2
  rw [hx1, Option.bind_some, hy1, Option.bind_some, hz1, Option.bind_some]
  simp only [Option.bind_some, Sum.elim_inr]
  rw [hz2, cupU]
  refine congrArg (fun z => some (cup (cup s 119 (f119 (app t k (.inr (Int32.ofNat w))))) (B k 0) z)) ?_
  unfold app
  simp [bC, wr_at]
end
