/-! the bus: a station anew -/
theorem mR6 {c : Nat} (h1 : 141 ≤ c) (h2 : c ≤ 157) : mR c = 6 := by
  unfold mR
  rw [if_neg (by omega), if_neg (by omega), if_neg (by omega), if_neg (by omega), if_neg (by omega), if_neg (by omega), if_neg (by omega), if_pos (by omega)]
theorem R6_k {h h' : lHeap} {t t' : TS} {N Ne Nd M k : Nat} {n : Nat → Nat} {ti bi m : Nat → Nat → Nat} (g : R6g h t N M) (e : R6e h t Ne) (d : R6d h t Nd) (i1 : inj2 n ti) (i2 : inj2 n bi) (hk : k < 8) (rr : ∀ k', k' < 8 → k' ≠ k → R6s h t k' (n k') (ti k') (bi k') (m k'))
    (hr : ∀ c j, c < 143 ∨ 154 < c → t'.2.2.1 c j = t.2.2.1 c j) (hn : t'.1 = t.1) (hs : ∀ c k', 143 ≤ c → c ≤ 154 → c ≠ 144 → c ≠ 147 → k' ≠ k → t'.2.2.1 c k' = t.2.2.1 c k') (h4 : ∀ j, t'.2.2.1 144 j = t.2.2.1 144 j) (h7 : ∀ q, q < 144 * k ∨ 144 * k + 144 ≤ q → t'.2.2.1 147 q = t.2.2.1 147 q)
    (hc : ∀ q, q < 127 → h' q = h q) (hc2 : ∀ k', k' < 8 → k' ≠ k → h' (127 + 3 * k') = h (127 + 3 * k') ∧ h' (128 + 3 * k') = h (128 + 3 * k') ∧ h' (129 + 3 * k') = h (129 + 3 * k')) (hc3 : ∀ k' j, k' < 8 → k' ≠ k → j < n k' → h' (ti k' j) = h (ti k' j) ∧ h' (bi k' j) = h (bi k' j)) (rk : R6s h' t' k (n k) (ti k) (bi k) (m k)) : R6x h' t' N Ne Nd M := by
  refine ⟨R6g_cg g (hc _ (by omega)) (hc _ (by omega)) (hc _ (by omega)) (hc _ (by omega)) (fun j => hr _ j (by omega)) (fun j => hr _ j (by omega)) (fun j => hr _ j (by omega)) (fun j => hr _ j (by omega)) (fun c _ _ => by rw [hn]), R6e_cg e (hc _ (by omega)) (hc _ (by omega)) (fun j => hr _ j (by omega)) (fun j => hr _ j (by omega)) (fun j => hr _ j (by omega)) (fun c _ _ => by rw [hn]), R6d_cg d (hc _ (by omega)) (fun j => hr _ j (by omega)) (by rw [hn]), n, ti, bi, m, i1, i2, fun k' hk' => ?_⟩
  by_cases hkk : k' = k
  · subst hkk; exact rk
  · have r' := rr k' hk' hkk
    refine R6s_cg r' (hc2 k' hk' hkk).1 (hc2 k' hk' hkk).2.1 (hc2 k' hk' hkk).2.2 (fun j hj => hc3 k' j hk' hkk hj) (fun c q1 q2 q3 q7 => hs c k' q1 q2 q3 q7 hkk) (fun g _ => h4 _) (fun j i hj hi => ?_)
    · unfold tl
      refine h7 _ ?_
      have := r'.2.2.2.1
      omega
/-- the check of bytes -/
def xr (f : Nat → Int32) : Nat → Int32
  | 0 => 255
  | n + 1 => xr f n ^^^ f n
theorem xr_byt {f : Nat → Int32} {n : Nat} (h : ∀ i, i < n → byt (f i)) : byt (xr f n) := by
  induction n with
  | zero => exact ⟨255, by omega, rfl⟩
  | succ n ih =>
    obtain ⟨a, ha, e1⟩ := ih (fun i hi => h i (by omega))
    obtain ⟨b, hb, e2⟩ := h n (by omega)
    refine ⟨a ^^^ b, Nat.xor_lt_two_pow (n := 8) ha hb, ?_⟩
    unfold xr
    rw [e1, e2, i_xor]
theorem xr_cg {f g : Nat → Int32} {n : Nat} (h : ∀ i, i < n → f i = g i) : xr f n = xr g n := by
  induction n with
  | zero => rfl
  | succ n ih => unfold xr; rw [ih (fun i hi => h i (by omega)), h n (by omega)]
theorem c_close {s : CS} {a b m : Nat} {x y : Value} {f : Nat → Int32} (h1 : s.1 a = some (true, false, 93, [x, .ref b, y])) (h2 : s.1 b = some (true, true, 0, rowC (fun i => .int (f i)) m)) (hm : 1 ≤ m) (hm2 : m < 1000) : c_1063 a s = some (cup s b (true, true, 0, rowC (fun j => if j = m - 1 then .int (xr f (m - 1)) else .int (f j)) m)) := by
  unfold c_1063
  have a1 : xN s [(93, 1)] a = some b := by simp [xN, xV, h1, lLook, toP]
  have a2 : aLen s b = some (Int32.ofNat m) := aLen_r h2 (by omega)
  have a3 : Int32.ofNat m - 1 = Int32.ofNat (m - 1) := i_subL (a := 1) hm
  simp only [a1, a2, Option.bind_some, a3]
  obtain ⟨v, e1, e2⟩ := wh_cnt (f := fun p4 : Int32 × Int32 => (if p4.2 < Int32.ofNat (m - 1) then Option.bind (α := Int32) (aI s [0, 12] b p4.2) (fun x4 => some (Sum.inl (β := Int32) (p4.1 ^^^ x4, p4.2 + 1))) else some (.inr p4.1))) (Q := fun v => v = xr f (m - 1)) (m - 1) (fun k a => a = (xr f k, Int32.ofNat k)) (by
    rintro k _ hk rfl
    refine Or.inr ⟨_, ?_, rfl⟩
    simp only [if_pos ((i_lt (by omega) (by omega)).mpr hk), aI_r h2 (by omega) (ts := [0, 12]) (by decide) (show k < m by omega) (by omega) rfl, Option.bind_some, i_suc]
    rfl) (by
    rintro _ rfl
    exact ⟨_, by simp only [i_lt (show m - 1 < 2147483648 by omega) (show m - 1 < 2147483648 by omega), Nat.lt_irrefl, if_false], rfl⟩) (a := (255, 0)) rfl
  rw [e1, Option.bind_some, e2, aPut_r h2 (by omega) (by omega), Option.bind_some]
theorem t_check {t : TS} {B m : Nat} (hB : B + 24 ≤ 1152) (h21 : t.2.2.1 147 (B + 21) = Int32.ofNat m) (hm : 1 ≤ m) (hm2 : m ≤ 21) : t_826 (Int32.ofNat B) t = some (wrI t 147 (B + (m - 1)) (xr (fun i => t.2.2.1 147 (B + i)) (m - 1))) := by
  unfold t_826
  have a3 : Int32.ofNat m - 1 = Int32.ofNat (m - 1) := i_subL (a := 1) hm
  have a4 : Int32.ofNat (B + m) - 1 = Int32.ofNat (B + (m - 1)) := by rw [show B + (m - 1) = B + m - 1 by omega]; exact i_subL (a := 1) (by show 1 ≤ B + m; omega)
  simp only [i_addL, rdI_n (show B + 21 < 1152 by omega) (show 1152 < 2147483648 by omega), Option.bind_some, h21, a3, i_add, a4]
  obtain ⟨v, e1, e2⟩ := wh_cnt (f := fun p11 : Int32 × Int32 => (if p11.2 < Int32.ofNat (m - 1) then Option.bind (α := Int32) (rdI t 147 1152 (Int32.ofNat B + p11.2)) (fun x2 => some (Sum.inl (β := Int32) (p11.1 ^^^ x2, p11.2 + 1))) else some (.inr p11.1))) (Q := fun v => v = xr (fun i => t.2.2.1 147 (B + i)) (m - 1)) (m - 1) (fun k a => a = (xr (fun i => t.2.2.1 147 (B + i)) k, Int32.ofNat k)) (by
    rintro k _ hk rfl
    refine Or.inr ⟨_, ?_, rfl⟩
    simp only [if_pos ((i_lt (by omega) (by omega)).mpr hk), i_add, rdI_n (show B + k < 1152 by omega) (show 1152 < 2147483648 by omega), Option.bind_some, i_suc]
    rfl) (by
    rintro _ rfl
    exact ⟨_, by simp only [i_lt (show m - 1 < 2147483648 by omega) (show m - 1 < 2147483648 by omega), Nat.lt_irrefl, if_false], rfl⟩) (a := (255, 0)) rfl
  rw [e1, Option.bind_some, e2, stI_n (by omega) (by omega), Option.bind_some]
