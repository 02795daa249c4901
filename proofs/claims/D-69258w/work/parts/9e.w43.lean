/-! the warden: the order of the acts -/
theorem cnt_lt (i : Nat) : ∀ n, i ≤ n → (List.range n).countP (fun j => decide (j < i)) = i := by
  intro n
  induction n with
  | zero => intro h; have : i = 0 := by omega
            subst this; rfl
  | succ n ih =>
    intro h
    rw [List.range_succ, List.countP_append]
    by_cases y : i ≤ n
    · rw [ih y]
      simp [show ¬ n < i by omega]
    · have : i = n + 1 := by omega
      subst this
      have : (List.range n).countP (fun j => decide (j < n + 1)) = (List.range n).length := by
        rw [List.countP_eq_length]
        intro a ha
        rw [List.mem_range] at ha
        simp; omega
      rw [this]; simp
theorem ord_cnt {L : List Nat} (hL : L.Nodup) {n : Nat} {f : Nat → Int} {od : Nat → Nat} (h1 : ∀ i, i < n → od i ∈ L) (h2 : ∀ i j, i < j → j < n → f (od i) < f (od j)) (h3 : ∀ a ∈ L, ∃ i, i < n ∧ od i = a) {i : Nat} (hi : i < n) : (L.filter (fun b => decide (f b < f (od i)))).length = i := by
  have hp : ((List.range n).map od).Perm L := by
    refine (List.perm_ext_iff_of_nodup ?_ hL).mpr (fun a => ?_)
    · rw [List.nodup_iff_pairwise_ne, List.pairwise_map]
      refine List.Pairwise.imp_of_mem ?_ List.pairwise_lt_range
      intro a b ha hb hab e
      have := h2 a b hab (List.mem_range.mp hb)
      rw [e] at this
      omega
    · rw [List.mem_map]
      constructor
      · rintro ⟨j, hj, rfl⟩
        exact h1 j (List.mem_range.mp hj)
      · intro ha
        obtain ⟨j, hj, e⟩ := h3 a ha
        exact ⟨j, List.mem_range.mpr hj, e⟩
  rw [← List.countP_eq_length_filter, ← hp.countP_eq, List.countP_map]
  rw [← cnt_lt i n (by omega)]
  refine List.countP_congr (fun j hj => ?_)
  have hj := List.mem_range.mp hj
  simp only [Function.comp, decide_eq_true_eq]
  rcases Nat.lt_trichotomy j i with z | z | z
  · have := h2 j i z hi
    rw [cnt_lt i n (by omega)]
    exact ⟨fun _ => z, fun _ => this⟩
  · subst z
    rw [cnt_lt j n (by omega)]
    exact ⟨fun z => absurd z (Int.lt_irrefl _), fun z => absurd z (Nat.lt_irrefl _)⟩
  · have := h2 i j z hj
    rw [cnt_lt i n (by omega)]
    exact ⟨fun q => absurd q (by omega), fun q => absurd q (by omega)⟩
/-- an act's place as a number -/
def rkN (V : TS) (a : Nat) : Int := (a : Int) - 1000 * (V.2.2.1 111 a).toInt
def rkS (s : CS) (v : Value) : Int := match v with
  | .ref q => (match s.1 q with
    | some (_, _, _, .int n :: _ :: .int k :: _) => n.toInt - 1000 * k.toInt
    | _ => 0)
  | _ => 0
theorem rkS_a {s : CS} {V : TS} {A : Nat → Nat} {a : Nat} (ha : a < 20) (h : s.1 (A a) = some (actC V a)) : rkS s (.ref (A a)) = rkN V a := by
  unfold rkS
  simp only [h, actC]
  rw [i_toInt (by omega)]; rfl
theorem rkN_soon {V : TS} {a b : Nat} (ha : a < 20) (hb : b < 20) : soon V b a = decide (rkN V b < rkN V a) := by
  unfold soon rkN
  rw [Bool.eq_iff_iff, Bool.or_eq_true, Bool.and_eq_true, decide_eq_true_eq, decide_eq_true_eq, decide_eq_true_eq, decide_eq_true_eq, ← Int32.toInt_inj, Int32.lt_iff_toInt_lt]
  omega
theorem rkN_inj {V : TS} {a b : Nat} (ha : a < 20) (hb : b < 20) (h : rkN V a = rkN V b) : a = b := by
  unfold rkN at h
  omega
theorem cmpZ_cg {a b c d : Int} (h1 : a < b ↔ c < d) (h2 : a = b ↔ c = d) : cmpZ a b = cmpZ c d := by
  unfold cmpZ
  simp only [h1, h2]
/-- acts are compared -/
theorem cmp_act {s S : CS} {V : TS} {A : Nat → Nat} {a b : Nat} (ha : a < 20) (hb : b < 20) (h1 : s.1 (A a) = some (actC V a)) (h2 : s.1 (A b) = some (actC V b)) (k1 : S.1 (A a) = s.1 (A a)) (k2 : S.1 (A b) = s.1 (A b)) : cmpK S (.ref (A a)) (.ref (A b)) = some (cmpZ (rkS s (.ref (A a))) (rkS s (.ref (A b)))) := by
  rw [rkS_a ha h1, rkS_a hb h2]
  rw [h1] at k1
  rw [h2] at k2
  have g1 : isK S [63] (A a) = false := by rw [isK_o k1]; rfl
  unfold cmpK
  simp only [g1, Bool.false_eq_true, false_and, if_false, isK_t (tab := [91]) k1 rfl, isK_t (tab := [91]) k2 rfl, and_self, if_true]
  rw [xI_o (x := V.2.2.1 111 a) k1 rfl rfl, Option.bind_some, xI_o (x := V.2.2.1 111 b) k2 rfl rfl, Option.bind_some]
  by_cases y : V.2.2.1 111 a = V.2.2.1 111 b
  · rw [if_pos y, xI_o (x := Int32.ofNat a) k1 rfl rfl, Option.bind_some, xI_o (x := Int32.ofNat b) k2 rfl rfl, Option.bind_some, cmpI_Z, i_toInt (by omega), i_toInt (by omega)]
    unfold rkN
    rw [y]
    exact congrArg some (cmpZ_cg (by omega) (by omega))
  · rw [if_neg y, cmpI_Z]
    have y' : (V.2.2.1 111 a).toInt ≠ (V.2.2.1 111 b).toInt := fun z => y (Int32.toInt_inj.mp z)
    unfold rkN
    exact congrArg some (cmpZ_cg (by omega) (by omega))
