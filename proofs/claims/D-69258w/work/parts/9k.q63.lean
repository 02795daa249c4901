/-! permits: a fact is put -/
section
variable {s S : CS} {t T : TS} {own : Nat → Nat} {nf : Nat}
/-- the reference's facts after a fact is put -/
def putT (t : TS) (nf : Nat) (v1 : Int64) (v3 : Int32) : TS := match fcI t v1 nf with
  | some k => wrI (wrL t 77 k v1) 78 k v3
  | none => wrI (wrL (ptI t 202 (Int32.ofNat (nf + 1))) 77 nf v1) 78 nf v3
def putN (t : TS) (nf : Nat) (v1 : Int64) : Nat := if (fcI t v1 nf).isSome = true then nf else nf + 1
def hadF (t : TS) (nf : Nat) (v1 : Int64) : Int64 := (fcI t v1 nf).elim 1000000000000 (fun k => (t.2.2.1 78 k).toInt64)
theorem fcI_cg2 {v : Int64} : ∀ {n : Nat}, (∀ i, i < n → T.2.2.2 77 i = t.2.2.2 77 i) → fcI T v n = fcI t v n := by
  intro n
  induction n with
  | zero => intro _; rfl
  | succ n ih =>
    intro h
    unfold fcI
    rw [h n (Nat.lt_succ_self n), ih (fun i hi => h i (by omega))]
theorem t_fact (h2 : t.1 202 = Int32.ofNat nf) (h40 : nf ≤ 40) (v1 : Int64) (v3 : Int32) (room : fcI t v1 nf ≠ none ∨ nf < 40) : t_751 v1 v3 t = some (hadF t nf v1, putT t nf v1 v3) := by
  unfold t_751
  rw [t_fcI h2 h40, Option.bind_some]
  unfold hadF putT
  cases e : fcI t v1 nf with
  | some k =>
    obtain ⟨k1, k2⟩ := fcI_lt e
    rw [if_neg (show ¬ fcV (some k) < 0 from i_nlt0 (by omega)), if_neg (show ¬ fcV (some k) < 0 from i_nlt0 (by omega)), show fcV (some k) = Int32.ofNat k from rfl, rdI_n (by omega) (by decide), Option.bind_some, Option.bind_some, Option.bind_some, stL_n (by omega) (by decide), Option.bind_some, stI_n (by omega) (by decide), Option.bind_some]
    rfl
  | none =>
    have n40 : nf < 40 := room.resolve_left (fun w => w e)
    rw [if_pos (show fcV none < 0 by decide), if_pos (show fcV none < 0 by decide), Option.bind_some, Option.bind_some, Option.bind_some, h2, stL_n n40 (by decide), Option.bind_some, stI_n n40 (by decide), Option.bind_some, i_suc]
    rfl
theorem fcM_put (d : ∀ i j, i < j → j < nf → t.2.2.2 77 i ≠ t.2.2.2 77 j) (v1 : Int64) (v3 : Int32) : fcM (putT t nf v1 v3) (putN t nf v1) = (fun z => if z = v1.toInt then some (.int v3) else fcM t nf z) := by
  have key : ∀ x : Int64, (fcI (putT t nf v1 v3) x (putN t nf v1)).map (fun k => Value.int ((putT t nf v1 v3).2.2.1 78 k)) = if x = v1 then some (.int v3) else (fcI t x nf).map (fun k => .int (t.2.2.1 78 k)) := by
    intro x
    unfold putN putT
    cases e : fcI t v1 nf with
    | some k =>
      obtain ⟨k1, k2⟩ := fcI_lt e
      rw [if_pos (show (some k).isSome = true from rfl)]
      dsimp only
      have e1 : fcI (wrI (wrL t 77 k v1) 78 k v3) x nf = fcI t x nf := fcI_cg2 (fun i hi => by
        show (wrL t 77 k v1).2.2.2 77 i = _
        rw [wrLe]
        dsimp only
        by_cases z : i = k
        · rw [if_pos z, z, k2]
        · rw [if_neg z])
      rw [e1]
      by_cases z : x = v1
      · rw [if_pos z, z, e]
        show some (Value.int ((wrI (wrL t 77 k v1) 78 k v3).2.2.1 78 k)) = _
        rw [wrIe]
        dsimp only
        rw [if_pos rfl]
      · rw [if_neg z]
        cases f : fcI t x nf with
        | none => rfl
        | some j =>
          obtain ⟨j1, j2⟩ := fcI_lt f
          show some (Value.int ((wrI (wrL t 77 k v1) 78 k v3).2.2.1 78 j)) = _
          rw [wrIe]
          dsimp only
          rw [if_neg (fun w => by rw [w, k2] at j2; exact z j2.symm)]
          rfl
    | none =>
      rw [if_neg (show ¬ (none : Option Nat).isSome = true by decide)]
      dsimp only
      have e1 : ∀ x, fcI (wrI (wrL (ptI t 202 (Int32.ofNat (nf + 1))) 77 nf v1) 78 nf v3) x nf = fcI t x nf := fun x => fcI_cg2 (fun i hi => by
        show (wrL (ptI t 202 _) 77 nf v1).2.2.2 77 i = _
        rw [wrLe]
        dsimp only
        rw [if_neg (by omega)]; rfl)
      have e2 : (wrI (wrL (ptI t 202 (Int32.ofNat (nf + 1))) 77 nf v1) 78 nf v3).2.2.2 77 nf = v1 := by
        show (wrL (ptI t 202 _) 77 nf v1).2.2.2 77 nf = _
        rw [wrLe]
        exact if_pos rfl
      have e3 : fcI (wrI (wrL (ptI t 202 (Int32.ofNat (nf + 1))) 77 nf v1) 78 nf v3) x (nf + 1) = if v1 = x then some nf else fcI t x nf := by
        show (if (wrI (wrL (ptI t 202 (Int32.ofNat (nf + 1))) 77 nf v1) 78 nf v3).2.2.2 77 nf = x then some nf else fcI (wrI (wrL (ptI t 202 (Int32.ofNat (nf + 1))) 77 nf v1) 78 nf v3) x nf) = _
        rw [e2, e1]
      rw [e3]
      by_cases z : x = v1
      · rw [if_pos z.symm, if_pos z]
        show some (Value.int ((wrI (wrL (ptI t 202 (Int32.ofNat (nf + 1))) 77 nf v1) 78 nf v3).2.2.1 78 nf)) = _
        rw [wrIe]
        dsimp only
        rw [if_pos rfl]
      · rw [if_neg (fun w => z w.symm), if_neg z]
        cases f : fcI t x nf with
        | none => rfl
        | some j =>
          obtain ⟨j1, j2⟩ := fcI_lt f
          show some (Value.int ((wrI (wrL (ptI t 202 (Int32.ofNat (nf + 1))) 77 nf v1) 78 nf v3).2.2.1 78 j)) = _
          rw [wrIe]
          dsimp only
          rw [if_neg (by omega)]
          rfl
  funext z
  unfold fcM
  by_cases q : (Int64.ofInt z).toInt = z
  · rw [if_pos q, if_pos q, key]
    by_cases w : z = v1.toInt
    · rw [if_pos w, if_pos (by rw [w, Int64.ofInt_toInt])]
    · rw [if_neg w, if_neg (fun u => w (by rw [← q, u]))]
  · rw [if_neg q, if_neg q, if_neg (fun w => q (by rw [w, Int64.ofInt_toInt]))]
/-- what else stays -/
theorem putT_f (v1 : Int64) (v3 : Int32) : (∀ c, c ≠ 202 → (putT t nf v1 v3).1 c = t.1 c) ∧ (putT t nf v1 v3).2.1 = t.2.1 ∧ (∀ c, c ≠ 78 → (putT t nf v1 v3).2.2.1 c = t.2.2.1 c) ∧ ∀ c, c ≠ 77 → (putT t nf v1 v3).2.2.2 c = t.2.2.2 c := by
  unfold putT
  cases fcI t v1 nf with
  | some k => exact ⟨fun _ _ => rfl, rfl, fun c hc => wrIq _ _ _ hc, fun c hc => wrLq _ _ _ hc⟩
  | none => exact ⟨fun c hc => if_neg hc, rfl, fun c hc => wrIq _ _ _ hc, fun c hc => (wrLq _ _ _ hc)⟩
theorem c_put (r : R3f s.1 t nf) (v1 : Int64) (v3 : Int32) (room : fcI t v1 nf ≠ none ∨ nf < 40) : ∃ x S, tmPut s 107 (.long v1) (.int v3) = some (x, S) ∧ Option.bind (toOB x) (fun b16 => c_975 b16 S) = some (hadF t nf v1) ∧ R3f S.1 (putT t nf v1 v3) (putN t nf v1) ∧ (∀ p, p ≠ 107 → S.1 p = s.1 p) ∧ (∃ xs, S.1 107 = some (true, false, 1042, xs)) ∧ S.2.1 = s.2.1 ∧ S.2.2.1 ≤ s.2.2.1 + 1 ∧ S.2.2.2 ≤ s.2.2.2 + 6 ∧ ∃ k n m xs, S = cput s k 107 n m xs := by
  obtain ⟨mc, es, r1, r2, r3, r4, r5, r6, r7⟩ := r
  obtain ⟨es', mc', n, j, e, hn, hj, hm, hk, hlen, _⟩ := tm_put (k := .long v1) (v := .int v3) r1 (KOk_long (fun y hy => by
    rcases List.mem_cons.mp hy with rfl | hy
    · exact ⟨v1, rfl⟩
    · obtain ⟨e, he, rfl⟩ := List.mem_map.mp hy
      exact r3 e he)) r2 (by omega)
  have rk : rkI (.long v1) = v1.toInt := rfl
  rw [rk] at e hm hlen
  refine ⟨_, _, e, ?_, ⟨mc', es', cput_eq .., ?_, fun e he => ?_, ?_, ?_, ?_, ?_⟩, fun p hp => cput_ne hp, ⟨_, cput_eq ..⟩, rfl, by show s.2.2.1 + n ≤ _; omega, by show s.2.2.2 + j ≤ _; omega, _, _, _, _, rfl⟩
  · rw [fcM_l]
    unfold hadF c_975
    cases fcI t v1 nf with
    | none => rfl
    | some k => rfl
  · rw [fcM_put r7]; exact hm
  · rcases hk e.1 (List.mem_map.mpr ⟨e, he, rfl⟩) with w | w
    · exact ⟨v1, w⟩
    · obtain ⟨e', he', w'⟩ := List.mem_map.mp w
      obtain ⟨x, hx⟩ := r3 e' he'
      exact ⟨x, by rw [← w', hx]⟩
  · rw [hlen, fcM_l]
    unfold putN
    cases fcI t v1 nf with
    | none => rw [if_neg (by simp), if_neg (by simp), r4]
    | some k => rw [if_pos (by simp), if_pos (by simp), r4]
  · unfold putT putN
    cases e2 : fcI t v1 nf with
    | none => rw [if_neg (by simp)]; rfl
    | some k => rw [if_pos (by simp)]; exact r5
  · unfold putN
    cases e2 : fcI t v1 nf with
    | none => rw [if_neg (by simp)]; have := room.resolve_left (fun w => w e2); omega
    | some k => rw [if_pos (by simp)]; exact r6
  · intro i j hij hjn
    unfold putT putN at *
    cases e2 : fcI t v1 nf with
    | some k =>
      rw [e2, if_pos (show (some k).isSome = true from rfl)] at hjn
      obtain ⟨k1, k2⟩ := fcI_lt e2
      dsimp only
      have w77 : ∀ i, (wrI (wrL t 77 k v1) 78 k v3).2.2.2 77 i = t.2.2.2 77 i := fun i => by
        show (wrL t 77 k v1).2.2.2 77 i = _
        rw [wrLe]
        dsimp only
        by_cases z : i = k
        · rw [if_pos z, z, k2]
        · rw [if_neg z]
      rw [w77, w77]
      exact r7 i j hij hjn
    | none =>
      rw [e2, if_neg (show ¬ (none : Option Nat).isSome = true by decide)] at hjn
      dsimp only
      have w77 : ∀ i, (wrI (wrL (ptI t 202 (Int32.ofNat (nf + 1))) 77 nf v1) 78 nf v3).2.2.2 77 i = if i = nf then v1 else t.2.2.2 77 i := fun i => by
        show (wrL (ptI t 202 _) 77 nf v1).2.2.2 77 i = _
        rw [wrLe]; rfl
      rw [w77, w77, if_neg (by omega)]
      by_cases z : j = nf
      · rw [if_pos z]
        exact fcI_no e2 i (by omega)
      · rw [if_neg z]
        exact r7 i j hij (by omega)
end
