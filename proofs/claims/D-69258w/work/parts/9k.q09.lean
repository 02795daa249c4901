/-! permits: facts -/
section
variable {s : CS} {t : TS} {h : lHeap}
/-- where a fact stands in the reference -/
def fcI (t : TS) (nm : Int64) : Nat → Option Nat
  | 0 => none
  | n + 1 => if t.2.2.2 77 n = nm then some n else fcI t nm n
theorem fcI_lt {nm : Int64} {n k : Nat} (e : fcI t nm n = some k) : k < n ∧ t.2.2.2 77 k = nm := by
  induction n with
  | zero => cases e
  | succ n ih =>
    unfold fcI at e
    by_cases z : t.2.2.2 77 n = nm
    · rw [if_pos z] at e
      cases e
      exact ⟨Nat.lt_succ_self _, z⟩
    · rw [if_neg z] at e
      obtain ⟨h1, h2⟩ := ih e
      exact ⟨by omega, h2⟩
theorem fcI_no {nm : Int64} {n : Nat} (e : fcI t nm n = none) : ∀ k, k < n → t.2.2.2 77 k ≠ nm := by
  induction n with
  | zero => exact fun k hk => absurd hk (Nat.not_lt_zero _)
  | succ n ih =>
    unfold fcI at e
    by_cases z : t.2.2.2 77 n = nm
    · rw [if_pos z] at e; cases e
    · rw [if_neg z] at e
      intro k hk
      by_cases y : k = n
      · rw [y]; exact z
      · exact ih e k (by omega)
theorem fcI_at {n k : Nat} (d : ∀ i j, i < j → j < n → t.2.2.2 77 i ≠ t.2.2.2 77 j) (hk : k < n) : fcI t (t.2.2.2 77 k) n = some k := by
  cases e : fcI t (t.2.2.2 77 k) n with
  | none => exact absurd rfl (fcI_no e k hk)
  | some j =>
    obtain ⟨h1, h2⟩ := fcI_lt e
    rcases Nat.lt_trichotomy j k with z | z | z
    · exact absurd h2 (d j k z hk)
    · rw [z]
    · exact absurd h2.symm (d k j z h1)
/-- the reference's index of a fact -/
def fcV (o : Option Nat) : Int32 := o.elim (-1) Int32.ofNat
theorem t_fcI {nf : Nat} (h2 : t.1 202 = Int32.ofNat nf) (h40 : nf ≤ 40) (nm : Int64) : t_750 nm t = some (fcV (fcI t nm nf)) := by
  unfold t_750
  have key : Tr (wh (S := Int32 × Int32) (X := Int32) (fun p4 => (if p4.2 < (t.1 202) then Option.bind (rdL t 77 40 p4.2) (fun x1 => Option.bind ((if (lg_cmp x1 nm) = 0 then some p4.2 else some p4.1)) (fun v18 => some (.inl (v18, p4.2 + 1)))) else some (.inr p4.1))) (-1, 0)) (fun x => x = fcV (fcI t nm nf)) := by
    refine wh_cnt nf (fun n (a : Int32 × Int32) => a.2 = Int32.ofNat n ∧ a.1 = fcV (fcI t nm n)) ?_ ?_ ⟨rfl, rfl⟩
    · rintro n ⟨_, _⟩ hn ⟨rfl, rfl⟩
      right
      dsimp only
      rw [h2, if_pos ((i_lt (by omega) (by omega)).mpr hn), rdL_n (by omega) (by decide), Option.bind_some, i_suc]
      by_cases z : t.2.2.2 77 n = nm
      · rw [if_pos ((lc_0 _ _).mpr z)]
        exact ⟨_, rfl, rfl, by show Int32.ofNat n = _; unfold fcI; rw [if_pos z]; rfl⟩
      · rw [if_neg (fun w => z ((lc_0 _ _).mp w))]
        exact ⟨_, rfl, rfl, by show fcV (fcI t nm n) = fcV (fcI t nm (n + 1)); rw [show fcI t nm (n + 1) = fcI t nm n from if_neg z]⟩
    · rintro ⟨_, _⟩ ⟨rfl, rfl⟩
      dsimp only
      rw [h2, if_neg (fun w => Nat.lt_irrefl _ ((i_lt (by omega) (by omega)).mp w))]
      exact ⟨_, rfl, rfl⟩
  obtain ⟨x, e, rfl⟩ := key
  rw [e, Option.bind_some]
def fcM (t : TS) (n : Nat) (z : Int) : Option Value := if (Int64.ofInt z).toInt = z then (fcI t (Int64.ofInt z) n).map (fun k => .int (t.2.2.1 78 k)) else none
theorem fcM_l (n : Nat) (x : Int64) : fcM t n x.toInt = (fcI t x n).map (fun k => .int (t.2.2.1 78 k)) := by
  unfold fcM
  rw [Int64.ofInt_toInt, if_pos rfl]
/-- the facts -/
def R3f (h : lHeap) (t : TS) (nf : Nat) : Prop := ∃ (mc : Int32) (es : List (Value × Value)), h 107 = some (true, false, 1042, .int mc :: fl es) ∧ Mp rkI es (fcM t nf) ∧ (∀ e ∈ es, ∃ x : Int64, e.1 = .long x) ∧ es.length = nf ∧ t.1 202 = Int32.ofNat nf ∧ nf ≤ 40 ∧ ∀ i j, i < j → j < nf → t.2.2.2 77 i ≠ t.2.2.2 77 j
theorem fc_get {nf : Nat} (r : R3f s.1 t nf) (x : Int64) : tmGet s 107 (.long x) = some (((fcI t x nf).map (fun k => Value.int (t.2.2.1 78 k))).getD .null) := by
  obtain ⟨mc, es, h1, h2, h3, _⟩ := r
  rw [tm_get h1 (KOk_long (fun y hy => ?_)) h2]
  · rw [← fcM_l]
    exact rfl
  · rcases List.mem_cons.mp hy with z | z
    · exact ⟨x, z⟩
    · obtain ⟨e, he, rfl⟩ := List.mem_map.mp z
      exact h3 e he
theorem fc_has {nf : Nat} (r : R3f s.1 t nf) (x : Int64) : tmHas s 107 (.long x) = some (if (fcI t x nf).isSome = true then 1 else 0) := by
  obtain ⟨mc, es, h1, h2, h3, _⟩ := r
  rw [tm_has h1 (KOk_long (fun y hy => ?_)) h2]
  · show some (if (fcM t nf x.toInt).isSome = true then (1 : Int32) else 0) = _
    rw [fcM_l, Option.isSome_map]
  · rcases List.mem_cons.mp hy with z | z
    · exact ⟨x, z⟩
    · obtain ⟨e, he, rfl⟩ := List.mem_map.mp z
      exact h3 e he
theorem fc_size {nf : Nat} (r : R3f s.1 t nf) : tmSize s 107 = some (Int32.ofNat nf) := by
  obtain ⟨mc, es, h1, _, _, h4, _⟩ := r
  rw [tm_size h1, h4]
end
