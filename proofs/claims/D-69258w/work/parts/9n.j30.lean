/-! the library: the digits of a number -/
section
variable {E : lE} {G : lHeap}
theorem set_at {pre post : List Value} {u v : Value} : (pre ++ u :: post).set pre.length v = pre ++ v :: post := by
  rw [List.set_append_right _ _ (Nat.le_refl _), Nat.sub_self, List.set_cons_zero]
def dgT1 : List Value := (List.range 100).map (fun k => .int (Int32.ofNat (48 + k % 10)))
def dgT2 : List Value := (List.range 100).map (fun k => .int (Int32.ofNat (48 + k / 10)))
theorem dgT1_at {k : Nat} (h : k < 100) : dgT1[k]? = some (.int (Int32.ofNat (48 + k % 10))) := by
  unfold dgT1
  rw [List.getElem?_map, List.getElem?_range h]
  rfl
theorem dgT2_at {k : Nat} (h : k < 100) : dgT2[k]? = some (.int (Int32.ofNat (48 + k / 10))) := by
  unfold dgT2
  rw [List.getElem?_map, List.getElem?_range h]
  rfl
theorem digs_s1 {k n : Nat} (h : n < 10) : digs (k + 1) n [] = [.int (Int32.ofNat (48 + n))] := by
  unfold digs
  rw [if_pos h]
theorem digs_s2 {k n : Nat} (h1 : 10 ≤ n) (h2 : n < 100) : digs (k + 2) n [] = [.int (Int32.ofNat (48 + n / 10)), .int (Int32.ofNat (48 + n % 10))] := by
  unfold digs
  rw [if_neg (by omega)]
  unfold digs
  rw [if_pos (by omega)]
theorem digs_s3 {k n : Nat} (h : 100 ≤ n) : digs (k + 2) n [] = digs k (n / 100) [] ++ [.int (Int32.ofNat (48 + n % 100 / 10)), .int (Int32.ofNat (48 + n % 100 % 10))] := by
  rw [show digs (k + 2) n [] = digs (k + 1) (n / 10) [.int ((48 + n % 10).toInt32)] from if_neg (by omega)]
  rw [show digs (k + 1) (n / 10) [.int ((48 + n % 10).toInt32)] = digs k (n / 10 / 10) (.int ((48 + n / 10 % 10).toInt32) :: [.int ((48 + n % 10).toInt32)]) from if_neg (by omega)]
  rw [digs_app, Nat.div_div_eq_div_mul]
  congr 3
  · congr 2
    omega
  · congr 2
    omega
theorem i_dec {p : Nat} (h : 0 < p) : Int32.ofNat p + -1 = Int32.ofNat (p - 1) := by
  rw [← Int32.sub_eq_add_neg]
  exact i_sub (k := 1) h
theorem gc_lp {e t1 t2 : Nat} {w1 w2 : Bool} (hE1 : E 20 = .ref t1) (hE2 : E 21 = .ref t2) (n1 : t1 ≠ e) (n2 : t2 ≠ e) : ∀ (k : Nat), ∀ (n : Nat) (pre mid post : List Value) (M : lMem) (lv : lL), 1 ≤ k → n < 10 ^ k → n < 2147483648 → mid.length = (digs k n []).length → (pre ++ mid ++ post).length ≤ 1000000 → M.1 e = some (true, true, 2, pre ++ mid ++ post) → M.1 t1 = some (w1, true, 2, dgT1) → M.1 t2 = some (w2, true, 2, dgT2) → lGet lv 0 = some (.int (-Int32.ofNat n)) → lGet lv 2 = some (.ref e) → lGet lv 5 = some (.int (Int32.ofNat (pre.length + mid.length))) → lGet lv 6 = some (.int 0) → ∀ D, lGo E prog D cd_101 13 (lv, [], M) (.inl (some (.int (Int32.ofNat pre.length))), (lUpd M.1 e (true, true, 2, pre ++ digs k n [] ++ post), M.2.1, M.2.2)) := by
  intro k
  induction k using Nat.strongRecOn with
  | ind k ih =>
    intro n pre mid post M lv hk hn hn2 hm hlen he h1 h2 l0 l2 l5 l6 D
    have hlen' : pre.length + mid.length + post.length ≤ 1000000 := by
      rw [List.length_append, List.length_append] at hlen
      exact hlen
    by_cases z : 100 ≤ n
    · -- two digits
      obtain ⟨k, rfl⟩ : ∃ j, k = j + 2 := by
        refine ⟨k - 2, ?_⟩
        rcases Nat.lt_or_ge k 2 with w | w
        · have : k = 1 := by omega
          subst this
          rw [show 10 ^ 1 = 10 from rfl] at hn
          omega
        · omega
      have hk1 : 1 ≤ k := by
        rcases Nat.eq_zero_or_pos k with w | w
        · subst w
          rw [show 10 ^ (0 + 2) = 100 from rfl] at hn
          omega
        · exact w
      have hd := digs_s3 (k := k) z
      have hm2 : mid.length = (digs k (n / 100) []).length + 2 := by
        rw [hm, hd, List.length_append]
        rfl
      obtain ⟨m', u, v, rfl, hm'⟩ : ∃ m' u v, mid = m' ++ [u, v] ∧ m'.length = (digs k (n / 100) []).length := by
        refine ⟨mid.take (mid.length - 2), mid[mid.length - 2]'(by omega), mid[mid.length - 1]'(by omega), ?_, by rw [List.length_take]; omega⟩
        have e := (List.take_append_drop (mid.length - 2) mid).symm
        rw [List.drop_eq_getElem_cons (by omega), List.drop_eq_getElem_cons (by omega), List.drop_eq_nil_of_le (by omega)] at e
        conv => lhs; rw [e]
        congr 3
        simp only [show mid.length - 2 + 1 = mid.length - 1 by omega]
      rw [List.length_append, show ([u, v] : List Value).length = 2 from rfl] at l5 hlen'
      refine lGo.loadI rfl l0 ?_
      refine lGo.step rfl (fun _ => rfl) ?_; dsimp only
      refine lGo.step rfl (fun _ => rfl) ?_; dsimp only
      refine lGo.brF (decide_eq_false (fun w => ?_)) ?_
      · have := (i_nlt (n := 100) (m := n) (by omega) hn2).mp w
        omega
      refine lGo.loadI rfl l0 ?_
      refine lGo.step rfl (fun _ => rfl) ?_; dsimp only
      refine lGo.step rfl (fun _ => rfl) ?_
      dsimp only
      rw [i_ndiv hn2]
      refine lGo.step rfl (fun _ => rfl) ?_; dsimp only
      refine lGo.loadI rfl (x := -Int32.ofNat (n / 100)) (by repeat (first | assumption | exact lGet_s1 | refine lGet_sn ?_ (by decide) (by first | exact Or.inl (by decide) | exact Or.inr rfl))) ?_
      refine lGo.step rfl (fun _ => rfl) ?_; dsimp only
      refine lGo.step rfl (fun _ => rfl) ?_; dsimp only
      refine lGo.loadI rfl (x := -Int32.ofNat n) (by repeat (first | assumption | exact lGet_s1 | refine lGet_sn ?_ (by decide) (by first | exact Or.inl (by decide) | exact Or.inr rfl))) ?_
      refine lGo.step rfl (fun _ => rfl) ?_; dsimp only
      rw [i_rem]
      refine lGo.step rfl (fun _ => rfl) ?_; dsimp only
      refine lGo.loadI rfl (x := -Int32.ofNat (n / 100)) (by repeat (first | assumption | exact lGet_s1 | refine lGet_sn ?_ (by decide) (by first | exact Or.inl (by decide) | exact Or.inr rfl))) ?_
      refine lGo.step rfl (fun _ => rfl) ?_; dsimp only
      refine lGo.loadA rfl (x := e) (by repeat (first | assumption | exact lGet_s1 | refine lGet_sn ?_ (by decide) (by first | exact Or.inl (by decide) | exact Or.inr rfl))) ?_
      refine lGo.inc rfl (x := Int32.ofNat (pre.length + (m'.length + 2))) (by repeat (first | assumption | exact lGet_s1 | refine lGet_sn ?_ (by decide) (by first | exact Or.inl (by decide) | exact Or.inr rfl))) ?_
      rw [i_dec (by omega)]
      refine lGo.loadI rfl (x := Int32.ofNat (pre.length + (m'.length + 2) - 1)) (by repeat (first | assumption | exact lGet_s1 | refine lGet_sn ?_ (by decide) (by first | exact Or.inl (by decide) | exact Or.inr rfl))) ?_
      refine lGo.env rfl hE1 ?_
      refine lGo.loadI rfl (x := Int32.ofNat (n % 100)) (by repeat (first | assumption | exact lGet_s1 | refine lGet_sn ?_ (by decide) (by first | exact Or.inl (by decide) | exact Or.inr rfl))) ?_
      refine lGo.ald rfl h1 rfl (i_nlt0 (by omega)) (by rw [clampN (by omega)]; exact dgT1_at (by omega)) ?_
      refine lGo.bst rfl he (by simp only [List.length_append, List.length_cons, List.length_nil]; omega) (by omega) (by omega) ?_
      refine lGo.loadA rfl (x := e) (by repeat (first | assumption | exact lGet_s1 | refine lGet_sn ?_ (by decide) (by first | exact Or.inl (by decide) | exact Or.inr rfl))) ?_
      refine lGo.inc rfl (x := Int32.ofNat (pre.length + (m'.length + 2) - 1)) (by repeat (first | assumption | exact lGet_s1 | refine lGet_sn ?_ (by decide) (by first | exact Or.inl (by decide) | exact Or.inr rfl))) ?_
      rw [i_dec (by omega)]
      refine lGo.loadI rfl (x := Int32.ofNat (pre.length + (m'.length + 2) - 1 - 1)) (by repeat (first | assumption | exact lGet_s1 | refine lGet_sn ?_ (by decide) (by first | exact Or.inl (by decide) | exact Or.inr rfl))) ?_
      refine lGo.env rfl hE2 ?_
      refine lGo.loadI rfl (x := Int32.ofNat (n % 100)) (by repeat (first | assumption | exact lGet_s1 | refine lGet_sn ?_ (by decide) (by first | exact Or.inl (by decide) | exact Or.inr rfl))) ?_
      refine lGo.ald rfl ((lUpd_ne _ _ n2).trans h2) rfl (i_nlt0 (by omega)) (by rw [clampN (by omega)]; exact dgT2_at (by omega)) ?_
      refine lGo.bst rfl (lUpd_eq ..) (by rw [List.length_set]; simp only [List.length_append, List.length_cons, List.length_nil]; omega) (by rw [List.length_set]; omega) (by omega) ?_
      rw [lUpdU]
      have a1 : ((pre ++ (m' ++ [u, v]) ++ post).set (pre.length + (m'.length + 2) - 1) (.int (Int32.ofNat (48 + n % 100 % 10)))).set (pre.length + (m'.length + 2) - 1 - 1) (.int (Int32.ofNat (48 + n % 100 / 10))) = pre ++ m' ++ (.int (Int32.ofNat (48 + n % 100 / 10)) :: .int (Int32.ofNat (48 + n % 100 % 10)) :: post) := by
        have b1 : pre ++ (m' ++ [u, v]) ++ post = (pre ++ m' ++ [u]) ++ v :: post := by simp
        have b2 : pre.length + (m'.length + 2) - 1 = (pre ++ m' ++ [u]).length := by simp only [List.length_append, List.length_cons, List.length_nil]; omega
        rw [b1, b2, set_at]
        have b3 : pre ++ m' ++ [u] ++ Value.int (Int32.ofNat (48 + n % 100 % 10)) :: post = (pre ++ m') ++ u :: (.int (Int32.ofNat (48 + n % 100 % 10)) :: post) := by simp
        have b4 : (pre ++ m' ++ [u]).length - 1 = (pre ++ m').length := by simp only [List.length_append, List.length_cons, List.length_nil]; omega
        rw [b3, b4, set_at]
      rw [a1]
      refine lGo.step rfl (fun _ => rfl) ?_
      dsimp only
      have hres : pre ++ digs (k + 2) n [] ++ post = pre ++ digs k (n / 100) [] ++ (.int (Int32.ofNat (48 + n % 100 / 10)) :: .int (Int32.ofNat (48 + n % 100 % 10)) :: post) := by
        rw [hd]
        simp
      rw [hres]
      have hn3 : n / 100 < 10 ^ k := by
        rw [show 10 ^ (k + 2) = 10 ^ k * 100 from Nat.pow_add 10 k 2] at hn
        omega
      have := ih k (by omega) (n / 100) pre m' (.int (Int32.ofNat (48 + n % 100 / 10)) :: .int (Int32.ofNat (48 + n % 100 % 10)) :: post) (lUpd M.1 e (true, true, 2, pre ++ m' ++ (.int (Int32.ofNat (48 + n % 100 / 10)) :: .int (Int32.ofNat (48 + n % 100 % 10)) :: post)), M.2.1, M.2.2)
      dsimp only at this
      rw [lUpdU] at this
      refine this _ hk1 hn3 (by omega) hm' (by simp only [List.length_append, List.length_cons]; omega) (lUpd_eq ..) ((lUpd_ne _ _ n1).trans h1) ((lUpd_ne _ _ n2).trans h2) (by repeat (first | assumption | exact lGet_s1 | refine lGet_sn ?_ (by decide) (by first | exact Or.inl (by decide) | exact Or.inr rfl))) (by repeat (first | assumption | exact lGet_s1 | refine lGet_sn ?_ (by decide) (by first | exact Or.inl (by decide) | exact Or.inr rfl))) ?_ (by repeat (first | assumption | exact lGet_s1 | refine lGet_sn ?_ (by decide) (by first | exact Or.inl (by decide) | exact Or.inr rfl))) D
      rw [show pre.length + m'.length = pre.length + (m'.length + 2) - 1 - 1 by omega]
      repeat (first | assumption | exact lGet_s1 | refine lGet_sn ?_ (by decide) (by first | exact Or.inl (by decide) | exact Or.inr rfl))
    · -- the last ones
      obtain ⟨k, rfl⟩ : ∃ j, k = j + 1 := ⟨k - 1, by omega⟩
      refine lGo.loadI rfl l0 ?_
      refine lGo.step rfl (fun _ => rfl) ?_; dsimp only
      refine lGo.step rfl (fun _ => rfl) ?_; dsimp only
      refine lGo.brT (decide_eq_true ?_) ?_
      · exact (i_nlt (n := 100) (m := n) (by omega) hn2).mpr (by omega)
      refine lGo.loadA rfl (x := e) (by repeat (first | assumption | exact lGet_s1 | refine lGet_sn ?_ (by decide) (by first | exact Or.inl (by decide) | exact Or.inr rfl))) ?_
      by_cases z2 : n < 10
      · have hd := digs_s1 (k := k) z2
        obtain ⟨u, rfl⟩ : ∃ u, mid = [u] := by
          rw [hd] at hm
          exact List.length_eq_one_iff.mp hm
        rw [show ([u] : List Value).length = 1 from rfl] at l5 hlen'
        refine lGo.inc rfl (x := Int32.ofNat (pre.length + 1)) (by repeat (first | assumption | exact lGet_s1 | refine lGet_sn ?_ (by decide) (by first | exact Or.inl (by decide) | exact Or.inr rfl))) ?_
        rw [i_dec (by omega), Nat.add_sub_cancel]
        refine lGo.loadI rfl (x := Int32.ofNat pre.length) (by repeat (first | assumption | exact lGet_s1 | refine lGet_sn ?_ (by decide) (by first | exact Or.inl (by decide) | exact Or.inr rfl))) ?_
        refine lGo.env rfl hE1 ?_
        refine lGo.loadI rfl (x := -Int32.ofNat n) (by repeat (first | assumption | exact lGet_s1 | refine lGet_sn ?_ (by decide) (by first | exact Or.inl (by decide) | exact Or.inr rfl))) ?_
        refine lGo.step rfl (fun _ => rfl) ?_; dsimp only
        rw [Int32.neg_neg]
        refine lGo.ald rfl h1 rfl (i_nlt0 (by omega)) (by rw [clampN (by omega)]; exact dgT1_at (by omega)) ?_
        refine lGo.bst rfl he (by simp only [List.length_append, List.length_cons, List.length_nil]; omega) (by omega) (by omega) ?_
        refine lGo.loadI rfl (x := -Int32.ofNat n) (by repeat (first | assumption | exact lGet_s1 | refine lGet_sn ?_ (by decide) (by first | exact Or.inl (by decide) | exact Or.inr rfl))) ?_
        refine lGo.step rfl (fun _ => rfl) ?_; dsimp only
        refine lGo.step rfl (fun _ => rfl) ?_; dsimp only
        refine lGo.brT (decide_eq_true ?_) ?_
        · exact (i_nle (n := 9) (m := n) (by omega) hn2).mpr (by omega)
        refine lGo.loadI rfl (x := 0) (by repeat (first | assumption | exact lGet_s1 | refine lGet_sn ?_ (by decide) (by first | exact Or.inl (by decide) | exact Or.inr rfl))) ?_
        refine lGo.step rfl (fun _ => rfl) ?_; dsimp only
        refine lGo.loadI rfl (x := Int32.ofNat pre.length) (by repeat (first | assumption | exact lGet_s1 | refine lGet_sn ?_ (by decide) (by first | exact Or.inl (by decide) | exact Or.inr rfl))) ?_
        have a1 : (pre ++ [u] ++ post).set pre.length (.int (Int32.ofNat (48 + n % 10))) = pre ++ digs (k + 1) n [] ++ post := by
          rw [hd, List.append_assoc, List.singleton_append, set_at, Nat.mod_eq_of_lt z2]
          simp
        rw [a1]
        exact lGo.done rfl (fun _ => rfl)
      · obtain ⟨k, rfl⟩ : ∃ j, k = j + 1 := by
          refine ⟨k - 1, ?_⟩
          rcases Nat.eq_zero_or_pos k with w | w
          · subst w
            rw [show 10 ^ (0 + 1) = 10 from rfl] at hn
            omega
          · omega
        have hd := digs_s2 (k := k) (n := n) (by omega) (by omega)
        obtain ⟨u, v, rfl⟩ : ∃ u v, mid = [u, v] := by
          rw [show k + 1 + 1 = k + 2 from rfl, hd] at hm
          cases mid with
          | nil => cases hm
          | cons u mid =>
            cases mid with
            | nil => cases hm
            | cons v mid =>
              cases mid with
              | nil => exact ⟨u, v, rfl⟩
              | cons _ _ => cases hm
        rw [show ([u, v] : List Value).length = 2 from rfl] at l5 hlen'
        refine lGo.inc rfl (x := Int32.ofNat (pre.length + 2)) (by repeat (first | assumption | exact lGet_s1 | refine lGet_sn ?_ (by decide) (by first | exact Or.inl (by decide) | exact Or.inr rfl))) ?_
        rw [i_dec (by omega), show pre.length + 2 - 1 = pre.length + 1 by omega]
        refine lGo.loadI rfl (x := Int32.ofNat (pre.length + 1)) (by repeat (first | assumption | exact lGet_s1 | refine lGet_sn ?_ (by decide) (by first | exact Or.inl (by decide) | exact Or.inr rfl))) ?_
        refine lGo.env rfl hE1 ?_
        refine lGo.loadI rfl (x := -Int32.ofNat n) (by repeat (first | assumption | exact lGet_s1 | refine lGet_sn ?_ (by decide) (by first | exact Or.inl (by decide) | exact Or.inr rfl))) ?_
        refine lGo.step rfl (fun _ => rfl) ?_; dsimp only
        rw [Int32.neg_neg]
        refine lGo.ald rfl h1 rfl (i_nlt0 (by omega)) (by rw [clampN (by omega)]; exact dgT1_at (by omega)) ?_
        refine lGo.bst rfl he (by simp only [List.length_append, List.length_cons, List.length_nil]; omega) (by omega) (by omega) ?_
        refine lGo.loadI rfl (x := -Int32.ofNat n) (by repeat (first | assumption | exact lGet_s1 | refine lGet_sn ?_ (by decide) (by first | exact Or.inl (by decide) | exact Or.inr rfl))) ?_
        refine lGo.step rfl (fun _ => rfl) ?_; dsimp only
        refine lGo.step rfl (fun _ => rfl) ?_; dsimp only
        refine lGo.brF (decide_eq_false (fun w => ?_)) ?_
        · have := (i_nle (n := 9) (m := n) (by omega) hn2).mp w
          omega
        refine lGo.loadA rfl (x := e) (by repeat (first | assumption | exact lGet_s1 | refine lGet_sn ?_ (by decide) (by first | exact Or.inl (by decide) | exact Or.inr rfl))) ?_
        refine lGo.inc rfl (x := Int32.ofNat (pre.length + 1)) (by repeat (first | assumption | exact lGet_s1 | refine lGet_sn ?_ (by decide) (by first | exact Or.inl (by decide) | exact Or.inr rfl))) ?_
        rw [i_dec (by omega), Nat.add_sub_cancel]
        refine lGo.loadI rfl (x := Int32.ofNat pre.length) (by repeat (first | assumption | exact lGet_s1 | refine lGet_sn ?_ (by decide) (by first | exact Or.inl (by decide) | exact Or.inr rfl))) ?_
        refine lGo.env rfl hE2 ?_
        refine lGo.loadI rfl (x := -Int32.ofNat n) (by repeat (first | assumption | exact lGet_s1 | refine lGet_sn ?_ (by decide) (by first | exact Or.inl (by decide) | exact Or.inr rfl))) ?_
        refine lGo.step rfl (fun _ => rfl) ?_; dsimp only
        rw [Int32.neg_neg]
        refine lGo.ald rfl ((lUpd_ne _ _ n2).trans h2) rfl (i_nlt0 (by omega)) (by rw [clampN (by omega)]; exact dgT2_at (by omega)) ?_
        refine lGo.bst rfl (lUpd_eq ..) (by rw [List.length_set]; simp only [List.length_append, List.length_cons, List.length_nil]; omega) (by rw [List.length_set]; omega) (by omega) ?_
        rw [lUpdU]
        refine lGo.loadI rfl (x := 0) (by repeat (first | assumption | exact lGet_s1 | refine lGet_sn ?_ (by decide) (by first | exact Or.inl (by decide) | exact Or.inr rfl))) ?_
        refine lGo.step rfl (fun _ => rfl) ?_; dsimp only
        refine lGo.loadI rfl (x := Int32.ofNat pre.length) (by repeat (first | assumption | exact lGet_s1 | refine lGet_sn ?_ (by decide) (by first | exact Or.inl (by decide) | exact Or.inr rfl))) ?_
        have a1 : ((pre ++ [u, v] ++ post).set (pre.length + 1) (.int (Int32.ofNat (48 + n % 10)))).set pre.length (.int (Int32.ofNat (48 + n / 10))) = pre ++ digs (k + 2) n [] ++ post := by
          rw [hd]
          have b1 : pre ++ [u, v] ++ post = (pre ++ [u]) ++ v :: post := by simp
          have b2 : pre.length + 1 = (pre ++ [u]).length := by simp
          rw [b1, b2, set_at]
          have b3 : pre ++ [u] ++ Value.int (Int32.ofNat (48 + n % 10)) :: post = pre ++ u :: (.int (Int32.ofNat (48 + n % 10)) :: post) := by simp
          rw [b3, set_at]
          simp
        rw [a1]
        exact lGo.done rfl (fun _ => rfl)
end
