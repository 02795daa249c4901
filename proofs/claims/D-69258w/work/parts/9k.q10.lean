/-! permits: names as numbers -/
section
variable {s : CS}
def nmS (v : Int64) (c : Nat) : Int64 := (v <<< ((8 : Int32).toInt64 &&& 63)) ||| (Int32.ofNat c).toInt64
/-- the number that a name is -/
def nmL (l : List Nat) : Int64 := l.foldl nmS 0
theorem nmL_s {l : List Nat} {k : Nat} (h : k < l.length) : nmL (l.take (k + 1)) = nmS (nmL (l.take k)) (l.getD k 0) := by
  unfold nmL
  rw [List.take_add_one, List.getElem?_eq_getElem h, Option.toList_some, List.foldl_append, List.getD_eq_getElem?_getD, List.getElem?_eq_getElem h]
  rfl
theorem c_nmL {a : Nat} {w : Bool} {l : List Nat} (h : s.1 a = some (w, false, 1000, txV l)) (hl : l.length < 1000) : c_978 a s = some (nmL l) := by
  unfold c_978
  have key : Tr (wh (S := Int64 × Int32) (X := Int64) (fun p4 => (if isK s [0] a = true then Option.bind (stLen s a) (fun x1 => (if p4.2 < x1 then (if isK s [0] a = true then Option.bind (stAt s a p4.2) (fun x2 => some (.inl ((p4.1 <<< ((8 : Int32).toInt64 &&& 63)) ||| x2.toInt64, p4.2 + 1))) else none) else some (.inr p4.1))) else none)) (0, 0)) (fun x => x = nmL l) := by
    have len : stLen s a = some (Int32.ofNat l.length) := by
      unfold stLen
      rw [stC_r h, Option.bind_some]
      show some (txV l).length.toInt32 = _
      rw [show (txV l).length = l.length by unfold txV; rw [List.length_map]]
    have kk : isK s [0] a = true := isK_t h rfl
    refine wh_cnt l.length (fun n (p : Int64 × Int32) => p.2 = Int32.ofNat n ∧ p.1 = nmL (l.take n)) ?_ ?_ ⟨rfl, by rw [List.take_zero]; rfl⟩
    · rintro n ⟨_, _⟩ hn ⟨rfl, rfl⟩
      right
      dsimp only
      have at' : stAt s a (Int32.ofNat n) = some (Int32.ofNat (l.getD n 0)) := by
        unfold stAt
        rw [stC_r h, Option.bind_some, if_pos (i_nlt0 (by omega)), i_clamp (by omega)]
        unfold txV
        rw [List.getElem?_map, List.getElem?_eq_getElem hn, List.getD_eq_getElem?_getD, List.getElem?_eq_getElem hn]
        rfl
      rw [if_pos kk, len, Option.bind_some, if_pos ((i_lt (by omega) (by omega)).mpr hn), if_pos kk, at', Option.bind_some, i_suc]
      exact ⟨_, rfl, rfl, by show nmS _ _ = _; rw [nmL_s hn]⟩
    · rintro ⟨_, _⟩ ⟨rfl, rfl⟩
      dsimp only
      rw [if_pos kk, len, Option.bind_some, if_neg (fun z => Nat.lt_irrefl _ ((i_lt (by omega) (by omega)).mp z))]
      exact ⟨_, rfl, by rw [List.take_length]⟩
  obtain ⟨x, e, rfl⟩ := key
  rw [e, Option.bind_some]
end
