/-! building: portals, the reference whole -/
section
variable {t T : TS} {L : PLn} {nl nr : Nat} {st ln : Nat → Nat} {lab : Int → Int → Int} {nm : Nat → Int32} {nd : Nat → Nat} {g : List (Nat × Nat × Nat)}
theorem gapL_mono {l d i : Nat} : (gapL t L nl lab l d i).length ≤ (gapL t L nl lab l d (plst L nl l).length).length := by
  unfold gapL
  rw [List.length_map, List.length_map]
  refine List.Sublist.length_le (List.Sublist.filter _ ?_)
  rw [List.take_length]
  exact List.take_sublist _ _
theorem gap_pre (hg : gdL L nl) (n6 : ∀ l, l < nl → nd l ≤ 6) {l d i : Nat} (hl : l < nl) (hd : d < nd l) : ((gapA t L nl lab nd l ++ gapD t L nl lab l d) ++ gapL t L nl lab l d i).length ≤ 1320 := by
  have h1 := gapA_1320 (t := t) (lab := lab) hg (n := l + 1) (nd := nd) (fun k hk => n6 k (by omega))
  rw [gapA_s, List.length_append] at h1
  have h2 : (gapD t L nl lab l (d + 1)).length ≤ (gapD t L nl lab l (nd l)).length := by
    have : ∀ a b, (gapD t L nl lab l a).length ≤ (gapD t L nl lab l (a + b)).length := fun a b => by
      induction b with
      | zero => exact Nat.le_refl _
      | succ b ih => rw [show a + (b + 1) = (a + b) + 1 from rfl, gapD_s, List.length_append]; omega
    have := this (d + 1) (nd l - (d + 1))
    rwa [show d + 1 + (nd l - (d + 1)) = nd l by omega] at this
  rw [gapD_s, List.length_append] at h2
  rw [List.length_append, List.length_append]
  have := gapL_mono (t := t) (L := L) (nl := nl) (lab := lab) (l := l) (d := d) (i := i)
  omega
theorem t_pors (F : FT t L nl nr st ln lab nm) (hd : drR t L nl nd) (h100 : t.1 100 = Int32.ofNat nl) (h9 : t.1 9 = Int32.ofNat (spn L nl st ln nr)) (h10 : t.1 10 = 0) : ∃ T, t_584 t = some T ∧ PorS t T L nl lab (gapA t L nl lab nd nl) := by
  have hle := FT_le F
  have n20 := F.1.1
  have n6 : ∀ l, l < nl → nd l ≤ 6 := fun l hl => (hd l hl).2.2.2.1
  have key : ∀ X : Option TS, Tr X (fun T => PorS t T L nl lab (gapA t L nl lab nd nl)) → ∃ T, Option.bind X (fun v43 => some v43) = some T ∧ PorS t T L nl lab (gapA t L nl lab nd nl) := by
    rintro X ⟨S', rfl, h⟩
    exact ⟨S', rfl, h⟩
  unfold t_584
  refine key _ ?_
  refine wh_cnt nl (fun l (a : TS × Int32) => a.2 = Int32.ofNat l ∧ PorS t a.1 L nl lab (gapA t L nl lab nd l)) ?_ ?_ ⟨rfl, agr_refl, h10, fun k hk => absurd hk (Nat.not_lt_zero _)⟩
  · rintro l ⟨U, _⟩ hl ⟨rfl, hU⟩
    right
    dsimp only at hU ⊢
    rw [hU.1.1 100 (by simp), h100, if_pos ((i_lt (by omega) (by omega)).mpr hl)]
    have key2 : ∀ X : Option TS, Tr X (fun S' => PorS t S' L nl lab (gapA t L nl lab nd (l + 1))) → ∃ a', Option.bind X (fun v41 => (some (.inl (v41, Int32.ofNat l + 1)) : Option (Sum (TS × Int32) TS))) = some (.inl a') ∧ a'.2 = Int32.ofNat (l + 1) ∧ PorS t a'.1 L nl lab (gapA t L nl lab nd (l + 1)) := by
      rintro X ⟨S', rfl, h⟩
      exact ⟨_, rfl, i_suc l, h⟩
    refine key2 _ ?_
    refine wh_cnt (nd l) (fun d (a : TS × Int32) => a.2 = Int32.ofNat d ∧ PorS t a.1 L nl lab (gapA t L nl lab nd l ++ gapD t L nl lab l d)) ?_ ?_ ⟨rfl, by show PorS t U L nl lab (gapA t L nl lab nd l ++ []); rw [List.append_nil]; exact hU⟩
    · rintro d ⟨W, _⟩ hdd ⟨rfl, hW⟩
      right
      dsimp only at hW ⊢
      have FW := FT_por F hW.1
      have dW := drR_por hd hW.1
      have hn6 := n6 l hl
      rw [rdI_n (by omega) (by decide), (dW l hl).2.2.1, Option.bind_some, if_pos ((i_lt (by omega) (by omega)).mpr hdd), show t_722 (Int32.ofNat l) 0 W = _ from t_pieceOf FW (l := l) (n := 0) (by omega) (by omega), Option.bind_some, i_suc]
      have key3 : ∀ X : Option TS, Tr X (fun S' => PorS t S' L nl lab (gapA t L nl lab nd l ++ gapD t L nl lab l (d + 1))) → ∃ a', Option.bind X (fun v39 => (some (.inl (v39, Int32.ofNat (d + 1))) : Option (Sum (TS × Int32) TS))) = some (.inl a') ∧ a'.2 = Int32.ofNat (d + 1) ∧ PorS t a'.1 L nl lab (gapA t L nl lab nd l ++ gapD t L nl lab l (d + 1)) := by
        rintro X ⟨S', rfl, h⟩
        exact ⟨_, rfl, rfl, h⟩
      refine key3 _ ?_
      have plen : (plst L nl l).length ≤ nP L nl := by
        have := List.length_filter_le (fun p => decide (kL L nl p = l)) (List.range (nP L nl))
        rw [List.length_range] at this
        exact this
      refine wh_cnt (plst L nl l).length (fun i (a : TS × Int32 × Int32) => a.2 = ((if i < (plst L nl l).length then Int32.ofNat ((plst L nl l).getD i 0) else -1), Int32.ofNat (i + 1)) ∧ PorS t a.1 L nl lab ((gapA t L nl lab nd l ++ gapD t L nl lab l d) ++ gapL t L nl lab l d i)) ?_ ?_ ⟨rfl, by rw [gapL_0, List.append_nil]; exact hW⟩
      · rintro i ⟨V, _⟩ hi ⟨rfl, hV⟩
        right
        dsimp only at hV ⊢
        obtain ⟨p1, p2⟩ := plst_at hi
        have lb := gap_pre (t := t) (lab := lab) F.1 n6 hl hdd (i := i)
        obtain ⟨T', e1, e2⟩ := t_por1 F hd h9 hV (by omega) p1 (show d < nd (kL L nl ((plst L nl l).getD i 0)) by rw [p2]; exact hdd)
        rw [p2] at e1 e2
        rw [if_pos hi, if_neg (i_nlt0 (by omega)), e1, Option.bind_some, t_pieceOf (FT_por F e2.1) (by omega) (by omega), Option.bind_some, i_suc]
        refine ⟨_, rfl, rfl, ?_⟩
        rw [gapL_s hi, ← List.append_assoc]
        exact e2
      · rintro ⟨V, _⟩ ⟨rfl, hV⟩
        dsimp only at hV ⊢
        rw [if_neg (Nat.lt_irrefl _), if_pos (by decide)]
        refine ⟨_, rfl, ?_⟩
        rw [gapD_s, ← List.append_assoc]
        exact hV
    · rintro ⟨W, _⟩ ⟨rfl, hW⟩
      dsimp only at hW ⊢
      have dW := drR_por hd hW.1
      have hn6 := n6 l hl
      rw [rdI_n (by omega) (by decide), (dW l hl).2.2.1, Option.bind_some, if_neg (fun z => by have := (i_lt (by omega) (by omega)).mp z; omega)]
      refine ⟨_, rfl, ?_⟩
      rw [gapA_s]
      exact hW
  · rintro ⟨U, _⟩ ⟨rfl, hU⟩
    dsimp only at hU ⊢
    rw [hU.1.1 100 (by simp), h100, if_neg (fun z => by have := (i_lt (by omega) (by omega)).mp z; omega)]
    exact ⟨_, rfl, hU⟩
end
