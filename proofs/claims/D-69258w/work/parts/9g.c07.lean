/-! cells: smoke spreads, the component -/
theorem bsOr_r {s : CS} {a b : Nat} {xs ys : List Value} (h1 : s.1 a = some (true, false, 1003, xs)) (h2 : s.1 b = some (true, false, 1003, ys)) (hab : ¬ a = b) (hl : ys.length = 0 ∨ bit ys (ys.length - 1) = true) : ∃ zs, bsOr s a b = some (cput s 1003 a 1 (2 * (ys.length / 64) + 2) zs) ∧ zs.length = max xs.length ys.length ∧ ∀ k, bit zs k = (bit xs k || bit ys k) := by
  refine ⟨(List.range (max xs.length ys.length)).map (fun k => .int (if bit xs k || bit ys k then 1 else 0)), ?_, ?_, fun k => ?_⟩
  · unfold bsOr bsC cc
    rw [h1, h2]
    simp only [if_true, Option.bind_some]
    rw [if_pos ⟨hab, hl⟩]
  · simp
  · by_cases h : k < max xs.length ys.length
    · have : bit ((List.range (max xs.length ys.length)).map (fun k => Value.int (if bit xs k || bit ys k then 1 else 0))) k = (some (Value.int (if bit xs k || bit ys k then (1 : Int32) else 0)) == some (.int 1)) := by
        unfold bit
        rw [List.getElem?_map, List.getElem?_range h]; rfl
      rw [this]
      cases bit xs k || bit ys k <;> rfl
    · rw [bit_len (show xs.length ≤ k by omega), bit_len (show ys.length ≤ k by omega), bit_len (by simp; omega)]; rfl
def wcB (xs : List Value) : Nat := max 1 ((xs.length + 63) / 64)
theorem wcB_set {xs : List Value} {g : Nat} (hg : g < 576) : bsG xs g + wcB xs ≤ wcB (setB xs g) ∧ bsG xs g * (2 * (g / 64) + 2) + 20 * wcB xs ≤ 20 * wcB (setB xs g) := by
  unfold wcB bsG
  rw [setB_len]
  by_cases h : g < 64 ∨ g / 64 < (xs.length + 63) / 64
  · rw [if_pos h]
    have : (xs.length + 63) / 64 ≤ (max xs.length (g + 1) + 63) / 64 := Nat.div_le_div_right (by omega)
    omega
  · rw [if_neg h]
    have h1 : max 1 ((xs.length + 63) / 64) ≤ g / 64 := by omega
    have h2 : g / 64 + 1 ≤ (max xs.length (g + 1) + 63) / 64 := by omega
    omega
/-- smoke comes from a cell below j, or from j in a direction below m -/
def frS (xs : List Value) (t : TS) (nl j m k : Nat) : Prop := ∃ c d, bit xs c = true ∧ d < 4 ∧ (c < j ∨ (c = j ∧ d < m)) ∧ bsd c d = k ∧ psB t nl d (cX c) (cY c)
/-- the new smoke being made -/
def SpI (s7 S : CS) (xs : List Value) (t : TS) (nl n3 j m : Nat) : Prop := ∃ ys : List Value, S.1 n3 = some (true, false, 1003, ys) ∧ (ys.length = 0 ∨ bit ys (ys.length - 1) = true) ∧ (∀ k, bit ys k = true ↔ k < 576 ∧ (bit xs k = true ∨ frS xs t nl j m k)) ∧ (∀ q, q ≠ n3 → S.1 q = s7.1 q) ∧ S.2.1 = s7.2.1 ∧ wfS S ∧ S.2.2.1 + 1 ≤ s7.2.2.1 + wcB ys ∧ S.2.2.2 + 20 ≤ s7.2.2.2 + 20 * wcB ys
theorem SpI_cg {s7 S : CS} {xs : List Value} {t : TS} {nl n3 j m j' m' : Nat} (h : SpI s7 S xs t nl n3 j m) (e : ∀ k, frS xs t nl j m k ↔ frS xs t nl j' m' k) : SpI s7 S xs t nl n3 j' m' := by
  obtain ⟨ys, h1, h2, h3, h4⟩ := h
  exact ⟨ys, h1, h2, fun k => by rw [h3, e], h4⟩
section
variable {own : Nat → Nat} {s : CS} {t : TS} {nl nr nd sm : Nat} {W : Nat → Nat} {e q g wn : Nat → Int32} {sc : Nat → Nat}
theorem edg_ps {h : lHeap} {nd : Nat} {W : Nat → Nat} {q : Nat → Int32} {e : Int32} {c d : Nat} (hl : nl ≤ 20) (hn : nd < 10000) (r : edgR h t nl nd W q e c d) : e = -2 ↔ ¬ psB t nl d (cX c) (cY c) := by
  unfold psB
  rcases r with ⟨h1, h2⟩ | ⟨l, h1, h2, h3⟩
  · rw [h2]
    exact ⟨fun z => absurd z (by decide), fun z => absurd (Or.inl h1) z⟩
  · have h4 : ¬ lnb t d (cX c) (cY c) nl = -1 := by rw [h2]; exact i_ne1 (by omega)
    rw [h2, bN_of (by omega)]
    rcases h3 with ⟨h5, h6⟩ | ⟨h5, k, hk, h6, _⟩
    · rw [h6]
      exact ⟨fun _ z => by rcases z with z | z; exact i_ne1 (by omega) z; exact z h5, fun _ => rfl⟩
    · rw [h6]
      refine ⟨fun z => ?_, fun z => absurd (Or.inr h5) z⟩
      have := i_nlt0 (k := k) (by omega)
      rw [z] at this
      exact absurd (show (-2 : Int32) < 0 by decide) this
theorem sp_step {s7 S : CS} {xs : List Value} {n3 c d : Nat} (hK : K9 s7.1) (r : R9x s7.1 t nl nr nd sm W e q g wn sc) (hb : t.1 1 ≠ 0) (h3 : 179 ≤ n3) (hc : c < 576) (hd : d < 4) (hx : bit xs c = true) (h : SpI s7 S xs t nl n3 c d) : ∃ S', Option.bind (c_543 (Int32.ofNat c) (Int32.ofNat d) S) (fun x11 => Option.bind ((if x11 = (-1) then some S else Option.bind (xN S [(50, 3)] 170) (fun a12 => Option.bind (aI S [0, 12] a12 ((4 * Int32.ofNat c) + Int32.ofNat d)) (fun x13 => (if x13 = (-2) then some S else (if isK S [3] n3 = true then Option.bind (bsSet S n3 x11) (fun s14 => some s14) else none)))))) (fun v48 => some (Sum.inl (β := CS) (v48, Int32.ofNat d + 1)))) = some (.inl (S', Int32.ofNat (d + 1))) ∧ SpI s7 S' xs t nl n3 c (d + 1) := by
  obtain ⟨ys, h1, h2, h3', h4, h5, h6, h7, h8⟩ := h
  obtain ⟨⟨a1, a2, a3, _⟩, _, _, _, hbb, _⟩ := r
  obtain ⟨b1, b2, b3, b4, b5, b6, b7⟩ := hbb hb
  have hK' : K9 S.1 := by
    obtain ⟨⟨w1, k1⟩, w2, k2⟩ := hK
    exact ⟨⟨w1, (h4 61 (by omega)).trans k1⟩, w2, (h4 62 (by omega)).trans k2⟩
  have a1' : S.1 170 = _ := (h4 170 (by omega)).trans a1
  have a3' : S.1 172 = _ := (h4 172 (by omega)).trans a3
  have hed := edg_ps (by exact b1.2.1) (by omega) (b7 c d hc hd)
  have fr : ∀ k, frS xs t nl c (d + 1) k ↔ frS xs t nl c d k ∨ (bsd c d = k ∧ psB t nl d (cX c) (cY c)) := fun k => by
    constructor
    · rintro ⟨c', d', g1, g2, g3, g4, g5⟩
      by_cases z : c' = c ∧ d' = d
      · obtain ⟨rfl, rfl⟩ := z
        exact Or.inr ⟨g4, g5⟩
      · exact Or.inl ⟨c', d', g1, g2, by omega, g4, g5⟩
    · rintro (⟨c', d', g1, g2, g3, g4, g5⟩ | ⟨g4, g5⟩)
      · exact ⟨c', d', g1, g2, by omega, g4, g5⟩
      · exact ⟨c, d, hx, hd, by omega, g4, g5⟩
  have keep : (∀ k, k < 576 → ¬ (bsd c d = k ∧ psB t nl d (cX c) (cY c))) → SpI s7 S xs t nl n3 c (d + 1) := fun hn => by
    refine ⟨ys, h1, h2, fun k => ?_, h4, h5, h6, h7, h8⟩
    rw [h3', fr]
    constructor
    · rintro ⟨g1, g2⟩
      exact ⟨g1, g2.imp id Or.inl⟩
    · rintro ⟨g1, g2 | g2 | g2⟩
      · exact ⟨g1, Or.inl g2⟩
      · exact ⟨g1, Or.inr g2⟩
      · exact absurd g2 (hn k g1)
  rw [c_bes hK' hc hd, Option.bind_some]
  by_cases z : bsd c d = 576
  · rw [if_pos z, if_pos rfl, Option.bind_some, i_suc]
    exact ⟨S, rfl, keep (fun k hk g => by omega)⟩
  · have hlt := ((grd hc hd).2 z).2.2
    rw [if_neg z, if_neg (i_ne1 (by omega)), xN_o (b := 172) a1' rfl rfl, Option.bind_some, i_mulL, i_add, aI_r a3' (by omega) rfl (by omega) (by omega) rfl, Option.bind_some]
    by_cases w : e (4 * c + d) = -2
    · rw [if_pos w, Option.bind_some, i_suc]
      exact ⟨S, rfl, keep (fun k hk g => hed.mp w g.2)⟩
    · have hp : psB t nl d (cX c) (cY c) := Classical.not_not.mp (fun u => w (hed.mpr u))
      rw [if_neg w, if_pos (isK_t h1 rfl), bsSet_r h1 (by omega), Option.bind_some, Option.bind_some, i_suc]
      have hwc := wcB_set (xs := ys) hlt
      refine ⟨_, rfl, setB ys (bsd c d), cput_eq .., setB_last h2, fun k => ?_, fun q hq => (cput_ne hq).trans (h4 q hq), h5, wf_cup h6 (wf_lt h6 h1), ?_, ?_⟩
      · rw [bit_setB, fr]
        by_cases u : k = bsd c d
        · rw [if_pos u]
          exact ⟨fun _ => ⟨by omega, Or.inr (Or.inr ⟨u.symm, hp⟩)⟩, fun _ => rfl⟩
        · rw [if_neg u, h3']
          constructor
          · rintro ⟨g1, g2⟩
            exact ⟨g1, g2.imp id Or.inl⟩
          · rintro ⟨g1, g2 | g2 | g2⟩
            · exact ⟨g1, Or.inl g2⟩
            · exact ⟨g1, Or.inr g2⟩
            · exact absurd g2.1.symm u
      · show S.2.2.1 + bsG ys (bsd c d) + 1 ≤ _
        omega
      · show S.2.2.2 + bsG ys (bsd c d) * (2 * (bsd c d / 64) + 2) + 20 ≤ _
        omega
theorem sp_cell {s7 S : CS} {xs : List Value} {n3 c : Nat} (hK : K9 s7.1) (r : R9x s7.1 t nl nr nd sm W e q g wn sc) (hb : t.1 1 ≠ 0) (h3 : 179 ≤ n3) (hc : c < 576) (hx : bit xs c = true) (h : SpI s7 S xs t nl n3 c 0) : ∃ S', wh (S := CS × Int32) (X := CS) (fun p24 : CS × Int32 => Option.bind (aLen p24.1 61) (fun x10 => (if p24.2 < x10 then Option.bind (c_543 (Int32.ofNat c) p24.2 p24.1) (fun x11 => Option.bind ((if x11 = (-1) then some p24.1 else Option.bind (xN p24.1 [(50, 3)] 170) (fun a12 => Option.bind (aI p24.1 [0, 12] a12 ((4 * (Int32.ofNat c)) + p24.2)) (fun x13 => (if x13 = (-2) then some p24.1 else (if isK p24.1 [3] n3 = true then Option.bind (bsSet p24.1 n3 x11) (fun s14 => some s14) else none)))))) (fun v48 => some (Sum.inl (β := CS) (v48, p24.2 + 1)))) else some (.inr p24.1)))) (S, 0) = some S' ∧ SpI s7 S' xs t nl n3 (c + 1) 0 := by
  refine wh_cnt 4 (fun m a => a.2 = Int32.ofNat m ∧ SpI s7 a.1 xs t nl n3 c m) ?_ ?_ ⟨rfl, h⟩
  · rintro m ⟨U, _⟩ hm ⟨rfl, u⟩
    right
    dsimp only at u ⊢
    obtain ⟨S', e1, e2⟩ := sp_step hK r hb h3 hc hm hx u
    obtain ⟨ys, _, _, _, h4, _⟩ := u
    obtain ⟨⟨w1, k1⟩, _⟩ := hK
    have k1' : U.1 61 = _ := (h4 61 (by omega)).trans k1
    exact ⟨_, by rw [aLen_r k1' (by omega), Option.bind_some, if_pos ((i_lt (by omega) (by omega)).mpr hm)]; exact e1, rfl, e2⟩
  · rintro ⟨U, _⟩ ⟨rfl, u⟩
    dsimp only at u ⊢
    have u' := u
    obtain ⟨ys, _, _, _, h4, _⟩ := u
    obtain ⟨⟨w1, k1⟩, _⟩ := hK
    have k1' : U.1 61 = _ := (h4 61 (by omega)).trans k1
    refine ⟨U, by rw [aLen_r k1' (by omega), Option.bind_some, if_neg (by rw [i_lt (by omega) (by omega)]; omega)], SpI_cg u' (fun k => ?_)⟩
    constructor
    · rintro ⟨c', d', g1, g2, g3, g4, g5⟩
      exact ⟨c', d', g1, g2, by omega, g4, g5⟩
    · rintro ⟨c', d', g1, g2, g3, g4, g5⟩
      exact ⟨c', d', g1, g2, by omega, g4, g5⟩
end
