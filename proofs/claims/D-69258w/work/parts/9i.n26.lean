/-! the plan: names go over, told plainly; the reference -/
def cmN (labo lab : Int → Int → Int) (o s : Nat) : Nat := (cmA labo lab o s).toNat
theorem cmN_i (labo lab : Int → Int → Int) (o s : Nat) : Int32.ofInt (cmA labo lab o s) = Int32.ofNat (cmN labo lab o s) := by
  have := cmA_nn (labo := labo) (lab := lab) o s
  rw [← i_ofI]
  unfold cmN
  rw [Int.toNat_of_nonneg this]
theorem cmN_le (labo lab : Int → Int → Int) (o s : Nat) : cmN labo lab o s ≤ 576 := by
  have := cmA_le (labo := labo) (lab := lab) o s
  unfold cmN
  omega
/-- the space that has most of an old one -/
def bsO (A : Nat → Nat) : Nat → Option Nat × Nat
  | 0 => (none, 0)
  | s + 1 => if (bsO A s).2 < A s then (some s, A s) else bsO A s
def crO (best : Option Nat × Nat) (nm : Int32) (p : (Nat → Nat) × (Nat → Int32)) : (Nat → Nat) × (Nat → Int32) := match best.1 with
  | some b => if p.1 b < best.2 then (fun q => if q = b then best.2 else p.1 q, fun q => if q = b then nm else p.2 q) else p
  | none => p
def crN (A : Nat → Nat → Nat) (onm : Nat → Int32) (ns : Nat) : Nat → (Nat → Nat) × (Nat → Int32)
  | 0 => (fun _ => 0, fun _ => 0)
  | o + 1 => crO (if 0 < onm o then bsO (A o) ns else (none, 0)) (onm o) (crN A onm ns o)
theorem bsO_le {A : Nat → Nat} (h : ∀ s, A s ≤ 576) (n : Nat) : (bsO A n).2 ≤ 576 ∧ ∀ b, (bsO A n).1 = some b → b < n := by
  induction n with
  | zero => exact ⟨Nat.zero_le _, fun b h => by cases h⟩
  | succ n ih =>
    unfold bsO
    split
    · exact ⟨h n, fun b e => by cases e; omega⟩
    · exact ⟨ih.1, fun b e => by have := ih.2 b e; omega⟩
theorem crO_le {best : Option Nat × Nat} {nm : Int32} {p : (Nat → Nat) × (Nat → Int32)} {k : Nat} (hm : best.2 ≤ 576) (hp : p.1 k ≤ 576) : (crO best nm p).1 k ≤ 576 := by
  obtain ⟨b, m⟩ := best
  unfold crO
  cases b with
  | none => exact hp
  | some b =>
    dsimp only
    split
    · dsimp only
      split
      · exact hm
      · exact hp
    · exact hp
theorem crN_le {A : Nat → Nat → Nat} (h : ∀ o s, A o s ≤ 576) (onm : Nat → Int32) (ns n k : Nat) : (crN A onm ns n).1 k ≤ 576 := by
  induction n with
  | zero => exact Nat.zero_le _
  | succ n ih =>
    refine crO_le ?_ ih
    split
    · exact (bsO_le (h n) ns).1
    · exact Nat.zero_le _
section
variable {L Lo : PLn} {nl no : Nat} {lab labo : Int → Int → Int} {T t : TS} {ps : List Nat}
theorem TOl_cg {I R : List Nat} (h : TOl t Lo no labo) (a : agr I R t T) (h0 : 119 ∉ I ∧ 120 ∉ I) (h1 : 61 ∉ R ∧ 62 ∉ R ∧ 63 ∉ R) : TOl T Lo no labo := by
  unfold TOl
  rw [a.1 _ h0.1, a.1 _ h0.2, a.2.2.1 _ h1.2.2]
  exact ⟨h.1, h.2.1, rwR_cg h.2.2.1 (a.2.2.1 _ h1.1), rwR_cg h.2.2.2.1 (a.2.2.1 _ h1.2.1), h.2.2.2.2⟩
theorem lbR_cg {I R : List Nat} (h : lbR t L nl lab) (a : agr I R t T) (h1 : 60 ∉ R) : lbR T L nl lab := by
  unfold lbR
  rw [a.2.2.1 _ h1]
  exact h
theorem t_carry (hg : gdL L nl) (G : gLab (gS L nl) (2 * nP L nl) lab) (ho : lab (-1) (-1) = -1) (hw : lbW lab) (hT : edR t L nl) (hL : lbR t L nl lab) (hgo : gdL Lo no) (Go : gLab (gS Lo no) (2 * nP Lo no) labo) (hoo : labo (-1) (-1) = -1) (hwo : lbW labo) (hO : TOl t Lo no labo) {ns os : Nat} {onm : Nat → Int32} (hs : t.1 117 = Int32.ofNat ns) (hs4 : ns ≤ 400) (hos : t.1 124 = Int32.ofNat os) (hos4 : os ≤ 400) (hnm : ∀ o, o < os → t.2.2.1 65 o = onm o) (h64 : ∀ k, k < ns → t.2.2.1 64 k = 0) : Tr (t_704 t) (fun T => agr [] [64, 75] t T ∧ ∀ k, k < ns → T.2.2.1 64 k = (crN (cmN labo lab) onm ns os).2 k) := by
  unfold t_704
  refine Tr.bd (P := fun U => agr [] [75] t U ∧ ∀ k, k < ns → U.2.2.1 75 k = 0) (wh_cnt ns (fun k a => a.2 = Int32.ofNat k ∧ agr [] [75] t a.1 ∧ ∀ j, j < k → a.1.2.2.1 75 j = 0) ?_ ?_ ⟨rfl, agr_refl, fun j hj => absurd hj (Nat.not_lt_zero _)⟩) ?_
  · rintro k ⟨U, _⟩ hk ⟨rfl, a, q⟩
    right
    dsimp only at a q ⊢
    rw [a.1 117 (by simp), hs, if_pos ((i_lt (by omega) (by omega)).mpr hk), stI_n (by omega) (by omega), i_suc]; repeat (first | rw [Option.bind_some] | rw [Sum.elim_inl] | rw [Sum.elim_inr])
    refine ⟨_, rfl, rfl, agr_w a (by simp), fun j hj => ?_⟩
    dsimp only
    rw [wr_at]
    by_cases e : j = k
    · rw [if_pos ⟨rfl, e⟩]
    · rw [if_neg (fun z => e z.2)]; exact q j (by omega)
  · rintro ⟨U, _⟩ ⟨rfl, a, q⟩
    dsimp only at a q ⊢
    exact ⟨U, by rw [a.1 117 (by simp), hs, if_neg (fun z => by have := (i_lt (by omega) (by omega)).mp z; omega)], a, q⟩
  rintro U ⟨a, q⟩
  refine Tr.bd (P := fun T => agr [] [64, 75] t T ∧ ∀ k, k < ns → T.2.2.1 64 k = (crN (cmN labo lab) onm ns os).2 k) (wh_cnt os (fun o x => x.2 = Int32.ofNat o ∧ agr [] [64, 75] t x.1 ∧ ∀ k, k < ns → x.1.2.2.1 64 k = (crN (cmN labo lab) onm ns o).2 k ∧ x.1.2.2.1 75 k = Int32.ofNat ((crN (cmN labo lab) onm ns o).1 k)) ?_ ?_ ⟨rfl, agr_mono a (by simp) (by simp), fun k hk => ⟨?_, q k hk⟩⟩) (fun v hv => Tr.ok hv)
  · rintro o ⟨V, _⟩ ho1 ⟨rfl, b, w⟩
    right
    dsimp only at b w ⊢
    have hV := edR_cg hT b (by simp) (by simp)
    have hLV := lbR_cg hL b (by simp)
    have hOV := TOl_cg hO b (by simp) (by simp)
    rw [b.1 124 (by simp), hos, if_pos ((i_lt (by omega) (by omega)).mpr ho1), i_suc]
    have e65 : rdI V 65 400 (Int32.ofNat o) = some (onm o) := by rw [rdI_n (by omega) (by omega), b.2.2.1 65 (by simp), hnm o ho1]
    have key : Tr (wh (S := Int32 × Int32 × Int32) (X := Int32 × Int32) (fun p25 => (if p25.2.2 < (V.1 117) then Option.bind (rdI V 65 400 (Int32.ofNat o)) (fun x2 => (if 0 < x2 then Option.bind (t_705 (Int32.ofNat o) p25.2.2 V) (fun x3 => Option.bind ((if p25.2.1 < x3 then some p25.2.2 else some p25.1)) (fun v45 => Option.bind ((if p25.2.1 < x3 then some x3 else some p25.2.1)) (fun v52 => some (.inl (v45, v52, p25.2.2 + 1))))) else some (.inr (p25.1, p25.2.1)))) else some (.inr (p25.1, p25.2.1)))) (-1, 0, 0)) (fun x => x.1 = lvI (if 0 < onm o then bsO (cmN labo lab o) ns else (none, 0)).1 ∧ x.2 = Int32.ofNat (if 0 < onm o then bsO (cmN labo lab o) ns else (none, 0)).2) := by
      by_cases zn : 0 < onm o
      · rw [if_pos zn]
        refine wh_cnt ns (fun s (x : Int32 × Int32 × Int32) => x.2.2 = Int32.ofNat s ∧ x.1 = lvI (bsO (cmN labo lab o) s).1 ∧ x.2.1 = Int32.ofNat (bsO (cmN labo lab o) s).2) ?_ ?_ ⟨rfl, rfl, rfl⟩
        · rintro s ⟨x, y, _⟩ hs1 ⟨rfl, hx, hy⟩
          right
          dsimp only at hx hy ⊢
          have c1 := cmN_le labo lab o s
          have c2 := (bsO_le (cmN_le labo lab o) s).1
          rw [b.1 117 (by simp), hs, if_pos ((i_lt (by omega) (by omega)).mpr hs1), e65]; repeat (first | rw [Option.bind_some] | rw [Sum.elim_inl] | rw [Sum.elim_inr])
          rw [if_pos zn, t_common hg G ho hw hV hLV hgo Go hoo hwo hOV (by omega) (by omega), cmN_i]; repeat (first | rw [Option.bind_some] | rw [Sum.elim_inl] | rw [Sum.elim_inr])
          rw [hx, hy, i_suc]
          refine ⟨(lvI (bsO (cmN labo lab o) (s + 1)).1, Int32.ofNat (bsO (cmN labo lab o) (s + 1)).2, Int32.ofNat (s + 1)), ?_, rfl, rfl, rfl⟩
          rw [show bsO (cmN labo lab o) (s + 1) = if (bsO (cmN labo lab o) s).2 < cmN labo lab o s then (some s, cmN labo lab o s) else bsO (cmN labo lab o) s from rfl]
          by_cases z : (bsO (cmN labo lab o) s).2 < cmN labo lab o s
          · rw [if_pos ((i_lt (by omega) (by omega)).mpr z), if_pos z]; repeat (first | rw [Option.bind_some] | rw [Sum.elim_inl] | rw [Sum.elim_inr])
            rw [if_pos ((i_lt (by omega) (by omega)).mpr z)]; repeat (first | rw [Option.bind_some] | rw [Sum.elim_inl] | rw [Sum.elim_inr])
            rfl
          · rw [if_neg (fun w => z ((i_lt (by omega) (by omega)).mp w)), if_neg z]; repeat (first | rw [Option.bind_some] | rw [Sum.elim_inl] | rw [Sum.elim_inr])
            rw [if_neg (fun w => z ((i_lt (by omega) (by omega)).mp w))]; repeat (first | rw [Option.bind_some] | rw [Sum.elim_inl] | rw [Sum.elim_inr])
        · rintro ⟨x, y, _⟩ ⟨rfl, hx, hy⟩
          dsimp only at hx hy ⊢
          exact ⟨(x, y), by rw [b.1 117 (by simp), hs, if_neg (fun z => by have := (i_lt (by omega) (by omega)).mp z; omega)], hx, hy⟩
      · rw [if_neg zn]
        refine ⟨(-1, 0), wh_inr ?_, rfl, rfl⟩
        dsimp only
        split
        · rw [e65, Option.bind_some, if_neg zn]
        · rfl
    obtain ⟨⟨x, y⟩, e, hx, hy⟩ := key
    dsimp only at hx hy
    rw [e]; repeat (first | rw [Option.bind_some] | rw [Sum.elim_inl] | rw [Sum.elim_inr])
    dsimp only
    rw [hx, hy]
    have hN : crN (cmN labo lab) onm ns (o + 1) = crO (if 0 < onm o then bsO (cmN labo lab o) ns else (none, 0)) (onm o) (crN (cmN labo lab) onm ns o) := rfl
    have hb : ∀ q, (if 0 < onm o then bsO (cmN labo lab o) ns else (none, 0)).1 = some q → q < ns := by
      intro q hq
      split at hq
      · exact (bsO_le (cmN_le labo lab o) ns).2 q hq
      · cases hq
    have hm : (if 0 < onm o then bsO (cmN labo lab o) ns else (none, 0)).2 ≤ 576 := by
      split
      · exact (bsO_le (cmN_le labo lab o) ns).1
      · exact Nat.zero_le _
    rw [hN]
    generalize (if 0 < onm o then bsO (cmN labo lab o) ns else (none, 0)) = best at hb hm ⊢
    obtain ⟨bo, m⟩ := best
    dsimp only at hb hm ⊢
    cases bo with
    | none =>
      rw [show lvI none = -1 from rfl, if_pos (by decide)]; repeat (first | rw [Option.bind_some] | rw [Sum.elim_inl] | rw [Sum.elim_inr])
      exact ⟨_, rfl, rfl, b, w⟩
    | some k =>
      have hk := hb k rfl
      have c3 := crN_le (cmN_le labo lab) onm ns o k
      rw [show lvI (some k) = Int32.ofNat k from rfl, if_neg (i_nlt0 (by omega)), rdI_n (by omega) (by omega), (w k hk).2]; repeat (first | rw [Option.bind_some] | rw [Sum.elim_inl] | rw [Sum.elim_inr])
      unfold crO
      dsimp only
      by_cases z : (crN (cmN labo lab) onm ns o).1 k < m
      · rw [if_pos ((i_lt (by omega) (by omega)).mpr z), if_pos z, stI_n (by omega) (by omega)]; repeat (first | rw [Option.bind_some] | rw [Sum.elim_inl] | rw [Sum.elim_inr])
        have e66 : rdI (wrI V 75 k (Int32.ofNat m)) 65 400 (Int32.ofNat o) = some (onm o) := by
          rw [rdI_n (by omega) (by omega), wr_at, if_neg (by omega), b.2.2.1 65 (by simp), hnm o ho1]
        rw [e66]; repeat (first | rw [Option.bind_some] | rw [Sum.elim_inl] | rw [Sum.elim_inr])
        rw [stI_n (by omega) (by omega)]; repeat (first | rw [Option.bind_some] | rw [Sum.elim_inl] | rw [Sum.elim_inr])
        refine ⟨_, rfl, rfl, agr_w (agr_w b (by simp)) (by simp), fun j hj => ⟨?_, ?_⟩⟩
        · dsimp only
          rw [wr_at]
          by_cases e : j = k
          · rw [if_pos ⟨rfl, e⟩, if_pos e]
          · rw [if_neg (fun y => e y.2), if_neg e, wr_at, if_neg (by omega)]; exact (w j hj).1
        · dsimp only
          rw [wr_at, if_neg (by omega), wr_at]
          by_cases e : j = k
          · rw [if_pos ⟨rfl, e⟩, if_pos e]
          · rw [if_neg (fun y => e y.2), if_neg e]; exact (w j hj).2
      · rw [if_neg (fun y => z ((i_lt (by omega) (by omega)).mp y)), if_neg z]; repeat (first | rw [Option.bind_some] | rw [Sum.elim_inl] | rw [Sum.elim_inr])
        exact ⟨_, rfl, rfl, b, w⟩
  · rintro ⟨V, _⟩ ⟨rfl, b, w⟩
    dsimp only at b w ⊢
    exact ⟨V, by rw [b.1 124 (by simp), hos, if_neg (fun z => by have := (i_lt (by omega) (by omega)).mp z; omega)], b, fun k hk => (w k hk).1⟩
  · dsimp only
    rw [a.2.2.1 64 (by simp)]
    exact h64 k hk
end
