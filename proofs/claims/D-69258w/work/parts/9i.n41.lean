/-! the plan: what the component has found; in which space a unit is -/
noncomputable def lkF (L : PLn) (nl nr : Nat) (st ln : Nat → Nat) (j : Nat) : Nat := @dite _ (j < spn L nl st ln nr) (Classical.propDecidable _) (fun h => (spn_at h).choose) (fun _ => 0)
theorem lkF_o {L : PLn} {nl nr : Nat} {st ln : Nat → Nat} {j : Nat} (h : j < spn L nl st ln nr) : lkF L nl nr st ln j < nr ∧ lfB L nl st ln (lkF L nl nr st ln j) = true ∧ spn L nl st ln (lkF L nl nr st ln j) = j := by
  unfold lkF
  rw [dif_pos h]
  exact (spn_at h).choose_spec
theorem lkF_s {L : PLn} {nl nr : Nat} {st ln : Nat → Nat} {k : Nat} (hk : k < nr) (h : lfB L nl st ln k = true) : lkF L nl nr st ln (spn L nl st ln k) = k := by
  obtain ⟨_, b, c⟩ := lkF_o (nr := nr) (spn_lt hk h)
  exact spn_inj b h c
/-- the cell of a space -/
def spo (ou : Nat) (sp : Nat → Nat) (F : Int) : Nat := if F = -1 then ou else sp F.toNat
def FD (b0 : Nat) (h : lHeap) (L : PLn) (nl nr : Nat) (st ln LC : Nat → Nat) (fd fL ou ol mp : Nat) (pid nid aid : Nat → Nat → Nat) (si rc rl sp sl : Nat → Nat) (rsv : Nat → Value) (nm : Nat → Int32) (inn : Int → List Nat) : Prop :=
  (∃ rv, GSt b0 h L nl LC mp pid nid aid si rv ∧ ∀ j k, k < nr → j ∈ rgs L nl st ln k → rv j = .ref (rc k))
  ∧ h fd = some (true, false, 61, [.ref fL, .ref ou, .ref mp, .int (Int32.ofNat (nP L nl))])
  ∧ (∃ m : Int32, h fL = some (true, false, 1013, .int m :: rowC (fun j => .ref (sp j)) (spn L nl st ln nr)))
  ∧ (h ou = some (true, false, 62, [.int (-1), .null, .ref ol, .int 0]) ∧ ∃ m : Int32, h ol = some (true, false, 1013, .int m :: (inn (-1)).map (fun k => .ref (rc k))))
  ∧ (∀ j, j < spn L nl st ln nr → h (sp j) = some (true, false, 62, [.int (Int32.ofNat j), .ref (rc (lkF L nl nr st ln j)), .ref (sl j), .int (nm j)]) ∧ b0 ≤ sp j ∧ b0 ≤ sl j ∧ ∃ m : Int32, h (sl j) = some (true, false, 1013, .int m :: (inn j).map (fun k => .ref (rc k))))
  ∧ (∀ k, k < nr → b0 ≤ rc k ∧ b0 ≤ rl k ∧ h (rc k) = some (rgC L nl st ln nid rl (rsv k) k) ∧ ∃ m : Int32, h (rl k) = some (true, false, 1013, .int m :: rowC (fun j => .ref (si (itn (gNx L nl) j (st k)))) (ln k)))
  ∧ (∀ k k', k < nr → k' < nr → rc k = rc k' → k = k') ∧ (∀ j k, j < spn L nl st ln nr → k < spn L nl st ln nr → sp j = sp k → j = k) ∧ (∀ j, j < spn L nl st ln nr → sp j ≠ ou) ∧ b0 ≤ fd ∧ b0 ≤ fL ∧ b0 ≤ ou ∧ b0 ≤ ol
theorem gxr_app (g : SD) (i j : Int) (l m : List Nat) (b : Bool) : gxr g i j (l ++ m) b = gxr g i j m (gxr g i j l b) := by
  induction l generalizing b with
  | nil => rfl
  | cons s r ih => exact ih _
theorem ofI_lt {a b : Int} (ha : -1000000 ≤ a) (ha2 : a ≤ 1000000) (hb : -1000000 ≤ b) (hb2 : b ≤ 1000000) : Int32.ofInt a < Int32.ofInt b ↔ a < b := by
  rw [Int32.lt_iff_toInt_lt, Int32.toInt_ofInt_of_le (by omega) (by omega), Int32.toInt_ofInt_of_le (by omega) (by omega)]
section
variable {L : PLn} {nl nr : Nat} {st ln : Nat → Nat} {lab : Int → Int → Int} {LC : Nat → Nat} {b0 : Nat} {s : CS} {fd fL ou ol mp : Nat} {pid nid aid : Nat → Nat → Nat} {si rc rl sp sl : Nat → Nat} {rsv : Nat → Value} {nm : Nat → Int32} {inn : Int → List Nat} {rv : Nat → Value}
/-- whether a unit is inside a ring -/
theorem c_inR (hg : gdL L nl) (hR : RF L nl nr st ln) (r : GSt b0 s.1 L nl LC mp pid nid aid si rv) {k R lst : Nat} {a b c : Value} {mc : Int32} (hk : k < nr) (h1 : s.1 R = some (true, false, 66, [.ref lst, a, b, c])) (h2 : s.1 lst = some (true, false, 1013, .int mc :: rowC (fun j => .ref (si (itn (gNx L nl) j (st k)))) (ln k))) {xi yj i j : Int} (hx : ∀ q, q < 2 * nP L nl → ((2 * (sX L nl q : Int) < xi) ↔ (sX L nl q : Int) ≤ i)) (hy : yj = 2 * j ∨ yj = 2 * j + 1) (bx : -1000 ≤ xi ∧ xi ≤ 1000) (bj : -1000 ≤ yj ∧ yj ≤ 1000) : c_888 R (Int32.ofInt xi) (Int32.ofInt yj) s = some (if gxr (gS L nl) i j (rgs L nl st ln k) false = true then 1 else 0) := by
  have hN := nP_le hg
  obtain ⟨k1, k2, k3, k4⟩ := hR.1 k hk
  have lnN : ln k ≤ 2 * nP L nl := by
    have := lnS_le hg hR (od := [k]) (by simp) (fun q hq => by simp at hq; rw [hq]; exact hk)
    simpa [lnS] using this
  unfold c_888
  refine tr_eq (Tr.bd (P := fun v => v = if gxr (gS L nl) i j (rgs L nl st ln k) false = true then 1 else 0) (wh_cnt (ln k) (fun q (x : Int32 × Int32) => x.2 = Int32.ofNat q ∧ x.1 = if gxr (gS L nl) i j (orb (gNx L nl) q (st k)) false = true then 1 else 0) ?_ ?_ ⟨rfl, rfl⟩) ?_)
  · rintro q ⟨v, _⟩ hq ⟨rfl, hv⟩
    right
    dsimp only at hv ⊢
    rw [xN_o (b := lst) h1 rfl rfl]; repeat (first | rw [Option.bind_some] | rw [Sum.elim_inl] | rw [Sum.elim_inr])
    rw [if_pos (isK_t h2 rfl), alSize_r h2]; repeat (first | rw [Option.bind_some] | rw [Sum.elim_inl] | rw [Sum.elim_inr])
    rw [if_pos ((i_lt (by omega) (by omega)).mpr hq), if_pos (isK_t h2 rfl), alGet_r h2 hq (by omega)]; repeat (first | rw [Option.bind_some] | rw [Sum.elim_inl] | rw [Sum.elim_inr])
    have hm := itn_lt gNx_lt k1 q
    have e : orb (gNx L nl) (q + 1) (st k) = orb (gNx L nl) q (st k) ++ [itn (gNx L nl) q (st k)] := by unfold orb; rw [List.range_succ, List.map_append]; rfl
    generalize itn (gNx L nl) q (st k) = d at *
    obtain ⟨y1, y2, y3, y4, y5, y6, y7⟩ := GSt_sd hg r hm
    have bk := sX_i hg hm
    rw [toN_o y1 rfl]; repeat (first | rw [Option.bind_some] | rw [Sum.elim_inl] | rw [Sum.elim_inr])
    rw [xN_o (b := nid (sX L nl d) (sY L nl d)) y1 rfl rfl]; repeat (first | rw [Option.bind_some] | rw [Sum.elim_inl] | rw [Sum.elim_inr])
    rw [xN_o (b := pid (sX L nl d) (sY L nl d)) y2 rfl rfl]; repeat (first | rw [Option.bind_some] | rw [Sum.elim_inl] | rw [Sum.elim_inr])
    rw [xI_o (x := Int32.ofNat (sY L nl d)) y3 rfl rfl]; repeat (first | rw [Option.bind_some] | rw [Sum.elim_inl] | rw [Sum.elim_inr])
    rw [xN_o (b := nid (eX L nl d) (eY L nl d)) y1 rfl rfl]; repeat (first | rw [Option.bind_some] | rw [Sum.elim_inl] | rw [Sum.elim_inr])
    rw [xN_o (b := pid (eX L nl d) (eY L nl d)) y4 rfl rfl]; repeat (first | rw [Option.bind_some] | rw [Sum.elim_inl] | rw [Sum.elim_inr])
    rw [xI_o (x := Int32.ofNat (eY L nl d)) y5 rfl rfl]; repeat (first | rw [Option.bind_some] | rw [Sum.elim_inl] | rw [Sum.elim_inr])
    have mn : c_48 (Int32.ofNat (sY L nl d)) (Int32.ofNat (eY L nl d)) s = some (Int32.ofNat (min (sY L nl d) (eY L nl d))) := by
      unfold c_48
      by_cases z : eY L nl d < sY L nl d
      · rw [if_pos ((i_lt (by omega) (by omega)).mpr z), Nat.min_eq_right (by omega)]
      · rw [if_neg (fun w => z ((i_lt (by omega) (by omega)).mp w)), Nat.min_eq_left (by omega)]
    have mx : c_47 (Int32.ofNat (sY L nl d)) (Int32.ofNat (eY L nl d)) s = some (Int32.ofNat (max (sY L nl d) (eY L nl d))) := by
      unfold c_47
      by_cases z : sY L nl d < eY L nl d
      · rw [if_pos ((i_lt (by omega) (by omega)).mpr z), Nat.max_eq_right (by omega)]
      · rw [if_neg (fun w => z ((i_lt (by omega) (by omega)).mp w)), Nat.max_eq_left (by omega)]
    rw [mn]; repeat (first | rw [Option.bind_some] | rw [Sum.elim_inl] | rw [Sum.elim_inr])
    rw [xN_o (b := pid (sX L nl d) (sY L nl d)) y2 rfl rfl]; repeat (first | rw [Option.bind_some] | rw [Sum.elim_inl] | rw [Sum.elim_inr])
    rw [xI_o (x := Int32.ofNat (sY L nl d)) y3 rfl rfl]; repeat (first | rw [Option.bind_some] | rw [Sum.elim_inl] | rw [Sum.elim_inr])
    rw [xN_o (b := pid (eX L nl d) (eY L nl d)) y4 rfl rfl]; repeat (first | rw [Option.bind_some] | rw [Sum.elim_inl] | rw [Sum.elim_inr])
    rw [xI_o (x := Int32.ofNat (eY L nl d)) y5 rfl rfl]; repeat (first | rw [Option.bind_some] | rw [Sum.elim_inl] | rw [Sum.elim_inr])
    rw [mx]; repeat (first | rw [Option.bind_some] | rw [Sum.elim_inl] | rw [Sum.elim_inr])
    rw [xN_o (b := pid (sX L nl d) (sY L nl d)) y2 rfl rfl]; repeat (first | rw [Option.bind_some] | rw [Sum.elim_inl] | rw [Sum.elim_inr])
    rw [xI_o (x := Int32.ofNat (sX L nl d)) y3 rfl rfl]; repeat (first | rw [Option.bind_some] | rw [Sum.elim_inl] | rw [Sum.elim_inr])
    rw [i_mulL, i_mulL, i_mulL, i_suc]
    have o2 : (OfNat.ofNat 2 : Nat) = 2 := rfl
    rw [← i_ofI, ← i_ofI, ← i_ofI, o2]
    have ev : (if Int32.ofInt ((2 * sX L nl d : Nat) : Int) < Int32.ofInt xi then (if Int32.ofInt yj < Int32.ofInt ((2 * min (sY L nl d) (eY L nl d) : Nat) : Int) then some (0 : Int32) else (if Int32.ofInt yj < Int32.ofInt ((2 * max (sY L nl d) (eY L nl d) : Nat) : Int) then some 1 else some 0)) else some 0) = some (if gvz (gS L nl) i j d ≠ 0 then 1 else 0) := by
      have sh := gS_shape hm
      unfold gShape at sh
      have gz : gvz (gS L nl) i j d ≠ 0 ↔ (2 * (sX L nl d : Int) < xi ∧ 2 * (min (sY L nl d) (eY L nl d) : Int) ≤ yj ∧ yj < 2 * (max (sY L nl d) (eY L nl d) : Int)) := by
        rw [hx d hm]
        unfold gvz
        split
        · constructor
          · intro _; omega
          · intro _; omega
        · split
          · constructor
            · intro _; omega
            · intro _; omega
          · constructor
            · intro z; exact absurd rfl z
            · intro z; omega
      by_cases z1 : 2 * (sX L nl d : Int) < xi
      · rw [if_pos ((ofI_lt (by omega) (by omega) (by omega) (by omega)).mpr (by omega))]
        by_cases z2 : yj < 2 * (min (sY L nl d) (eY L nl d) : Int)
        · rw [if_pos ((ofI_lt (by omega) (by omega) (by omega) (by omega)).mpr (by omega)), if_neg (fun w => by have := gz.mp w; omega)]
        · rw [if_neg (fun w => by have := (ofI_lt (by omega) (by omega) (by omega) (by omega)).mp w; omega)]
          by_cases z3 : yj < 2 * (max (sY L nl d) (eY L nl d) : Int)
          · rw [if_pos ((ofI_lt (by omega) (by omega) (by omega) (by omega)).mpr (by omega)), if_pos (gz.mpr ⟨z1, by omega, z3⟩)]
          · rw [if_neg (fun w => by have := (ofI_lt (by omega) (by omega) (by omega) (by omega)).mp w; omega), if_neg (fun w => z3 (gz.mp w).2.2)]
      · rw [if_neg (fun w => by have := (ofI_lt (by omega) (by omega) (by omega) (by omega)).mp w; omega), if_neg (fun w => z1 (gz.mp w).1)]
    rw [ev]; repeat (first | rw [Option.bind_some] | rw [Sum.elim_inl] | rw [Sum.elim_inr])
    refine ⟨_, rfl, rfl, ?_⟩
    dsimp only
    rw [hv, e, gxr_app]
    show _ = if (gxr (gS L nl) i j (orb (gNx L nl) q (st k)) false ^^ decide (gvz (gS L nl) i j d ≠ 0)) = true then (1 : Int32) else 0
    cases gxr (gS L nl) i j (orb (gNx L nl) q (st k)) false <;> by_cases z : gvz (gS L nl) i j d ≠ 0 <;> simp [z]
  · rintro ⟨v, _⟩ ⟨rfl, hv⟩
    dsimp only at hv ⊢
    refine ⟨v, ?_, hv⟩
    rw [xN_o (b := lst) h1 rfl rfl]; repeat (first | rw [Option.bind_some] | rw [Sum.elim_inl] | rw [Sum.elim_inr])
    rw [if_pos (isK_t h2 rfl), alSize_r h2]; repeat (first | rw [Option.bind_some] | rw [Sum.elim_inl] | rw [Sum.elim_inr])
    rw [if_neg (fun z => by have := (i_lt (by omega) (by omega)).mp z; omega)]
  · rintro v rfl
    refine Tr.mono (P := fun x => x = if gxr (gS L nl) i j (rgs L nl st ln k) false = true then 1 else 0) ?_ (fun _ h => h)
    cases gxr (gS L nl) i j (rgs L nl st ln k) false
    · exact ⟨0, by rfl, rfl⟩
    · exact ⟨1, by rfl, rfl⟩
end
