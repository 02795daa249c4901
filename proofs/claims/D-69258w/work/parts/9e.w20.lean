/-! the warden: the reader at a word -/
def rdW (bg en : Nat → Nat) (sz wc w : Nat) : lCell := rC (Int32.ofNat (if w < wc then en w else sz)) (Int32.ofNat (if w < wc then bg w else sz)) (Int32.ofNat w)
section
variable {s : CS} {r sz wc w : Nat} {f : Nat → Int32} {bg en : Nat → Nat}
theorem c_nxtP (h2 : s.1 153 = some (true, false, 1035, rowC (fun i => .int (f i)) sz)) (hz : sz ≤ 2000) (hW : Wds (fun i => csO (f i)) sz wc bg en) (hw : w ≤ wc) {fr x : Int32} (hr : s.1 r = some (rC (Int32.ofNat (wPos en w)) fr x)) (hx : x + 1 = Int32.ofNat w) : c_1009 r s = some (cup s r (rdW bg en sz wc w)) := by
  obtain ⟨h1, h3, h4⟩ := hW
  unfold rdW
  rw [← hx]
  by_cases y : w < wc
  · obtain ⟨a1, a2, a3, a4, a5, a6, a7, a8⟩ := h1 w y
    rw [if_pos y, if_pos y]
    exact c_nxt hr h2 hz a1 (by omega) a4 (fun z => by omega) (fun _ => ⟨a5, a2, a3, a6, a7, a8⟩)
  · have : w = wc := by omega
    subst this
    rw [if_neg y, if_neg y]
    exact c_nxt hr h2 hz h3 (Nat.le_refl _) h4 (fun _ => rfl) (fun z => absurd z (by omega))
theorem c_nxtW (h2 : s.1 153 = some (true, false, 1035, rowC (fun i => .int (f i)) sz)) (hz : sz ≤ 2000) (hW : Wds (fun i => csO (f i)) sz wc bg en) (hw : w < wc) (hr : s.1 r = some (rdW bg en sz wc w)) : c_1009 r s = some (cup s r (rdW bg en sz wc (w + 1))) := by
  have e : wPos en (w + 1) = en w := by unfold wPos; rw [if_neg (by omega), Nat.add_sub_cancel]
  unfold rdW at hr
  rw [if_pos hw, if_pos hw, ← e] at hr
  exact c_nxtP h2 hz hW hw hr (i_suc w)
theorem c_over (h2 : s.1 153 = some (true, false, 1035, rowC (fun i => .int (f i)) sz)) (hz : sz ≤ 2000) (hW : Wds (fun i => csO (f i)) sz wc bg en) (hw : w ≤ wc) (hr : s.1 r = some (rdW bg en sz wc w)) : c_1013 r s = some (if w < wc then 0 else 1) := by
  unfold c_1013
  rw [xI_o (x := Int32.ofNat (if w < wc then bg w else sz)) hr rfl rfl, Option.bind_some, xN_o (b := 153) hr rfl rfl, Option.bind_some, if_pos (isK_t h2 rfl), sbLen_r h2, Option.bind_some]
  by_cases y : w < wc
  · obtain ⟨a1, a2, a3, a4, a5, a6, a7, a8⟩ := hW.1 w y
    rw [if_pos y, if_pos y, if_neg (fun z => by have := (i_inj (by omega) (by omega)).mp z; omega)]
  · rw [if_neg y, if_neg y, if_pos rfl]
/-- the word's letters are these -/
def wdIs (f : Nat → Int32) (bg en : Nat → Nat) (wc w : Nat) (l : List Nat) : Prop := w < wc ∧ en w = bg w + l.length ∧ ∀ j, j < l.length → f (bg w + j) = Int32.ofNat (l.getD j 0)
theorem stLen_x {a : Nat} {l : List Nat} (h : s.1 a = some (false, false, 1000, txV l)) : stLen s a = some (Int32.ofNat l.length) := by
  unfold stLen
  rw [stC_r h, Option.bind_some, txV, List.length_map]
theorem stAt_x {a k : Nat} {l : List Nat} (h : s.1 a = some (false, false, 1000, txV l)) (hk : k < l.length) (hl : l.length < 2147483648) : stAt s a (Int32.ofNat k) = some (Int32.ofNat (l.getD k 0)) := by
  unfold stAt
  rw [stC_r h, Option.bind_some, if_pos (i_nlt0 (by omega)), i_clamp (by omega), txV, List.getElem?_map, List.getElem?_eq_getElem hk, List.getD_eq_getElem?_getD, List.getElem?_eq_getElem hk]; rfl
theorem c_is (h2 : s.1 153 = some (true, false, 1035, rowC (fun i => .int (f i)) sz)) (hz : sz ≤ 2000) (hW : Wds (fun i => csO (f i)) sz wc bg en) (hw : w ≤ wc) (hr : s.1 r = some (rdW bg en sz wc w)) {q : Nat} {l : List Nat} (hq : s.1 q = some (false, false, 1000, txV l)) (hl : l.length ≤ 10) (hl0 : 0 < l.length) : Tr (c_1014 r q s) (fun x => v01 x ∧ (x = 1 ↔ wdIs f bg en wc w l)) := by
  unfold c_1014
  rw [if_pos (isK_t hq rfl), stLen_x hq, Option.bind_some, xI_o (x := Int32.ofNat (if w < wc then en w else sz)) hr rfl rfl, Option.bind_some, xI_o (x := Int32.ofNat (if w < wc then bg w else sz)) hr rfl rfl, Option.bind_some]
  have hle : (if w < wc then bg w else sz) ≤ (if w < wc then en w else sz) ∧ (if w < wc then en w else sz) ≤ sz := by
    by_cases y : w < wc
    · obtain ⟨a1, a2, a3, _⟩ := hW.1 w y
      rw [if_pos y, if_pos y]; omega
    · rw [if_neg y, if_neg y]; omega
  rw [i_sub hle.1]
  have e11 : (if Int32.ofNat l.length = Int32.ofNat ((if w < wc then en w else sz) - (if w < wc then bg w else sz)) then some (1 : Int32) else some 0) = some (if w < wc ∧ en w = bg w + l.length then 1 else 0) := by
    have hi : Int32.ofNat l.length = Int32.ofNat ((if w < wc then en w else sz) - (if w < wc then bg w else sz)) ↔ l.length = (if w < wc then en w else sz) - (if w < wc then bg w else sz) := i_inj (by omega) (by omega)
    by_cases y : w < wc
    · obtain ⟨a1, a2, a3, _⟩ := hW.1 w y
      by_cases z : en w = bg w + l.length
      · rw [if_pos (hi.mpr (by rw [if_pos y, if_pos y]; omega)), if_pos ⟨y, z⟩]
      · rw [if_neg (fun x => z (by have := hi.mp x; rw [if_pos y, if_pos y] at this; omega)), if_neg (fun x => z x.2)]
    · rw [if_neg (fun x => by have := hi.mp x; rw [if_neg y, if_neg y] at this; omega), if_neg (fun x => y x.1)]
  rw [e11, Option.bind_some]
  refine Tr.bd (P := fun x => v01 x ∧ (x = 1 ↔ wdIs f bg en wc w l)) (wh_cnt l.length (fun k a => a.2 = Int32.ofNat k ∧ v01 a.1 ∧ (a.1 = 1 ↔ (w < wc ∧ en w = bg w + l.length) ∧ ∀ j, j < k → f (bg w + j) = Int32.ofNat (l.getD j 0))) ?_ ?_ ⟨rfl, ?_, ?_⟩) ?_
  · rintro k ⟨o, p⟩ hk ⟨e1, e2, e3⟩
    dsimp only at e1 e2 e3
    subst e1
    dsimp only
    rw [if_pos (isK_t hq rfl), Option.bind_some, if_pos ((i_lt (by omega) (by omega)).mpr hk)]
    rcases e2 with rfl | rfl
    · refine Or.inl ⟨0, by rw [if_pos rfl], Or.inl rfl, fun z => absurd z (by decide), fun z => e3.mpr ⟨⟨z.1, z.2.1⟩, fun j hj => z.2.2 j (by omega)⟩⟩
    · obtain ⟨⟨y1, y2⟩, y3⟩ := e3.mp rfl
      obtain ⟨a1, a2, a3, _⟩ := hW.1 w y1
      rw [if_neg (show ¬ (1 : Int32) = 0 by decide), if_pos (isK_t hq rfl), stAt_x hq hk (by omega), Option.bind_some, xN_o (b := 153) hr rfl rfl, Option.bind_some, Option.bind_some, if_pos (isK_t h2 rfl), if_pos y1, i_add, sbAt_r h2 (by omega) (by omega), Option.bind_some]
      by_cases z : f (bg w + k) = Int32.ofNat (l.getD k 0)
      · refine Or.inr ⟨(1, Int32.ofNat (k + 1)), by rw [if_pos z.symm, Option.bind_some, i_suc], rfl, Or.inr rfl, fun _ => ⟨⟨y1, y2⟩, fun j hj => ?_⟩, fun _ => rfl⟩
        rcases Nat.lt_or_ge j k with x | x
        · exact y3 j x
        · rw [show j = k by omega]; exact z
      · exact Or.inr ⟨(0, Int32.ofNat (k + 1)), by rw [if_neg (fun x => z x.symm), Option.bind_some, i_suc], rfl, Or.inl rfl, fun x => absurd (show (0 : Int32) = 1 from x) (by decide), fun x => absurd (x.2 k (by omega)) z⟩
  · rintro ⟨o, p⟩ ⟨e1, e2, e3⟩
    dsimp only at e1 e2 e3
    subst e1
    refine ⟨o, ?_, e2, e3.trans ⟨fun z => ⟨z.1.1, z.1.2, z.2⟩, fun z => ⟨⟨z.1, z.2.1⟩, z.2.2⟩⟩⟩
    dsimp only
    rw [if_pos (isK_t hq rfl), Option.bind_some, if_neg (by rw [i_lt (by omega) (by omega)]; omega)]
  · dsimp only
    by_cases y : w < wc ∧ en w = bg w + l.length
    · rw [if_pos y]; exact Or.inr rfl
    · rw [if_neg y]; exact Or.inl rfl
  · dsimp only
    by_cases y : w < wc ∧ en w = bg w + l.length
    · rw [if_pos y]; exact ⟨fun _ => ⟨y, fun _ h => absurd h (by omega)⟩, fun _ => rfl⟩
    · rw [if_neg y]; exact ⟨fun z => absurd z (by decide), fun z => absurd z.1 y⟩
  · rintro x ⟨h1, h3⟩
    refine ⟨x, ?_, h1, h3⟩
    rcases h1 with rfl | rfl <;> rfl
end
