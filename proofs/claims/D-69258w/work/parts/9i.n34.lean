/-! the plan: the component cuts a line, whole -/
/-- points of lines before l -/
def VL (L : PLn) (nl l x y : Nat) : Prop := ∃ m d, m < l ∧ d ∈ cts L nl m ∧ x = aX L m d ∧ y = aY L m d
/-- and of the line l the first i -/
def VI (L : PLn) (nl l i x y : Nat) : Prop := VL L nl l x y ∨ ∃ j, j < i ∧ j < (cts L nl l).length ∧ x = aX L l ((cts L nl l).getD j 0) ∧ y = aY L l ((cts L nl l).getD j 0)
section
variable {L : PLn} {nl : Nat} {LC LD : Nat → Nat} {b0 : Nat} {h0 : lHeap} {s : CS} {F fL ou mp SL : Nat} {ms ml : Int32} {pid nid aid : Nat → Nat → Nat} {si : Nat → Nat}
theorem VI_end {l x y : Nat} : VI L nl l (cts L nl l).length x y ↔ VL L nl (l + 1) x y := by
  constructor
  · rintro (⟨m, d, h1, h2⟩ | ⟨j, h1, _, h2, h3⟩)
    · exact ⟨m, d, by omega, h2⟩
    · exact ⟨l, _, by omega, by rw [getD_lt h1]; exact List.getElem_mem h1, h2, h3⟩
  · rintro ⟨m, d, h1, h2, h3⟩
    by_cases e : m = l
    · subst e
      obtain ⟨j, hj, ej⟩ := List.getElem_of_mem h2
      rw [← getD_lt hj] at ej
      exact Or.inr ⟨j, hj, hj, by rw [ej]; exact h3⟩
    · exact Or.inl ⟨m, d, by omega, h2, h3⟩
/-- the next cut -/
theorem cts_next {l i : Nat} {xs : List Value} {S : CS} {B : Nat} (hg : gdL L nl) (hl : l < nl) (hB : S.1 B = some (true, false, 1003, xs)) (hx : ∀ k, bit xs k = true ↔ k ∈ cts L nl l) (hi : i < (cts L nl l).length) : bsNext S B (Int32.ofNat ((cts L nl l).getD i 0) + 1) = some (if i + 1 < (cts L nl l).length then Int32.ofNat ((cts L nl l).getD (i + 1) 0) else -1) := by
  have bd : ∀ j, j < (cts L nl l).length → (cts L nl l).getD j 0 ≤ pN L l := fun j hj => (cts_mem.mp (by rw [getD_lt hj]; exact List.getElem_mem hj)).1
  have lN : pN L l ≤ 24 := by
    have := pX_le hg hl
    rcases (show pFl L l = true ∨ pFl L l = false by cases pFl L l <;> simp) with hF | hF
    · have := pHX_t hF; omega
    · have := pHX_f hF; omega
  have b1 := bd i hi
  rw [i_suc]
  by_cases z : i + 1 < (cts L nl l).length
  · rw [if_pos z]
    have b2 := bd _ z
    have m2 := (hx _).mpr (show (cts L nl l).getD (i + 1) 0 ∈ cts L nl l by rw [getD_lt z]; exact List.getElem_mem z)
    have lt := pw_lt (cts_pw (L := L) (nl := nl) l) (show i < i + 1 by omega) z
    rcases bsNext_r hB (i := (cts L nl l).getD i 0 + 1) (by omega) with ⟨_, h2⟩ | ⟨j, h1, h2, h3, h4⟩
    · rw [h2 _ (by omega)] at m2; cases m2
    · rw [h1]
      obtain ⟨k, hk, ek⟩ := List.getElem_of_mem ((hx j).mp h3)
      rw [← getD_lt hk] at ek
      have k1 : i < k := by
        rcases Nat.lt_trichotomy i k with w | w | w
        · exact w
        · rw [w] at h2; omega
        · have := pw_lt (cts_pw (L := L) (nl := nl) l) w hi; omega
      have : k = i + 1 := by
        rcases Nat.lt_trichotomy k (i + 1) with w | w | w
        · omega
        · exact w
        · have := pw_lt (cts_pw (L := L) (nl := nl) l) w hk
          have := h4 _ (show (cts L nl l).getD i 0 + 1 ≤ (cts L nl l).getD (i + 1) 0 by omega) (by omega)
          rw [this] at m2; cases m2
      rw [← ek, this]
  · rw [if_neg z]
    rcases bsNext_r hB (i := (cts L nl l).getD i 0 + 1) (by omega) with ⟨h1, _⟩ | ⟨j, h1, h2, h3, h4⟩
    · exact h1
    · exfalso
      obtain ⟨k, hk, ek⟩ := List.getElem_of_mem ((hx j).mp h3)
      rw [← getD_lt hk] at ek
      have k1 : i < k := by
        rcases Nat.lt_trichotomy i k with w | w | w
        · exact w
        · rw [w] at h2; omega
        · have := pw_lt (cts_pw (L := L) (nl := nl) l) w hi; omega
      omega
theorem c_cut (hg : gdL L nl) {v0 : Nat} {pf : List Value} (hL : lnH h0 L nl LC LD ml) (hLb : ∀ l, l < nl → LC l < b0) (h103 : 103 < b0) (h0' : h0 v0 = some (true, false, 67, .ref 103 :: pf)) (hv0 : v0 < b0) {l : Nat} (hl : l < nl) (r : CT b0 h0 s L nl LC F fL ou mp SL (off L nl l) (VL L nl l) ms pid nid aid si) :
    ∃ s' ms' pid' nid' aid' si', c_897 v0 F (LC l) SL s = some s' ∧ CT b0 h0 s' L nl LC F fL ou mp SL (off L nl (l + 1)) (VL L nl (l + 1)) ms' pid' nid' aid' si' ∧ s'.2.2.1 ≤ s.2.2.1 + 3 + 8 * (cts L nl l).length ∧ s'.2.2.2 ≤ s.2.2.2 + 8 + 58 * (cts L nl l).length ∧ s.2.1 ≤ s'.2.1 ∧ ∀ a d, s.1 a = some d → d.2.2.1 ≠ 7 ∧ d.2.2.1 ≠ 61 ∧ d.2.2.1 ≠ 1042 → a ≠ SL → s'.1 a = some d := by
  have hfr := r.2.2.1
  have hw := r.1
  have hLs : lnH s.1 L nl LC LD ml := ⟨by rw [hfr _ h103]; exact hL.1, fun k hk => by rw [hfr _ (hLb k hk)]; exact hL.2.1 k hk, hL.2.2⟩
  have hvs : s.1 v0 = some (true, false, 67, .ref 103 :: pf) := by rw [hfr _ hv0]; exact h0'
  obtain ⟨S, xs, e1, w1, w2, w3, w4, w5, w6, w7⟩ := c_cuts hg hw hLs hvs hl (fun p : Nat × CS => Option.bind (wh (S := CS × Option Nat × Int32) (X := CS) (fun p34 => (if p34.2.2 < 0 then some (.inr p34.1) else Option.bind (xI p34.1 [(59, 1)] (LC l)) (fun x12 => Option.bind ((if x12 = 0 then Option.bind (xI p34.1 [(59, 3)] (LC l)) (fun x13 => some x13) else Option.bind (xI p34.1 [(59, 3)] (LC l)) (fun x14 => some (x14 + p34.2.2)))) (fun v48 => Option.bind (xI p34.1 [(59, 1)] (LC l)) (fun x15 => Option.bind ((if x15 = 0 then Option.bind (xI p34.1 [(59, 4)] (LC l)) (fun x16 => some (x16 + p34.2.2)) else Option.bind (xI p34.1 [(59, 4)] (LC l)) (fun x17 => some x17))) (fun v58 => (if isK p34.1 [67] v0 = true then Option.bind (c_898 v0 F v48 v58 p34.1) (fun x18 => Option.bind ((if p34.2.1 = none then some (x18.2, x18.1) else Option.bind (some (nw x18.2 65 [.null, .null, .null, .int 0, .null, .null])) (fun n19 => Option.bind (xI n19.2 [(59, 1)] (LC l)) (fun x20 => Option.bind ((if x20 = 0 then some 1 else some 0)) (fun v73 => Option.bind (p34.2.1) (fun a21 => Option.bind (x18.1) (fun a22 => (if isK n19.2 [65] n19.1 = true then Option.bind (c_882 n19.1 (LC l) a21 a22 v73 n19.2) (fun x23 => Option.bind (some (nw x23 65 [.null, .null, .null, .int 0, .null, .null])) (fun n24 => Option.bind (xI n24.2 [(59, 1)] (LC l)) (fun x25 => Option.bind ((if x25 = 0 then some 3 else some 2)) (fun v86 => (if isK n24.2 [65] n24.1 = true then Option.bind (c_882 n24.1 (LC l) a22 a21 v86 n24.2) (fun x26 => Option.bind (xP x26 [(65, 4)] n19.1 (.ref n24.1)) (fun s27 => Option.bind (xP s27 [(65, 4)] n24.1 (.ref n19.1)) (fun s28 => (if isK s28 [13] SL = true then Option.bind (alAdd s28 SL (.ref n19.1)) (fun s29 => (if isK s29 [13] SL = true then Option.bind (alAdd s29 SL (.ref n24.1)) (fun s30 => Option.bind (xI s30 [(61, 3)] F) (fun x31 => Option.bind (xP s30 [(61, 3)] F (.int (x31 + 1))) (fun s32 => some (s32, some a22)))) else none)) else none)))) else none))))) else none)))))))) (fun v108 => (if isK v108.1 [3] p.1 = true then Option.bind (bsNext v108.1 p.1 (p34.2.2 + 1)) (fun x33 => some (.inl (v108.1, v108.2, x33))) else none))) else none))))))) (p.2, none, 0)) (fun v117 => some v117))
  unfold c_897
  rw [e1]
  dsimp only
  have lN : pN L l ≤ 24 := by
    have := pX_le hg hl
    rcases (show pFl L l = true ∨ pFl L l = false by cases pFl L l <;> simp) with hF | hF
    · have := pHX_t hF; omega
    · have := pHX_f hF; omega
  have bd : ∀ j, j < (cts L nl l).length → (cts L nl l).getD j 0 ∈ cts L nl l := fun j hj => by rw [getD_lt hj]; exact List.getElem_mem hj
  have off1 := off_succ (L := L) (nl := nl) l
  have off2 := off_mono (L := L) (nl := nl) (show l + 1 ≤ nl from hl)
  have off3 : off L nl nl = nP L nl := rfl
  have len0 : 0 < (cts L nl l).length := List.length_pos_of_mem (cts_0 hl)
  have first : (cts L nl l).getD 0 0 = 0 := by
    obtain ⟨k, hk, ek⟩ := List.getElem_of_mem (cts_0 (L := L) hl)
    rw [← getD_lt hk] at ek
    by_cases z : k = 0
    · rw [z] at ek; exact ek
    · have := pw_lt (cts_pw (L := L) (nl := nl) l) (show 0 < k by omega) hk; omega
  have ctS : CT b0 h0 S L nl LC F fL ou mp SL (off L nl l) (VI L nl l 0) ms pid nid aid si := by
    obtain ⟨r1, r2, r3, r4, r5, r6, r7, r8, r9, r10⟩ := r
    have ext : ∀ q d, s.1 q = some d → S.1 q = some d := fun q d hq => by rw [w4 q (by have := wf_lt r1 hq; omega)]; exact hq
    refine CT_V (V := VL L nl l) ⟨w1, by omega, fun q hq => ?_, NDs_ext r4 ext, ext _ _ r5, ext _ _ r6, fun k hk => ⟨(r7 k hk).1, ext _ _ (r7 k hk).2.1, (r7 k hk).2.2⟩, r8, r9, r10⟩ (fun x y => ⟨Or.inl, fun z => z.elim id (by rintro ⟨j, hj, _⟩; exact absurd hj (Nat.not_lt_zero _))⟩)
    rw [w4 q (by omega)]; exact r3 q hq
  have bB : b0 ≤ s.2.1 := r.2.1
  have key : Tr (wh (S := CS × Option Nat × Int32) (X := CS) (fun p34 => (if p34.2.2 < 0 then some (.inr p34.1) else Option.bind (xI p34.1 [(59, 1)] (LC l)) (fun x12 => Option.bind ((if x12 = 0 then Option.bind (xI p34.1 [(59, 3)] (LC l)) (fun x13 => some x13) else Option.bind (xI p34.1 [(59, 3)] (LC l)) (fun x14 => some (x14 + p34.2.2)))) (fun v48 => Option.bind (xI p34.1 [(59, 1)] (LC l)) (fun x15 => Option.bind ((if x15 = 0 then Option.bind (xI p34.1 [(59, 4)] (LC l)) (fun x16 => some (x16 + p34.2.2)) else Option.bind (xI p34.1 [(59, 4)] (LC l)) (fun x17 => some x17))) (fun v58 => (if isK p34.1 [67] v0 = true then Option.bind (c_898 v0 F v48 v58 p34.1) (fun x18 => Option.bind ((if p34.2.1 = none then some (x18.2, x18.1) else Option.bind (some (nw x18.2 65 [.null, .null, .null, .int 0, .null, .null])) (fun n19 => Option.bind (xI n19.2 [(59, 1)] (LC l)) (fun x20 => Option.bind ((if x20 = 0 then some 1 else some 0)) (fun v73 => Option.bind (p34.2.1) (fun a21 => Option.bind (x18.1) (fun a22 => (if isK n19.2 [65] n19.1 = true then Option.bind (c_882 n19.1 (LC l) a21 a22 v73 n19.2) (fun x23 => Option.bind (some (nw x23 65 [.null, .null, .null, .int 0, .null, .null])) (fun n24 => Option.bind (xI n24.2 [(59, 1)] (LC l)) (fun x25 => Option.bind ((if x25 = 0 then some 3 else some 2)) (fun v86 => (if isK n24.2 [65] n24.1 = true then Option.bind (c_882 n24.1 (LC l) a22 a21 v86 n24.2) (fun x26 => Option.bind (xP x26 [(65, 4)] n19.1 (.ref n24.1)) (fun s27 => Option.bind (xP s27 [(65, 4)] n24.1 (.ref n19.1)) (fun s28 => (if isK s28 [13] SL = true then Option.bind (alAdd s28 SL (.ref n19.1)) (fun s29 => (if isK s29 [13] SL = true then Option.bind (alAdd s29 SL (.ref n24.1)) (fun s30 => Option.bind (xI s30 [(61, 3)] F) (fun x31 => Option.bind (xP s30 [(61, 3)] F (.int (x31 + 1))) (fun s32 => some (s32, some a22)))) else none)) else none)))) else none))))) else none)))))))) (fun v108 => (if isK v108.1 [3] s.2.1 = true then Option.bind (bsNext v108.1 s.2.1 (p34.2.2 + 1)) (fun x33 => some (.inl (v108.1, v108.2, x33))) else none))) else none))))))) (S, none, 0)) (fun s' => ∃ ms' pid' nid' aid' si', CT b0 h0 s' L nl LC F fL ou mp SL (off L nl (l + 1)) (VL L nl (l + 1)) ms' pid' nid' aid' si' ∧ s'.2.2.1 ≤ s.2.2.1 + 3 + 8 * (cts L nl l).length ∧ s'.2.2.2 ≤ s.2.2.2 + 8 + 58 * (cts L nl l).length ∧ s.2.1 ≤ s'.2.1 ∧ ∀ a d, s.1 a = some d → d.2.2.1 ≠ 7 ∧ d.2.2.1 ≠ 61 ∧ d.2.2.1 ≠ 1042 → a ≠ SL → s'.1 a = some d) := by
    refine wh_cnt (cts L nl l).length (fun i a => a.2.2 = (if i < (cts L nl l).length then Int32.ofNat ((cts L nl l).getD i 0) else -1) ∧ a.1.1 s.2.1 = some (true, false, 1003, xs) ∧ s.2.1 < a.1.2.1 ∧ a.1.2.2.1 ≤ s.2.2.1 + 3 + 8 * i ∧ a.1.2.2.2 ≤ s.2.2.2 + 8 + 58 * i ∧ (∀ b d, s.1 b = some d → d.2.2.1 ≠ 7 ∧ d.2.2.1 ≠ 61 ∧ d.2.2.1 ≠ 1042 → b ≠ SL → a.1.1 b = some d) ∧ ∃ ms' pid' nid' aid' si', CT b0 h0 a.1 L nl LC F fL ou mp SL (off L nl l + (i - 1)) (VI L nl l i) ms' pid' nid' aid' si' ∧ (i = 0 → a.2.1 = none) ∧ (0 < i → a.2.1 = some (nid' (aX L l ((cts L nl l).getD (i - 1) 0)) (aY L l ((cts L nl l).getD (i - 1) 0))))) ?_ ?_ ⟨by rw [if_pos len0, first]; rfl, w2, by dsimp only; omega, by dsimp only; omega, by dsimp only; omega, fun b d hb _ _ => by show S.1 b = some d; rw [w4 b (by have := wf_lt hw hb; omega)]; exact hb, ms, pid, nid, aid, si, ctS, fun _ => rfl, fun z => absurd z (Nat.lt_irrefl _)⟩
    · rintro i ⟨U, last, at'⟩ hi ⟨rfl, u1, u2, u3, u4, uF, ms', pid', nid', aid', si', ct, la0, la1⟩
      right
      dsimp only at u1 u2 u3 u4 uF ct la0 la1 ⊢
      rw [if_pos hi]
      have hd := cts_mem.mp (bd i hi)
      have dN := hd.1
      have pl := a_lt hg hl dN
      have ufr := ct.2.2.1
      have hlU : U.1 (LC l) = some (lcC L LD l) := by rw [ufr _ (hLb l hl)]; exact hL.2.1 l hl
      have hvU : U.1 v0 = some (true, false, 67, .ref 103 :: pf) := by rw [ufr _ hv0]; exact h0'
      rw [if_neg (i_nlt0 (by omega)), xI_o (x := if pFl L l = true then 1 else 0) hlU rfl rfl]; repeat (first | rw [Option.bind_some] | rw [Sum.elim_inl] | rw [Sum.elim_inr])
      rw [xI_o (x := Int32.ofNat (pX L l)) hlU rfl rfl]; repeat (first | rw [Option.bind_some] | rw [Sum.elim_inl] | rw [Sum.elim_inr])
      rw [xI_o (x := Int32.ofNat (pY L l)) hlU rfl rfl]; repeat (first | rw [Option.bind_some] | rw [Sum.elim_inl] | rw [Sum.elim_inr])
      have x48 : (if (if pFl L l = true then (1 : Int32) else 0) = 0 then some (Int32.ofNat (pX L l)) else some (Int32.ofNat (pX L l) + Int32.ofNat ((cts L nl l).getD i 0))) = some (Int32.ofNat (aX L l ((cts L nl l).getD i 0))) := by
        rw [iteF]; unfold aX
        by_cases z : pFl L l = true
        · rw [if_pos z, if_pos z, i_add]
        · rw [if_neg z, if_neg z]; rfl
      have x58 : (if (if pFl L l = true then (1 : Int32) else 0) = 0 then some (Int32.ofNat (pY L l) + Int32.ofNat ((cts L nl l).getD i 0)) else some (Int32.ofNat (pY L l))) = some (Int32.ofNat (aY L l ((cts L nl l).getD i 0))) := by
        rw [iteF]; unfold aY
        by_cases z : pFl L l = true
        · rw [if_pos z, if_pos z]; rfl
        · rw [if_neg z, if_neg z, i_add]
      rw [x48]; repeat (first | rw [Option.bind_some] | rw [Sum.elim_inl] | rw [Sum.elim_inr])
      rw [x58]; repeat (first | rw [Option.bind_some] | rw [Sum.elim_inl] | rw [Sum.elim_inr])
      rw [if_pos (isK_t hvU rfl)]
      have offi : off L nl l + (i - 1) ≤ nP L nl := by omega
      obtain ⟨U1, pid1, nid1, aid1, f1, ct1, f2, f3, f4, f5, f6⟩ := CT_node v0 hg ct offi pl.1 pl.2
      rw [f1]; repeat (first | rw [Option.bind_some] | rw [Sum.elim_inl] | rw [Sum.elim_inr])
      dsimp only
      have vi : ∀ x y, (VI L nl l i x y ∨ (x = aX L l ((cts L nl l).getD i 0) ∧ y = aY L l ((cts L nl l).getD i 0))) ↔ VI L nl l (i + 1) x y := by
        intro x y
        constructor
        · rintro ((h | ⟨j, h1, h2⟩) | ⟨h1, h2⟩)
          · exact Or.inl h
          · exact Or.inr ⟨j, by omega, h2⟩
          · exact Or.inr ⟨i, by omega, hi, h1, h2⟩
        · rintro (h | ⟨j, h1, h2⟩)
          · exact Or.inl (Or.inl h)
          · by_cases e : j = i
            · rw [e] at h2; exact Or.inr h2.2
            · exact Or.inl (Or.inr ⟨j, by omega, h2⟩)
      have ct1 := CT_V ct1 vi
      have hmk : ∃ cm es, U.1 mp = some (true, false, 1042, .int cm :: fl es) := by obtain ⟨⟨mc, es, q, _⟩, _⟩ := ct.2.2.2.1; exact ⟨mc, es, q⟩
      have uF1 : ∀ b d, s.1 b = some d → d.2.2.1 ≠ 7 ∧ d.2.2.1 ≠ 61 ∧ d.2.2.1 ≠ 1042 → b ≠ SL → U1.1 b = some d := fun b d h1 h2 h3 => by
        have e := uF b d h1 h2 h3
        obtain ⟨mc, es, hm⟩ := hmk
        rw [f3 b (wf_lt ct.1 e) (apart e hm h2.2.2)]; exact e
      have nB : s.2.1 ≠ mp := by
        have : ∃ cm es, U.1 mp = some (true, false, 1042, .int cm :: fl es) := by obtain ⟨⟨mc, es, q, _⟩, _⟩ := ct.2.2.2.1; exact ⟨mc, es, q⟩
        obtain ⟨mc, es, hm⟩ := this
        exact apart u1 hm (by show ¬ (1003 : Nat) = 1042; decide)
      have uB : U1.1 s.2.1 = some (true, false, 1003, xs) := by rw [f3 _ u2 nB]; exact u1
      by_cases i0 : i = 0
      · rw [la0 i0, if_pos rfl]; repeat (first | rw [Option.bind_some] | rw [Sum.elim_inl] | rw [Sum.elim_inr])
        dsimp only
        rw [if_pos (isK_t uB rfl), cts_next hg hl uB w3 hi]; repeat (first | rw [Option.bind_some] | rw [Sum.elim_inl] | rw [Sum.elim_inr])
        refine ⟨_, rfl, rfl, uB, by dsimp only; omega, by dsimp only; omega, by dsimp only; omega, uF1, ms', pid1, nid1, aid1, si', ?_, fun z => by omega, fun _ => ?_⟩
        · rw [show off L nl l + (i + 1 - 1) = off L nl l + (i - 1) by omega]; exact ct1
        · rw [show i + 1 - 1 = i by omega]
      · obtain ⟨y1, y2, y3, y4⟩ := k_at hl (show i - 1 + 1 < (cts L nl l).length by omega)
        have ev := gS_even y1
        rw [y2, y3, y4, show i - 1 + 1 = i by omega] at ev
        obtain ⟨v1, v2, v3, v4, v5, _⟩ := ev
        have vs : VI L nl l i (sX L nl (2 * (off L nl l + (i - 1)))) (sY L nl (2 * (off L nl l + (i - 1)))) := by rw [v1, v2]; exact Or.inr ⟨i - 1, by omega, by omega, rfl, rfl⟩
        have la := la1 (by omega)
        rw [← v1, ← v2, ← f2 _ _ vs] at la
        obtain ⟨U2, si2, ms2, h1, ct2, h2, h3, h4, h5⟩ := CT_piece (LD := LD) hg ct1 y1 (by rw [y2]; exact hL.2.1 l hl) (by rw [y2]; exact hLb l hl) ((vi _ _).mp (Or.inl vs)) (by rw [v3, v4]; exact (vi _ _).mp (Or.inr ⟨rfl, rfl⟩))
        rw [y2, v3, v4, Option.bind_some] at h1
        rw [la, if_neg (by simp), h1]; repeat (first | rw [Option.bind_some] | rw [Sum.elim_inl] | rw [Sum.elim_inr])
        dsimp only
        have kB : ∀ (q : Nat) (d : lCell), U1.1 q = some d → U1.1 s.2.1 = some (true, false, 1003, xs) → d.2.2.1 ≠ 1003 → s.2.1 ≠ q := fun q d e1 e2 e3 z => by rw [← z, e2] at e1; exact e3 (by rw [← Option.some.inj e1])
        have uB2 : U2.1 s.2.1 = some (true, false, 1003, xs) := by
          rw [h4 _ (by omega) (kB _ _ ct1.2.2.2.2.1 uB (by show ¬ (61 : Nat) = 1003; decide)) (kB _ _ ct1.2.2.2.2.2.1 uB (by show ¬ (1013 : Nat) = 1003; decide)) (fun x y hV => kB _ _ (ct1.2.2.2.1.2.1 x y hV).2.2.2.2.2.2.2 uB (by show ¬ (7 : Nat) = 1003; decide))]
          exact uB
        rw [if_pos (isK_t uB2 rfl), cts_next hg hl uB2 w3 hi]; repeat (first | rw [Option.bind_some] | rw [Sum.elim_inl] | rw [Sum.elim_inr])
        refine ⟨_, rfl, rfl, uB2, by dsimp only; omega, by dsimp only; omega, by dsimp only; omega, fun b d h1' h2' h3' => by
          have e := uF1 b d h1' h2' h3'
          show U2.1 b = some d
          rw [h4 b (wf_lt ct1.1 e) (apart e ct1.2.2.2.2.1 h2'.2.1) h3' (fun x y hV => apart e (ct1.2.2.2.1.2.1 x y hV).2.2.2.2.2.2.2 h2'.1)]; exact e, ms2, pid1, nid1, aid1, si2, ?_, fun z => by omega, fun _ => ?_⟩
        · rw [show off L nl l + (i + 1 - 1) = off L nl l + (i - 1) + 1 by omega]; exact ct2
        · rw [show i + 1 - 1 = i by omega]
    · rintro ⟨U, last, at'⟩ ⟨rfl, u1, u2, u3, u4, uF, ms', pid', nid', aid', si', ct, la0, la1⟩
      dsimp only at u1 u2 u3 u4 uF ct la0 la1 ⊢
      rw [if_neg (Nat.lt_irrefl _)]
      refine ⟨U, if_pos (by decide), ms', pid', nid', aid', si', ?_, u3, u4, by omega, uF⟩
      rw [off1]
      exact CT_V ct (fun x y => VI_end)
  obtain ⟨s', e, ms', pid', nid', aid', si', h1, h2, h3, h4, h5⟩ := key
  rw [e]
  exact ⟨s', ms', pid', nid', aid', si', rfl, h1, h2, h3, h4, h5⟩
end
