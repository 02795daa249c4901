/-! building: the gate, the component -/
section
variable {s S : CS} {t : TS} {L : PLn} {nl nr : Nat} {st ln : Nat → Nat} {lab : Int → Int → Int} {LC LD : Nat → Nat} {DC : Nat → Nat → Nat} {fd fL ou ol mp : Nat} {pid nid aid : Nat → Nat → Nat} {si rc rl sp sl : Nat → Nat} {nd : Nat → Nat}
theorem FN_ext2 (F : FNx s t L nl nr st ln lab LC fd fL ou ol mp pid nid aid si rc rl sp sl) (e : ∀ a c, 179 ≤ a → s.1 a = some c → S.1 a = some c) : FNx S t L nl nr st ln lab LC fd fL ou ol mp pid nid aid si rc rl sp sl := ⟨F.1, FD_own (LC' := LC) F.2 (Nat.le_refl _) (fun a c h1 h => e a c h1 h) (fun _ _ => rfl)⟩
def DrB (nl : Nat) (LC LD : Nat → Nat) (DC : Nat → Nat → Nat) (nd : Nat → Nat) : Prop := ∀ l, l < nl → 179 ≤ LC l ∧ 179 ≤ LD l ∧ ∀ i, i < nd l → 179 ≤ DC l i
theorem DrH_ext2 (H : DrH s t L nl LC LD DC nd) (Hb : DrB nl LC LD DC nd) (e : ∀ a c, 179 ≤ a → s.1 a = some c → S.1 a = some c) : DrH S t L nl LC LD DC nd := fun l hl => by
  obtain ⟨h1, h2, ⟨m, h3⟩, h4⟩ := H l hl
  obtain ⟨b1, b2, b3⟩ := Hb l hl
  refine ⟨e _ _ b1 h1, h2, ⟨m, e _ _ b2 h3⟩, fun i hi => ?_⟩
  obtain ⟨da, db, dr, d1, d2⟩ := h4 i hi
  exact ⟨da, db, dr, e _ _ (b3 i hi) d1, d2⟩
theorem c_spaces (F : FNx s t L nl nr st ln lab LC fd fL ou ol mp pid nid aid si rc rl sp sl) {f : List Value} (g : s.1 102 = some (true, false, 67, .ref 103 :: .ref fd :: f)) : c_919 102 s = some (Int32.ofNat (spn L nl st ln nr)) := by
  obtain ⟨_, d1, ⟨m, d2⟩, _⟩ := F.2
  unfold c_919
  rw [xN_o (b := fd) g rfl rfl, Option.bind_some, xN_o (b := fL) d1 rfl rfl, Option.bind_some, if_pos (isK_t d2 rfl), alSize_r d2, Option.bind_some]
theorem c_nameAt (F : FNx s t L nl nr st ln lab LC fd fL ou ol mp pid nid aid si rc rl sp sl) {f : List Value} (g : s.1 102 = some (true, false, 67, .ref 103 :: .ref fd :: f)) {i : Nat} (hi : i < spn L nl st ln nr) : c_923 102 (Int32.ofNat i) s = some (t.2.2.1 64 i) := by
  have hle := FN_le F
  obtain ⟨_, d1, ⟨m, d2⟩, _, d4, _⟩ := F.2
  unfold c_923
  rw [xN_o (b := fd) g rfl rfl, Option.bind_some, xN_o (b := fL) d1 rfl rfl, Option.bind_some, if_pos (isK_t d2 rfl), alGet_r d2 hi (by omega), Option.bind_some, toN_o (d4 i hi).1 rfl, Option.bind_some, xI_o (x := t.2.2.1 64 i) (d4 i hi).1 rfl rfl, Option.bind_some]
/-- the zones of the rooms -/
def zonF (t : TS) (i : Nat) : Int32 := Int32.ofNat (bN (t.2.2.1 64 i) % 10)
theorem ga_zones (hw : wfS s) (h179 : 179 ≤ s.2.1) (F : FNx s t L nl nr st ln lab LC fd fL ou ol mp pid nid aid si rc rl sp sl) {f ff : List Value} {z0 z1 : Value} (g : s.1 102 = some (true, false, 67, .ref 103 :: .ref fd :: f)) (g8 : s.1 108 = some (true, false, 89, .ref 101 :: z0 :: z1 :: ff)) (hn : ∀ i, i < spn L nl st ln nr → bel (t.2.2.1 64 i) 1001) {A : Type} (k : CS → Option A) : ∃ V, Option.bind (c_919 102 s) (fun x1 => Option.bind (xP s [(89, 1)] 108 (.int x1)) (fun s2 => Option.bind (xI s2 [(89, 1)] 108) (fun x3 => Option.bind (nwa s2 0 (.int 0) x3) (fun n4 => Option.bind (xP n4.2 [(89, 2)] 108 (.ref n4.1)) (fun s5 => Option.bind (wh (S := CS × Int32) (X := CS) (fun p11 => Option.bind (xI p11.1 [(89, 1)] 108) (fun x6 => (if p11.2 < x6 then Option.bind (xN p11.1 [(89, 2)] 108) (fun a7 => (if isK p11.1 [67] 102 = true then Option.bind (c_923 102 p11.2 p11.1) (fun x8 => Option.bind (aPut p11.1 0 a7 p11.2 (.int (x8 - x8 / (10 : Int32) * (10 : Int32)))) (fun s9 => some (.inl (s9, p11.2 + 1)))) else none)) else some (.inr p11.1)))) (s5, 0)) (fun v26 => k v26)))))) = k V ∧ wfS V ∧ V.1 108 = some (true, false, 89, .ref 101 :: .int (Int32.ofNat (spn L nl st ln nr)) :: .ref s.2.1 :: ff) ∧ V.1 s.2.1 = some (true, true, 0, rowC (fun i => .int (zonF t i)) (spn L nl st ln nr)) ∧ (∀ q, q < s.2.1 → q ≠ 108 → V.1 q = s.1 q) ∧ V.2.1 = s.2.1 + 1 ∧ V.2.2.1 = s.2.2.1 + 1 ∧ V.2.2.2 = s.2.2.2 + spn L nl st ln nr := by
  have hle := FN_le F
  rw [c_spaces F g, Option.bind_some, xP_c (k := 1) (fs' := .ref 101 :: .int (Int32.ofNat (spn L nl st ln nr)) :: z1 :: ff) g8 rfl (by show 1 < ff.length + 3; omega) rfl, Option.bind_some, xI_o (x := Int32.ofNat (spn L nl st ln nr)) (cup_eq ..) rfl rfl, Option.bind_some]
  have w1 : wfS (cup s 108 (true, false, 89, .ref 101 :: .int (Int32.ofNat (spn L nl st ln nr)) :: z1 :: ff)) := wf_cup hw (by omega)
  obtain ⟨S2, e2, u2⟩ := nwa_o (s := cup s 108 (true, false, 89, .ref 101 :: .int (Int32.ofNat (spn L nl st ln nr)) :: z1 :: ff)) 0 (.int 0) (spn L nl st ln nr) (by omega) w1
  have n0 : (cup s 108 (true, false, 89, .ref 101 :: .int (Int32.ofNat (spn L nl st ln nr)) :: z1 :: ff)).2.1 = s.2.1 := rfl
  unfold Nw at u2
  rw [n0] at u2 e2
  obtain ⟨a1, a2, a3, a4, a5, a6⟩ := u2
  have g8' : S2.1 108 = some (true, false, 89, .ref 101 :: .int (Int32.ofNat (spn L nl st ln nr)) :: z1 :: ff) := by rw [a2 108 (by omega)]; exact cup_eq ..
  rw [e2, Option.bind_some, xP_c (k := 2) (fs' := .ref 101 :: .int (Int32.ofNat (spn L nl st ln nr)) :: .ref s.2.1 :: ff) g8' rfl (by show 2 < ff.length + 3; omega) rfl, Option.bind_some]
  have key : ∀ X : Option CS, Tr X (fun V => wfS V ∧ V.1 108 = some (true, false, 89, .ref 101 :: .int (Int32.ofNat (spn L nl st ln nr)) :: .ref s.2.1 :: ff) ∧ V.1 s.2.1 = some (true, true, 0, rowC (fun i => .int (zonF t i)) (spn L nl st ln nr)) ∧ (∀ q, q < s.2.1 → q ≠ 108 → V.1 q = s.1 q) ∧ V.2.1 = s.2.1 + 1 ∧ V.2.2.1 = s.2.2.1 + 1 ∧ V.2.2.2 = s.2.2.2 + spn L nl st ln nr) → ∃ V, Option.bind X (fun v26 => k v26) = k V ∧ wfS V ∧ V.1 108 = some (true, false, 89, .ref 101 :: .int (Int32.ofNat (spn L nl st ln nr)) :: .ref s.2.1 :: ff) ∧ V.1 s.2.1 = some (true, true, 0, rowC (fun i => .int (zonF t i)) (spn L nl st ln nr)) ∧ (∀ q, q < s.2.1 → q ≠ 108 → V.1 q = s.1 q) ∧ V.2.1 = s.2.1 + 1 ∧ V.2.2.1 = s.2.2.1 + 1 ∧ V.2.2.2 = s.2.2.2 + spn L nl st ln nr := by
    rintro X ⟨V, rfl, h⟩
    exact ⟨V, rfl, h⟩
  refine key _ ?_
  refine wh_cnt (spn L nl st ln nr) (fun i (a : CS × Int32) => a.2 = Int32.ofNat i ∧ wfS a.1 ∧ a.1.1 108 = some (true, false, 89, .ref 101 :: .int (Int32.ofNat (spn L nl st ln nr)) :: .ref s.2.1 :: ff) ∧ a.1.1 s.2.1 = some (true, true, 0, rowC (fun j => if j < i then .int (zonF t j) else .int 0) (spn L nl st ln nr)) ∧ (∀ q, q < s.2.1 → q ≠ 108 → a.1.1 q = s.1 q) ∧ a.1.2.1 = s.2.1 + 1 ∧ a.1.2.2.1 = s.2.2.1 + 1 ∧ a.1.2.2.2 = s.2.2.2 + spn L nl st ln nr) ?_ ?_ ⟨rfl, wf_cup a4 (by omega), cup_eq .., ?_, fun q h1 h2 => ?_, a3, ?_, ?_⟩
  · rintro i ⟨U, _⟩ hi ⟨rfl, b1, b2, b3, b4, b5, b6, b7⟩
    right
    dsimp only at b1 b2 b3 b4 b5 b6 b7 ⊢
    have FU := FN_ext2 F (S := U) (fun a c h1 h => by rw [b4 a (wf_lt hw h) (by omega)]; exact h)
    have gU : U.1 102 = _ := (b4 102 (by omega) (by decide)).trans g
    obtain ⟨v, hv, ev⟩ := hn i hi
    rw [xI_o (x := Int32.ofNat (spn L nl st ln nr)) b2 rfl rfl, Option.bind_some, if_pos ((i_lt (by omega) (by omega)).mpr hi), xN_o (b := s.2.1) b2 rfl rfl, Option.bind_some, if_pos (isK_t gU rfl), c_nameAt FU gU hi, Option.bind_some, ev, i_modL (by omega) (by omega), aPut_r b3 hi (by omega), Option.bind_some, i_suc]
    refine ⟨_, rfl, rfl, wf_cup b1 (by omega), ?_, ?_, fun q h1 h2 => ?_, b5, b6, b7⟩
    · show (cup U s.2.1 _).1 108 = _
      rw [cup_ne (by omega)]; exact b2
    · show (cup U s.2.1 _).1 s.2.1 = _
      rw [cup_eq]
      refine congrArg (fun l => some (true, true, 0, l)) (rowC_congr (fun j hj => ?_))
      by_cases z : j = i
      · rw [if_pos z, if_pos (by omega), z]
        unfold zonF
        rw [ev, bN_of (by omega)]
      · rw [if_neg z]
        by_cases y : j < i
        · rw [if_pos y, if_pos (by omega)]
        · rw [if_neg y, if_neg (by omega)]
    · show (cup U s.2.1 _).1 q = _
      rw [cup_ne (by omega)]; exact b4 q h1 h2
  · rintro ⟨U, _⟩ ⟨rfl, b1, b2, b3, b4, b5, b6, b7⟩
    dsimp only at b1 b2 b3 b4 b5 b6 b7 ⊢
    rw [xI_o (x := Int32.ofNat (spn L nl st ln nr)) b2 rfl rfl, Option.bind_some, if_neg (fun z => by have := (i_lt (by omega) (by omega)).mp z; omega)]
    refine ⟨_, rfl, b1, b2, ?_, b4, b5, b6, b7⟩
    rw [b3]
    refine congrArg (fun l => some (true, true, 0, l)) (rowC_congr (fun j hj => if_pos hj))
  · dsimp only
    rw [cup_ne (by omega), a1]
    refine congrArg (fun l => some (true, true, 0, l)) (rowC_congr (fun j hj => (if_neg (Nat.not_lt_zero _)).symm))
  · dsimp only
    rw [cup_ne h2, a2 q (by omega), cup_ne h2]
  · show S2.2.2.1 = _; rw [a5]; rfl
  · show S2.2.2.2 = _; rw [a6]; rfl
end
