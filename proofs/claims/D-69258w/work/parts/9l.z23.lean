/-! the house: a second's levels of smoke -/
section
variable {s s' : CS} {own own' : Nat → Nat} {t T : TS} {K N : Nat} {p9 : lHeap → TS → Prop}
theorem P7m_at {n : Nat} {h : lHeap} (r : P7m n h t) : ∃ mx ec, h 151 = some (true, false, 47, [.ref 152, .ref 153, .ref mx, .ref 158, .ref 159, .ref 160, .int (Int32.ofNat ec), .ref 161, .int (Int32.ofNat n), .int (t.1 1), .ref 115, .ref 120]) := by
  obtain ⟨np, sz, mx, zm, am, rl, nr, na, ec, P, Z, ZP, A, RW, od, q⟩ := r
  exact ⟨mx, ec, q.1.1⟩
theorem RG.m7 {n : Nat} (r : RG (P7m n) p9 s own t K N) : xN s [(45, 6)] 100 = some 151 ∧ isK s [47] 151 = true := by
  obtain ⟨mx, ec, q⟩ := P7m_at r.r7
  exact ⟨xN_o r.c100 rfl rfl, isK_t (rs_in q).1 rfl⟩
/-- a point gets its value -/
theorem set_pt {n np k : Nat} (r : RG (P7m n) p9 s own t K N) (hn : n ≤ 6000) (c9 : C9 p9 p9) (hp : t.1 300 = Int32.ofNat np) (hnp : np ≤ 50) (hk : k < np) (v : Int32) : ∃ S, c_514 151 (Int32.ofNat k) v s = some S ∧ RG (P7m n) p9 S own (wrI t 99 k v) K N ∧ Frm (fun X => X = 7) own own s S ∧ S.2 = s.2 := by
  obtain ⟨np', sz, mx, zm, am, rl, nr, na, ec, P, Z, ZP, A, RW, od, q⟩ := id r.r7
  have e : np' = np := by
    have h1 : (ptI t 301 (Int32.ofNat n)).1 300 = Int32.ofNat np' := q.2.1.2.1
    have h2 : np' ≤ 50 := q.2.1.2.2.1
    rw [pt_1, if_neg (by omega), hp] at h1
    exact ((i_inj (j := np) (k := np') (by omega) (by omega)).mp h1).symm
  subst e
  have q' : R7x (rs s.1 own 7) (ptI t 301 (Int32.ofNat n)) np' sz mx zm am rl nr na ec P Z ZP A RW od := by
    unfold R7x
    rw [pt_1, if_pos rfl, show bN (Int32.ofNat n) = n from i_clamp (by omega)]
    exact q
  obtain ⟨b1, b2, b3⟩ := wa_set r.wf q' hk v
  refine ⟨_, b1, ?_, b2, rfl⟩
  unfold R7x at b3
  refine r.keep (X := fun X => X = 7) (Y := fun Z => Z = 7) b2 (fun Z h => by omega) (fun Z h w => h w) (fun Z h _ => rt_wrI (by show 7 ≠ Z; exact fun w => h w.symm)) rfl (rt_wrI (by decide)) (by omega) (by omega) (fun z => by omega) (fun z => by omega) (fun z => by omega) (fun z => by omega) (fun _ => rfl) (fun _ => ?_) (fun z => absurd rfl z) (fun z => by omega) (fun z => by omega) (fun _ => ⟨c9, rfl, rfl⟩) (fun z => by omega)
  refine ⟨np', sz, mx, zm, am, rl, nr, na, ec, P, Z, ZP, A, RW, od, ?_⟩
  have e2 : bN ((wrI (ptI t 301 (Int32.ofNat n)) 99 k v).1 301) = n := i_clamp (by omega)
  rw [e2] at b3
  exact b3
/-- each room's level, on both sides -/
theorem sec_rooms {n nr np : Nat} {nl nd sm nr9 : Nat} {W : Nat → Nat} {e q g wn : Nat → Int32} {sc : Nat → Nat} (r : RG (P7m n) (fun h t => R9x h t nl nr9 nd sm W e q g wn sc) s own t K N) (hn : n ≤ 6000) (hb : t.1 1 ≠ 0) (h9 : t.1 9 = Int32.ofNat nr) (hnr : nr ≤ 40) (hp : t.1 300 = Int32.ofNat np) (hnp : np ≤ 50) (hle : nr ≤ np) :
    ∃ S T, wh (S := CS × Int32) (X := CS) (fun p12 => Option.bind (xN p12.1 [(45, 3)] 100) (fun a7 => (if isK p12.1 [89] a7 = true then Option.bind (c_1050 a7 p12.1) (fun x8 => (if p12.2 < x8 then Option.bind (xN p12.1 [(45, 6)] 100) (fun a9 => Option.bind (xN p12.1 [(45, 8)] 100) (fun a10 => (if isK p12.1 [50] a10 = true then Option.bind (c_548 a10 p12.2 p12.1) (fun x11 => Option.bind (c_48 100 (10 * x11) p12.1) (fun x12 => (if isK p12.1 [47] a9 = true then Option.bind (c_514 a9 p12.2 x12 p12.1) (fun x13 => some (.inl (x13, p12.2 + 1))) else none))) else none))) else some (.inr p12.1))) else none))) (s, 0) = some S ∧
      wh (S := TS × Int32) (X := TS) (fun p2 => (if p2.2 < (p2.1.1 9) then Option.bind (t_666 p2.2 p2.1) (fun x1 => Option.bind ((if 100 < (10 * x1) then some 100 else some (10 * x1))) (fun v22 => Option.bind (stI p2.1 99 50 p2.2 v22) (fun s2 => some (.inl (s2, p2.2 + 1))))) else some (.inr p2.1))) (t, 0) = some T ∧
      RG (P7m n) (fun h t => R9x h t nl nr9 nd sm W e q g wn sc) S own T K N ∧ Frm (fun X => X = 7) own own s S ∧ S.2 = s.2 ∧ T.1 = t.1 ∧ (∀ Z, Z ≠ 7 → rt T Z = rt t Z) := by
  refine wh_two nr (fun k (a : CS × Int32) (b : TS × Int32) => a.2 = Int32.ofNat k ∧ b.2 = Int32.ofNat k ∧ RG (P7m n) (fun h t => R9x h t nl nr9 nd sm W e q g wn sc) a.1 own b.1 K N ∧ Frm (fun X => X = 7) own own s a.1 ∧ a.1.2 = s.2 ∧ b.1.1 = t.1 ∧ (∀ Z, Z ≠ 7 → rt b.1 Z = rt t Z)) ?_ ?_ ⟨rfl, rfl, r, Frm.refl r.wf, rfl, rfl, fun _ _ => rfl⟩
  · rintro k ⟨S, _⟩ ⟨T, _⟩ hk ⟨rfl, rfl, rS, fS, cS, e1, eZ⟩
    dsimp only at rS fS cS e1 eZ ⊢
    obtain ⟨zn, nr', nS, nT, nC, nR, nP, nL, a, rel, S', C, CS', CM, CT, E, RS, RM', RT, P, G, D, L, F, RW, q4⟩ := rS.g4
    have hT9 : T.1 9 = Int32.ofNat nr := by rw [e1]; exact h9
    have hT1 : ¬ T.1 1 = 0 := by rw [e1]; exact hb
    obtain ⟨m, hm, w1, w2⟩ := ce_room (R9_raw rS.r9) (v := Int32.ofNat k) (i_nlt0 (by omega))
    have hm1 : ∀ x : Int32, (if x < 100 then some x else some 100 : Option Int32) = some (if x < 100 then x else 100) := fun x => by split <;> rfl
    have hm2 : ∀ x : Int32, (if 100 < x then some 100 else some x : Option Int32) = some (if x < 100 then x else 100) := fun x => by
      by_cases z : x < 100
      · rw [if_pos z, if_neg (fun w => by
          rw [Int32.lt_iff_toInt_lt] at z w
          omega)]
      · by_cases y : 100 < x
        · rw [if_pos y, if_neg z]
        · rw [if_neg y, if_neg z]
          have : x = 100 := Int32.le_antisymm (Int32.not_lt.mp y) (Int32.not_lt.mp z)
          rw [this]
    obtain ⟨S1, c1, r1, f1, z1⟩ := set_pt rS hn C9_x (by rw [e1]; exact hp) hnp (show k < np by omega) (if 10 * Int32.ofNat m < 100 then 10 * Int32.ofNat m else 100)
    refine Or.inr ⟨(S1, Int32.ofNat (k + 1)), (wrI T 99 k (if 10 * Int32.ofNat m < 100 then 10 * Int32.ofNat m else 100), Int32.ofNat (k + 1)), ?_, ?_, rfl, rfl, r1, fS.trans f1, by dsimp only; rw [z1, cS], e1, fun Z hZ => (rt_wrI (by show 7 ≠ Z; exact fun w => hZ w.symm)).trans (eZ Z hZ)⟩
    · rw [rS.m4.1, Option.bind_some, if_pos rS.m4.2.1, ga_rooms q4, if_neg hT1, Option.bind_some, hT9, if_pos ((i_lt (by omega) (by omega)).mpr hk), rS.m7.1, Option.bind_some, xN_o rS.c100 rfl rfl, Option.bind_some, if_pos (isK_t (rs_in rS.r9.1.1).1 rfl), w1, Option.bind_some]
      unfold c_48
      rw [hm1, Option.bind_some, if_pos rS.m7.2, c1, Option.bind_some, i_suc]
    · rw [hT9, if_pos ((i_lt (by omega) (by omega)).mpr hk), w2, Option.bind_some, hm2, Option.bind_some, stI_n (by omega) (by omega), Option.bind_some, i_suc]
  · rintro ⟨S, _⟩ ⟨T, _⟩ ⟨rfl, rfl, rS, fS, cS, e1, eZ⟩
    dsimp only at rS fS cS e1 eZ ⊢
    obtain ⟨zn, nr', nS, nT, nC, nR, nP, nL, a, rel, S', C, CS', CM, CT, E, RS, RM', RT, P, G, D, L, F, RW, q4⟩ := rS.g4
    have hT9 : T.1 9 = Int32.ofNat nr := by rw [e1]; exact h9
    have hT1 : ¬ T.1 1 = 0 := by rw [e1]; exact hb
    refine ⟨S, T, ?_, ?_, rS, fS, cS, e1, eZ⟩
    · rw [rS.m4.1, Option.bind_some, if_pos rS.m4.2.1, ga_rooms q4, if_neg hT1, Option.bind_some, hT9, if_neg (by rw [i_lt (by omega) (by omega)]; omega)]
    · rw [hT9, if_neg (by rw [i_lt (by omega) (by omega)]; omega)]
end
