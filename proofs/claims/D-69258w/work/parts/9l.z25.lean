/-! the house: a second's switches, the component -/
section
variable {s s' : CS} {own own' : Nat → Nat} {t T : TS} {K N : Nat} {p9 : lHeap → TS → Prop}
theorem sec_sw {n nr n5 : Nat} (r : RG (P7m n) p9 s own t K N) (c9 : C9 p9 p9) (hn : n ≤ 6000) (hb : t.1 1 ≠ 0) (h9 : t.1 9 = Int32.ofNat nr) (hnr : nr ≤ 40) (hp : t.1 300 = Int32.ofNat (nr + 10)) (h4 : t.1 400 = Int32.ofNat n5) (h40 : n5 ≤ 40) : ∃ S, wh (S := CS × Int32) (X := CS) (fun p33 => (if p33.2 < 10 then Option.bind (xN p33.1 [(45, 4)] 100) (fun a14 => (if isK p33.1 [100] a14 = true then Option.bind (c_1102 a14 p33.2 p33.1) (fun x15 => Option.bind ((if x15 = (-2) then some p33.1 else Option.bind (xN p33.1 [(45, 6)] 100) (fun a16 => Option.bind (xN p33.1 [(45, 3)] 100) (fun a17 => (if isK p33.1 [89] a17 = true then Option.bind (c_1050 a17 p33.1) (fun x18 => (if isK p33.1 [47] a16 = true then Option.bind (c_514 a16 (x18 + p33.2) x15 p33.1) (fun x19 => some x19) else none)) else none))))) (fun v53 => some (.inl (v53, p33.2 + 1)))) else none)) else some (.inr p33.1))) (s, 0) = some S ∧ RG (P7m n) p9 S own (swU t nr n5 10) K N ∧ Frm (fun X => X = 7) own own s S ∧ S.2 = s.2 := by
  refine wh_cnt 10 (fun k (a : CS × Int32) => a.2 = Int32.ofNat k ∧ RG (P7m n) p9 a.1 own (swU t nr n5 k) K N ∧ Frm (fun X => X = 7) own own s a.1 ∧ a.1.2 = s.2) ?_ ?_ ⟨rfl, r, Frm.refl r.wf, rfl⟩
  · rintro k ⟨S, _⟩ hk ⟨rfl, rS, fS, cS⟩
    right
    dsimp only at rS fS cS ⊢
    obtain ⟨u1, u2, u3, u4, u5⟩ := swU_a (t := t) nr n5 k
    obtain ⟨zn, nr', nS, nT, nC, nR, nP, nL, a, rel, S', C, CS', CM, CT, E, RS, RM', RT, P, G, D, L, F, RW, q4⟩ := rS.g4
    have hT1 : ¬ (swU t nr n5 k).1 1 = 0 := by rw [u1]; exact hb
    obtain ⟨n', B, o, od, nw, q5⟩ := id rS.r5
    have hn' : n' = n5 := by
      have e1 := q5.1.2.2.2.2.1
      have e2 := q5.1.2.2.2.2.2.1
      rw [u1, h4] at e1
      exact ((i_inj (by omega) (by omega)).mp e1).symm
    have ev := c_outFor q5 k
    rw [hn', vO_cg (t := t) (u3 137 (by omega)) (u3 131 (by omega))] at ev
    rw [if_pos (show Int32.ofNat k < 10 from (i_lt (k := 10) (by omega) (by omega)).mpr hk), rS.m5.1, Option.bind_some, if_pos rS.m5.2.1, ev, Option.bind_some]
    by_cases z : vO t k n5 = -2
    · rw [if_pos z, Option.bind_some, i_suc]
      refine ⟨_, rfl, rfl, ?_, fS, cS⟩
      show RG (P7m n) p9 S own (if vO t k n5 = -2 then swU t nr n5 k else _) K N
      rw [if_pos z]; exact rS
    · obtain ⟨S1, c1, r1, f1, z1⟩ := set_pt rS hn c9 (by rw [u1]; exact hp) (by omega) (show nr + k < nr + 10 by omega) (vO t k n5)
      rw [if_neg z, rS.m7.1, Option.bind_some, rS.m4.1, Option.bind_some, if_pos rS.m4.2.1, ga_rooms q4, if_neg hT1, Option.bind_some, u1, h9, if_pos rS.m7.2, i_add, c1, Option.bind_some, Option.bind_some, i_suc]
      refine ⟨_, rfl, rfl, ?_, fS.trans f1, by dsimp only; rw [z1, cS]⟩
      show RG (P7m n) p9 S1 own (if vO t k n5 = -2 then _ else wrI (swU t nr n5 k) 99 (nr + k) (vO t k n5)) K N
      rw [if_neg z]; exact r1
  · rintro ⟨S, _⟩ ⟨rfl, rS, fS, cS⟩
    dsimp only at rS fS cS ⊢
    exact ⟨S, by rw [if_neg (by decide)], rS, fS, cS⟩
/-- levels and switches, on both sides -/
theorem sec_det {n nr n5 : Nat} {nl nd sm nr9 : Nat} {W : Nat → Nat} {e q g wn : Nat → Int32} {sc : Nat → Nat} (r : RG (P7m n) (fun h t => R9x h t nl nr9 nd sm W e q g wn sc) s own t K N) (hn : n ≤ 6000) (hb : t.1 1 ≠ 0) (h9 : t.1 9 = Int32.ofNat nr) (hnr : nr ≤ 40) (hp : t.1 300 = Int32.ofNat (nr + 10)) (h4 : t.1 400 = Int32.ofNat n5) (h40 : n5 ≤ 40) (b5 : B137 t) :
    ∃ S1 S T, wh (S := CS × Int32) (X := CS) (fun p12 => Option.bind (xN p12.1 [(45, 3)] 100) (fun a7 => (if isK p12.1 [89] a7 = true then Option.bind (c_1050 a7 p12.1) (fun x8 => (if p12.2 < x8 then Option.bind (xN p12.1 [(45, 6)] 100) (fun a9 => Option.bind (xN p12.1 [(45, 8)] 100) (fun a10 => (if isK p12.1 [50] a10 = true then Option.bind (c_548 a10 p12.2 p12.1) (fun x11 => Option.bind (c_48 100 (10 * x11) p12.1) (fun x12 => (if isK p12.1 [47] a9 = true then Option.bind (c_514 a9 p12.2 x12 p12.1) (fun x13 => some (.inl (x13, p12.2 + 1))) else none))) else none))) else some (.inr p12.1))) else none))) (s, 0) = some S1 ∧
      wh (S := CS × Int32) (X := CS) (fun p33 => (if p33.2 < 10 then Option.bind (xN p33.1 [(45, 4)] 100) (fun a14 => (if isK p33.1 [100] a14 = true then Option.bind (c_1102 a14 p33.2 p33.1) (fun x15 => Option.bind ((if x15 = (-2) then some p33.1 else Option.bind (xN p33.1 [(45, 6)] 100) (fun a16 => Option.bind (xN p33.1 [(45, 3)] 100) (fun a17 => (if isK p33.1 [89] a17 = true then Option.bind (c_1050 a17 p33.1) (fun x18 => (if isK p33.1 [47] a16 = true then Option.bind (c_514 a16 (x18 + p33.2) x15 p33.1) (fun x19 => some x19) else none)) else none))))) (fun v53 => some (.inl (v53, p33.2 + 1)))) else none)) else some (.inr p33.1))) (S1, 0) = some S ∧
      t_665 t = some T ∧ RG (P7m n) (fun h t => R9x h t nl nr9 nd sm W e q g wn sc) S own T K N ∧ Frm (fun X => X = 7) own own s S ∧ S.2 = s.2 ∧ T.1 = t.1 ∧ (∀ Z, Z ≠ 7 → rt T Z = rt t Z) := by
  obtain ⟨S1, T1, a1, a2, a3, a4, a5, a6, a7⟩ := sec_rooms (np := nr + 10) r hn hb h9 hnr hp (by omega) (by omega)
  obtain ⟨S2, b1, b2, b3, b4⟩ := sec_sw (n5 := n5) a3 C9_x hn (by rw [a6]; exact hb) (by rw [a6]; exact h9) hnr (by rw [a6]; exact hp) (by rw [a6]; exact h4) h40
  obtain ⟨u1, u2, u3, u4, u5⟩ := swU_a (t := T1) nr n5 10
  refine ⟨S1, S2, swU T1 nr n5 10, a1, b1, ?_, b2, a4.trans b3, b4.trans a5, u1.trans a6, fun Z hZ => ?_⟩
  · unfold t_665
    rw [a2, Option.bind_some, t_sw (by rw [a6]; exact h9) hnr (by rw [a6]; exact h4) h40 (fun k hk => by rw [rt_row (c := 137) (a7 5 (by omega)) rfl]; exact b5 k hk)]
    rfl
  · rw [← a7 Z hZ]
    refine rt_of (fun c _ => congrFun u1 c) u2 (fun c j hc => ?_) u4
    by_cases z : c = 99
    · subst z
      exact absurd hc (fun w => hZ (by rw [← w]; decide))
    · exact congrFun (u3 c z) j
end
