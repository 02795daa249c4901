/-! permits: the rules are read, both sides -/
section
variable {s S : CS} {t T : TS} {own : Nat → Nat} {x : List Nat} {rd rl k : Nat} {mc : Int32} {F : List ClD} {Rs : List RuD}
def uX {α : Type} (o : Option (α × CS)) : Option (Sum (α × CS) (Nat × CS)) := Option.map Sum.inl o
def ruD0 : RuD := (0, 0, 0, 0, 0, [], [], 0, 0)
/-- where the k-th rule's clauses begin -/
def qF (Rs : List RuD) (b k : Nat) : Nat := if h : k < Rs.length then ruQ Rs[k] else b
theorem RzF_rt (f : RzF 0 0 0 t T) {Z : Nat} (hZ : Z ≠ 3) : rt T Z = rt t Z := by
  obtain ⟨f1, f2, f3, f4⟩ := f
  unfold rt
  refine Prod.ext ?_ (Prod.ext ?_ (Prod.ext ?_ ?_)) <;> dsimp only
  · funext c
    by_cases z : mI c = Z
    · rw [if_pos z, if_pos z]
      exact f1 c (fun w => by rw [w] at z; exact hZ z.symm) (fun w => by rw [w] at z; exact hZ z.symm) (fun w => by rw [w] at z; exact hZ z.symm) (fun w => by rw [w] at z; exact hZ z.symm) (fun w => by rw [w] at z; exact hZ z.symm) (fun w => by rw [w] at z; exact hZ z.symm) (fun w => by rw [w] at z; exact hZ z.symm) (fun w => by rw [w] at z; exact hZ z.symm) (fun w => by rw [w] at z; exact hZ z.symm)
    · rw [if_neg z, if_neg z]
  · funext c
    by_cases z : mI c = Z
    · rw [if_pos z, if_pos z]
      exact f2 c (fun w => by rw [w] at z; exact hZ z.symm)
    · rw [if_neg z, if_neg z]
  · funext c j
    by_cases z : mR c = Z
    · rw [if_pos z, if_pos z]
      refine (f3 c j).resolve_left (fun w => ?_)
      have m : c = 96 ∨ c = 87 ∨ c = 83 ∨ c = 84 ∨ c = 85 ∨ c = 86 ∨ c = 80 ∨ c = 81 ∨ c = 82 := by omega
      rcases m with rfl | rfl | rfl | rfl | rfl | rfl | rfl | rfl | rfl <;> exact hZ z.symm
    · rw [if_neg z, if_neg z]
  · funext c j
    by_cases z : mR c = Z
    · rw [if_pos z, if_pos z]
      refine (f4 c j).resolve_left (fun w => ?_)
      have m : c = 88 ∨ c = 79 := by omega
      rcases m with rfl | rfl <;> exact hZ z.symm
    · rw [if_neg z, if_neg z]
theorem K3_KS (k : K3 (rs s.1 own 11)) : KS s := fun p hp => (rs_some.mp (k.1 p hp)).2
theorem RuOk_d {s : CS} {t : TS} {j : Nat} {u : RuD} (h : RuOk rd s t F j u) : rd < u.1 ∧ rd < u.2.2.2.1 ∧ s.1 u.1 = some (true, false, 70, [.ref u.2.1, .ref u.2.2.1, .ref u.2.2.2.1, .int u.2.2.2.2.1, .null, .null, .null, .int 0, .null]) ∧ s.1 u.2.2.2.1 = some (true, false, 1013, .int u.2.2.2.2.2.2.2.1 :: u.2.2.2.2.2.2.1.map Value.ref) ∧ t.2.2.1 80 (12 + j) = Int32.ofNat (ruQ u) ∧ t.2.2.1 81 (12 + j) = Int32.ofNat (ruM u) ∧ t.2.2.1 82 (12 + j) = u.2.2.2.2.1 ∧ ClP (noN rd s.1) u.2.2.1 (F.getD (ruQ u) clD0).1 (F.getD (ruQ u) clD0).2.1 (F.getD (ruQ u) clD0).2.2 ∧ ∀ i, i < ruM u → ClP (noN rd s.1) (u.2.2.2.2.2.2.1.getD i 0) (F.getD (ruQ u + 1 + i) clD0).1 (F.getD (ruQ u + 1 + i) clD0).2.1 (F.getD (ruQ u + 1 + i) clD0).2.2 := by
  obtain ⟨r, nm, cc, ex, day, w, CE, mce, q⟩ := u
  obtain ⟨g1, g2, g3, g4, g5, g6, g7, g8, g9, g10, g11, g12, g13, g14⟩ := h
  refine ⟨g1, g3, g4, g7, g9, g10, g11, g13, fun i hi => ?_⟩
  have e2 : CE.getD i 0 = CE[i]'hi := by rw [List.getD_eq_getElem?_getD, List.getElem?_eq_getElem hi]; rfl
  show ClP _ (CE.getD i 0) _ _ _
  rw [e2]
  exact g14 i hi
/-- what was read makes the relation -/
theorem R3_read {T' : TS} {h : lHeap} {nf : Nat} (I : RuI S T rd rl x k F Rs mc) (hN : ∀ p c, noN rd S.1 p = some c → noK h p = some c) (hh : ∀ p c, rd < p → S.1 p = some c → h p = some c) (hrl : rd < rl) (h104 : h 104 = some (true, false, 78, [.ref 105, .ref rl, .ref 107, .int (-1)])) (h105 : h 105 = some (true, false, 1035, [])) (hf : R3f h T' nf) (a205 : T'.1 205 = Int32.ofNat Rs.length) (a201 : T'.1 201 = 0) (a218 : T'.1 218 = -1) (a8 : ∀ c j, (c = 80 ∨ c = 81 ∨ c = 82) → j < Rs.length → T'.2.2.1 c j = T.2.2.1 c (12 + j)) (a83 : ∀ c j, (c = 83 ∨ c = 84 ∨ c = 85 ∨ c = 86) → j < F.length → T'.2.2.1 c j = T.2.2.1 c (60 + j)) (a87 : ∀ j, j < sumL F → T'.2.2.1 87 j = T.2.2.1 87 (400 + j) ∧ T'.2.2.2 88 j = T.2.2.2 88 (400 + j)) : R3 h T' := by
  obtain ⟨⟨R, Q, h233, h234, B, C, hF⟩, hl, h232, h12, hR, hc, hi, hx⟩ := I
  have k12 := k121 R
  obtain ⟨c0, c1, c2⟩ := chn_at hc
  have gF : ∀ {c : Nat} (h : c < F.length), F.getD c clD0 = F[c] := fun {c} h => by
    rw [List.getD_eq_getElem?_getD, List.getElem?_eq_getElem h]; rfl
  have gR : ∀ {j : Nat} (h : j < Rs.length), Rs.getD j ruD0 = Rs[j] := fun {j} h => by
    rw [List.getD_eq_getElem?_getD, List.getElem?_eq_getElem h]; rfl
  have q0 : qF Rs F.length 0 = 0 := by
    unfold qF
    by_cases z : 0 < Rs.length
    · rw [dif_pos z]; exact c0 z
    · rw [dif_neg z]
      have e : Rs = [] := List.length_eq_zero_iff.mp (by omega)
      rw [e] at hc
      exact hc.symm
  have qn : qF Rs F.length Rs.length = F.length := by
    unfold qF
    rw [dif_neg (Nat.lt_irrefl _)]
  have qk : ∀ {j : Nat} (h : j < Rs.length), qF Rs F.length j = ruQ Rs[j] := fun {j} h => by unfold qF; rw [dif_pos h]
  have bbS : ∀ c, c ≤ F.length → sumL (F.take c) ≤ sumL F := fun c hc' => by
    have e : sumL F = sumL (F.take c) + sumL (F.drop c) := by rw [← sumL_app, List.take_append_drop]
    omega
  refine ⟨nf, 0, Rs.length, rl, mc, fun j => (Rs.getD j ruD0).1, qF Rs F.length, fun c => sumL (F.take c), fun c => F.getD c clD0, by rw [a218]; exact h104, Or.inl a218, ⟨h105, a201, by decide, fun j hj => absurd hj (Nat.not_lt_zero _)⟩, hf, ?_, a205, h12, q0, by rw [qn]; omega, fun j hj => ?_, fun i j hi' hj e => ?_, rfl, by rw [qn]; show sumL (F.take F.length) ≤ 250; rw [List.take_length]; omega, fun c hc' => ?_⟩
  · rw [hh rl _ hrl hl]
    congr 5
    exact rowC_ext (by simp) (fun j hj => by
      rw [List.getElem?_map, List.getElem?_map, List.getElem?_eq_getElem hj]
      show _ = some (Value.ref (Rs.getD j ruD0).1)
      rw [gR hj]; rfl)
  · obtain ⟨g1, g3, g4, g7, g9, g10, g11, g13, g14⟩ := RuOk_d (hR j hj)
    have cj := c1 j hj
    have e1 : qF Rs F.length (j + 1) = qF Rs F.length j + 1 + ruM Rs[j] := by
      rw [qk hj, ← cj]; rfl
    have eq := qk hj
    show RuR h T' (fun c => F.getD c clD0) (qF Rs F.length) j (Rs.getD j ruD0).1
    rw [gR hj]
    refine ⟨Rs[j].2.1, Rs[j].2.2.1, Rs[j].2.2.2.1, .null, .null, .null, 0, .null, Rs[j].2.2.2.2.2.2.2.1, ruM Rs[j], fun i => Rs[j].2.2.2.2.2.2.1.getD i 0, ?_, ⟨?_, ?_, fun i hi' => ?_, ?_, ?_, e1⟩, Or.inl ⟨a218, rfl⟩⟩
    · rw [a8 82 j (by decide) hj, g11]
      exact hh _ _ g1 g4
    · rw [hh _ _ g3 g7]
      congr 5
      exact rowC_ext (by simp [ruM]) (fun i hi' => by
        have hi2 : i < Rs[j].2.2.2.2.2.2.1.length := hi'
        rw [List.getElem?_map]
        show _ = some (Value.ref (Rs[j].2.2.2.2.2.2.1.getD i 0))
        rw [List.getD_eq_getElem?_getD, List.getElem?_eq_getElem hi2]; rfl)
    · rw [eq]; exact ClP_up hN g13
    · rw [eq]; exact ClP_up hN (g14 i hi')
    · rw [a8 80 j (by decide) hj, eq]; exact g9
    · rw [a8 81 j (by decide) hj]; exact g10
  · dsimp only at e
    rw [gR hi', gR hj] at e
    rcases Nat.lt_trichotomy i j with w | w | w
    · have := hi i j hj w; omega
    · exact w
    · have := hi j i hi' w; omega
  · rw [qn] at hc'
    have sl := sumL_take hc'
    dsimp only
    rw [gF hc']
    refine ⟨?_, sl.2⟩
    obtain ⟨r1, r2, r3, r4, r5, r6, r7⟩ := hF c hc'
    -- every clause is a rule's
    have okk : okS F[c].1 0 ∧ okS F[c].2.1 0 := by
      obtain ⟨j, hj, w1, w2⟩ := c2 c (Nat.zero_le _) hc'
      obtain ⟨g1, g3, g4, g7, g9, g10, g11, g13, g14⟩ := RuOk_d (hR j hj)
      have fin : ∀ {cc : Nat}, ClP (noN rd S.1) cc (F.getD c clD0).1 (F.getD c clD0).2.1 (F.getD c clD0).2.2 → okS F[c].1 0 ∧ okS F[c].2.1 0 := fun {cc} h' => by
        rw [gF hc'] at h'
        obtain ⟨a, b, gg, _, _, _, p1, p2⟩ := h'
        have o1 := okS_PT p1 (l' := []) (n := 0) (Nat.le_refl _)
        have o2 := okS_PT p2 (l' := []) (n := 0) (Nat.le_refl _)
        rw [List.append_nil] at o1 o2
        exact ⟨o1, o2⟩
      by_cases z : c = ruQ Rs[j]
      · exact fin (by rw [z]; exact g13)
      · have w3 : c - ruQ Rs[j] - 1 < ruM Rs[j] := by omega
        have := g14 (c - ruQ Rs[j] - 1) w3
        rw [show ruQ Rs[j] + 1 + (c - ruQ Rs[j] - 1) = c by omega] at this
        exact fin this
    refine ⟨(a83 83 c (by decide) hc').trans r1, (a83 84 c (by decide) hc').trans r2, (a83 85 c (by decide) hc').trans r3, (a83 86 c (by decide) hc').trans r4, r5, ⟨fun m hm => ?_, by omega, okk.1, by omega⟩, ⟨fun m hm => ?_, by omega, okk.2, by omega⟩⟩
    · obtain ⟨e1, e2⟩ := a87 (sumL (F.take c) + m) (by omega)
      rw [e1, e2, ← Nat.add_assoc]; exact r6 m hm
    · obtain ⟨e1, e2⟩ := a87 (sumL (F.take c) + F[c].1.length + m) (by omega)
      rw [e1, e2, ← Nat.add_assoc]; exact r7 m hm
theorem pm_rules (hw : wfS s) (hs : 179 ≤ s.2.1) (k3 : K3 (rs s.1 own 11)) (r : R3 (rs s.1 own 3) t) : Rg thr0 (fun X => X = 3) 3 (fun H t => R3 (H 3) t) own s t 2230 6680 (uX (c_970 104 s)) (t_576 t) := by
  have r0 := r
  obtain ⟨nf, n, nr, rl0, mc0, ru, q, bb, D, r1, rD, ⟨x1, x2, x3, x4⟩, rF, rL, _⟩ := r
  have g : ∀ {p c}, rs s.1 own 3 p = some c → s.1 p = some c := fun h => (rs_some.mp h).2
  have o104 : own 104 = 3 := (rs_some.mp r1).1
  have o105 : own 105 = 3 := (rs_some.mp x1).1
  -- the reader is made
  have v1 : VOk s (nw s 68 [.null, .null, .null, .int 0, .int 0, .int 0, .int 0]).2 1 := VOk_nw (j := 1) (k := 7) hw _ (by omega) (by omega)
  obtain ⟨s1, hs1⟩ : ∃ s1, s1 = (nw s 68 [.null, .null, .null, .int 0, .int 0, .int 0, .int 0]).2 := ⟨_, rfl⟩
  have b1 : s1.2.1 = s.2.1 + 1 := by rw [hs1]; rfl
  have c68 : s1.1 s.2.1 = some (true, false, 68, [.null, .null, .null, .int 0, .int 0, .int 0, .int 0]) := by rw [hs1]; exact nwc_eq ..
  rw [← hs1] at v1
  have v2 : VOk s1 (nw s1 13 [.int 0, .null, .int 0]).2 1 := VOk_nw (j := 1) (k := 3) v1.1 _ (by omega) (by omega)
  obtain ⟨s2, hs2⟩ : ∃ s2, s2 = (nw s1 13 [.int 0, .null, .int 0]).2 := ⟨_, rfl⟩
  have c13 : s2.1 s1.2.1 = some (true, false, 13, [.int 0, .null, .int 0]) := by rw [hs2]; exact nwc_eq ..
  rw [← hs2] at v2
  have c68' : s2.1 s.2.1 = some (true, false, 68, [.null, .null, .null, .int 0, .int 0, .int 0, .int 0]) := VOk_up v2 v1.1 c68
  have l1 := wf_lt v2.1 c13
  have l2 := wf_lt v2.1 c68'
  obtain ⟨s3, hs3⟩ : ∃ s3, s3 = cup (cup s2 s1.2.1 (true, false, 1013, [.int 0])) s.2.1 (rdCell s1.2.1 .null 0 0 0 0) := ⟨_, rfl⟩
  have eq929 : c_929 s.2.1 105 s1 = some s3 := by
    unfold c_929
    have c68b : (cup s2 s1.2.1 (true, false, 1013, [.int 0])).1 s.2.1 = some (true, false, 68, [.null, .null, .null, .int 0, .int 0, .int 0, .int 0]) := (cup_ne (by omega)).trans c68'
    rw [Option.bind_some, ← hs2, show (nw s1 13 [.int 0, .null, .int 0]).1 = s1.2.1 from rfl, if_pos (isK_t c13 rfl), alInit_o c13, Option.bind_some, xP_c c68b rfl (by show 1 < 7; decide) (show List.set _ 1 _ = [.null, .ref s1.2.1, .null, .int 0, .int 0, .int 0, .int 0] from rfl), Option.bind_some, xP_c (cup_eq ..) rfl (by show 0 < 7; decide) (show List.set _ 0 _ = [.ref 105, .ref s1.2.1, .null, .int 0, .int 0, .int 0, .int 0] from rfl), Option.bind_some, cupU, hs3]
    rfl
  have J3 : JY (fun _ => False) s s3 2 := by
    rw [hs3]
    exact JY_c (JY_c (JY_tr (JY_v v1) (JY_v v2) (Nat.le_refl _)) (Or.inr (by omega)) l1) (Or.inr (Nat.le_refl _)) l2
  have hrd : s3.1 s.2.1 = some (rdCell s1.2.1 .null 0 0 0 0) := by rw [hs3]; exact cup_eq ..
  have hrl : s3.1 s1.2.1 = some (true, false, 1013, [.int 0]) := by rw [hs3]; exact (cup_ne (by omega)).trans (cup_eq ..)
  have up3 : ∀ {p c}, s.1 p = some c → s3.1 p = some c := fun h => JY_up J3 hw (fun w => w) h
  have K : KS s3 := fun p hp => up3 (K3_KS k3 p hp)
  -- the text
  have cx : ∃ X : List Nat, X.length = n ∧ (∀ j (h : j < X.length), t.2.2.1 76 j = Int32.ofNat X[j]) ∧ (∀ c ∈ X, 32 ≤ c ∧ c ≤ 126) ∧ rowC (fun j => .int (t.2.2.1 76 j)) n = txV X := by
    have ch : ∀ j : Nat, ∃ v : Nat, j < n → 32 ≤ v ∧ v ≤ 126 ∧ t.2.2.1 76 j = Int32.ofNat v := fun j => by
      by_cases z : j < n
      · obtain ⟨v, h⟩ := x4 j z
        exact ⟨v, fun _ => h⟩
      · exact ⟨0, fun w => absurd w z⟩
    obtain ⟨f, hf⟩ := Classical.axiomOfChoice ch
    refine ⟨(List.range n).map f, by simp, fun j hj => ?_, fun c hc => ?_, ?_⟩
    · have hj' : j < n := by simpa using hj
      simp only [List.getElem_map, List.getElem_range]
      exact (hf j hj').2.2
    · obtain ⟨j, hj, rfl⟩ := List.mem_map.mp hc
      have := hf j (List.mem_range.mp hj)
      exact ⟨this.1, this.2.1⟩
    · unfold rowC txV
      rw [List.map_map]
      exact List.map_congr_left (fun j hj => by
        have := hf j (List.mem_range.mp hj)
        show Value.int (t.2.2.1 76 j) = .int (Int32.ofNat (f j))
        rw [this.2.2])
  obtain ⟨X, Xl, X76, Xc, Xe⟩ := cx
  have TX : TxC X s3 := ⟨by rw [← Xe]; exact up3 (g x1), by omega, Xc⟩
  have t0a : Ag3 t (ptI t 0 0) := ⟨fun c hc => if_neg (by omega), fun _ _ => rfl, fun _ _ => rfl, fun _ _ _ _ => rfl, fun _ _ _ _ => rfl, fun _ _ => ⟨rfl, rfl⟩⟩
  have TY : TxR X (ptI t 0 0) := ⟨by rw [Xl]; exact x2, by omega, X76, Xc⟩
  have tq : t_576 t = Option.bind (t_733 (ptI t 0 0)) (fun x2 => some (x2.1, x2.2)) := by
    unfold t_576
    rw [Option.bind_some]
  have cq : c_970 104 s = Option.bind (Option.bind (c_930 s.2.1 s3) (Sum.elim (fun x4 => Option.bind (xP x4.2 [(78, 1)] 104 (vR x4.1)) (fun s6 => Option.bind (xN s6 [(78, 0)] 104) (fun a7 => (if isK s6 [35] a7 = true then Option.bind (sbSet s6 a7 0) (fun s8 => Option.bind (xP s8 [(78, 3)] 104 (.int (-1))) (fun s9 => Option.bind (xN s9 [(78, 1)] 104) (fun a10 => (if isK s9 [13] a10 = true then Option.bind (alSize s9 a10) (fun x11 => some (.inr (x11, s9))) else none)))) else none)))) (fun q5 => (if isK q5.2 [69] q5.1 = true then some (.inl (q5.2, q5.1)) else none))) : Option (Sum (CS × Nat) (Int32 × CS))) (Sum.elim (fun v19 => Option.bind (xI v19.1 [(69, 6)] v19.2) (fun x12 => some ((-1) - x12, v19.1))) (fun z => some z)) := by
    unfold c_970
    rw [Option.bind_some, ← hs1, xN_o (VOk_up v1 hw (g r1)) rfl rfl, Option.bind_some, show (nw s 68 [.null, .null, .null, .int 0, .int 0, .int 0, .int 0]).1 = s.2.1 from rfl, if_pos (isK_t c68 rfl), eq929, Option.bind_some, if_pos (isK_t hrd rfl)]
  rw [tq, cq]
  have hrg : ∀ p c, s.1 p = some c → ∀ {S : CS}, JY (fun p => p = s.2.1 ∨ p = s1.2.1) s3 S 740 → S.1 p = some c := fun p c h {S} J => by
    have lp := wf_lt hw h
    exact JY_up J J3.1 (by omega) (up3 h)
  rcases rd_read J3.1 K TX TY hrd hrl with ⟨S, T, k, F, Rs, mc, c1, c2, I, J, Fr⟩ | ⟨S, e, T, c1, c2, W, J, Fr⟩
  rotate_left
  · -- a wrong word
    obtain ⟨fs, w1, w2⟩ := W
    have lS : s.2.1 ≤ S.2.1 := Nat.le_trans J3.2.1 J.2.1
    have up : ∀ p c, rs s.1 own 3 p = some c → rs S.1 (own3 own s.2.1) 3 p = some c := fun p c h => by
      obtain ⟨o, h'⟩ := rs_some.mp h
      exact rs_some.mpr ⟨by rw [own3_lt (wf_lt hw h')]; exact o, hrg p c h' J⟩
    refine Or.inl ⟨(-1) - T.1 226, S, T, own3 own s.2.1, ?_, by rw [c2, Option.bind_some], ?_, fun Z h1 h2 => ?_, ?_, ?_, ?_, ?_⟩
    · rw [c1, Option.bind_some, Sum.elim_inr, if_pos (isK_t w1 rfl), Option.bind_some, Sum.elim_inl, xI_o w1 rfl w2, Option.bind_some]; rfl
    · exact (Fr.1 0 (by decide) (by decide) (by decide) (by decide) (by decide) (by decide) (by decide) (by decide) (by decide)).trans rfl
    · rw [RzF_rt Fr h1, rt_ptI (fun w => h2 (by rw [← w]; decide))]
    · refine frm_pt (fun p => False) (fun p hp h => h.elim) (fun p hp _ => ?_) lS (fun p hp => own3_lt hp) (fun p h1 h2 => own3_ge h1) J.1
      rw [J.2.2.1 p (by have := J3.2.1; omega) (by omega), J3.2.2.1 p hp (fun w => w)]
    · exact R3_up up (Ag3_rz Fr) (R3_up (fun _ _ h => h) t0a r0)
    · have := J.2.2.2.1
      have := J3.2.2.2.1
      omega
    · have := J.2.2.2.2
      have := J3.2.2.2.2
      omega
  · -- the rules stand
    have lS : s.2.1 ≤ S.2.1 := Nat.le_trans J3.2.1 J.2.1
    have I0 := I
    obtain ⟨⟨R, Q, h233, h234, B, C, hF⟩, hl, h232, h12, hR, hc, hi, hx⟩ := I0
    have k12 := k121 R
    obtain ⟨T1, d1, d205, dN, dL, d8, d83, d87, dO, dP⟩ := t_adopt h232 h233 h234 h12 (by omega) (by omega)
    obtain ⟨T2, hT2⟩ : ∃ T2, T2 = ptI (ptI T1 201 0) 218 (-1) := ⟨_, rfl⟩
    have S104 := hrg 104 _ (g r1) J
    have S105 := hrg 105 _ (g x1) J
    obtain ⟨S1, hS1⟩ : ∃ S1, S1 = cup S 104 (true, false, 78, [.ref 105, .ref s1.2.1, .ref 107, .int (t.1 218)]) := ⟨_, rfl⟩
    have a105 : S1.1 105 = some (true, false, 1035, rowC (fun j => .int (t.2.2.1 76 j)) n) := by rw [hS1]; exact (cup_ne (by decide)).trans S105
    have l104 := wf_lt I.1.1.1 S104
    have l105 := wf_lt I.1.1.1 S105
    have sbs : sbSet S1 105 0 = some (cput S1 1035 105 0 0 []) := by
      unfold sbSet sbCt cc
      rw [a105]
      rfl
    obtain ⟨S2, hS2⟩ : ∃ S2, S2 = cput S1 1035 105 0 0 [] := ⟨_, rfl⟩
    have b104 : S2.1 104 = some (true, false, 78, [.ref 105, .ref s1.2.1, .ref 107, .int (t.1 218)]) := by rw [hS2]; refine (cput_ne (by decide)).trans ?_; rw [hS1]; exact cup_eq ..
    obtain ⟨S3, hS3⟩ : ∃ S3, S3 = cup S2 104 (true, false, 78, [.ref 105, .ref s1.2.1, .ref 107, .int (-1)]) := ⟨_, rfl⟩
    have e104 : S3.1 104 = some (true, false, 78, [.ref 105, .ref s1.2.1, .ref 107, .int (-1)]) := by rw [hS3]; exact cup_eq ..
    have e105 : S3.1 105 = some (true, false, 1035, []) := by rw [hS3]; refine (cup_ne (by decide)).trans ?_; rw [hS2]; exact cput_eq ..
    have eoth : ∀ p, p ≠ 104 → p ≠ 105 → S3.1 p = S.1 p := fun p h1 h2 => by
      rw [hS3]
      refine (cup_ne h1).trans ?_
      rw [hS2]
      refine (cput_ne h2).trans ?_
      rw [hS1]
      exact cup_ne h1
    have w3 : wfS S3 := by
      rw [hS3, hS2, hS1]
      exact wf_cup (wf_chg (wf_cup (wf_cup I.1.1.1 l104) l105)) l104
    have b3 : S3.2.1 = S.2.1 := by rw [hS3, hS2, hS1]; rfl
    have hlS : S3.1 s1.2.1 = some (true, false, 1013, .int mc :: (Rs.map Prod.fst).map Value.ref) := (eoth _ (by omega) (by omega)).trans hl
    have fin : Option.bind (Option.bind (c_930 s.2.1 s3) (Sum.elim (fun x4 => Option.bind (xP x4.2 [(78, 1)] 104 (vR x4.1)) (fun s6 => Option.bind (xN s6 [(78, 0)] 104) (fun a7 => (if isK s6 [35] a7 = true then Option.bind (sbSet s6 a7 0) (fun s8 => Option.bind (xP s8 [(78, 3)] 104 (.int (-1))) (fun s9 => Option.bind (xN s9 [(78, 1)] 104) (fun a10 => (if isK s9 [13] a10 = true then Option.bind (alSize s9 a10) (fun x11 => some (.inr (x11, s9))) else none)))) else none)))) (fun q5 => (if isK q5.2 [69] q5.1 = true then some (.inl (q5.2, q5.1)) else none))) : Option (Sum (CS × Nat) (Int32 × CS))) (Sum.elim (fun v19 => Option.bind (xI v19.1 [(69, 6)] v19.2) (fun x12 => some ((-1) - x12, v19.1))) (fun z => some z)) = some (Int32.ofNat Rs.length, S3) := by
      rw [c1, Option.bind_some, Sum.elim_inl, xP_c S104 rfl (by show 1 < 4; decide) (show List.set _ 1 (vR (some s1.2.1)) = [.ref 105, .ref s1.2.1, .ref 107, .int (t.1 218)] from rfl), Option.bind_some, ← hS1, xN_o (b := 105) (by rw [hS1]; exact cup_eq ..) rfl rfl, Option.bind_some, if_pos (isK_t a105 rfl), sbs, Option.bind_some, ← hS2, xP_c b104 rfl (by show 3 < 4; decide) (show List.set _ 3 _ = [.ref 105, .ref s1.2.1, .ref 107, .int (-1)] from rfl), Option.bind_some, ← hS3, xN_o e104 rfl rfl, Option.bind_some, if_pos (isK_t hlS rfl), alSize_l hlS, Option.bind_some, Option.bind_some, Sum.elim_inr, List.length_map, List.length_map]
    have g0 : ∀ p, own3 own s.2.1 p = 3 ∨ p < s.2.1 := fun p => by
      by_cases z : p < s.2.1
      · exact Or.inr z
      · exact Or.inl (own3_ge (by omega))
    have hh : ∀ p c, s.2.1 < p → S.1 p = some c → rs S3.1 (own3 own s.2.1) 3 p = some c := fun p c hp h => rs_some.mpr ⟨own3_ge (by omega), (eoth p (by omega) (by omega)).trans h⟩
    have d201 : T2.1 201 = 0 := by rw [hT2]; rfl
    have d218 : T2.1 218 = -1 := by rw [hT2]; rfl
    have d205' : T2.1 205 = Int32.ofNat Rs.length := by rw [hT2]; exact d205
    have dT : T2.2 = T1.2 := by rw [hT2]; rfl
    have agI : ∀ c, (c < 79 ∨ c = 89 ∨ c = 94) → T2.2.2.1 c = t.2.2.1 c := fun c hc => by
      rw [dT, dO c (by omega)]
      funext j
      rcases Fr.2.2.1 c j with w | w
      · omega
      · exact w
    have agL : ∀ c, c ≠ 79 → c ≠ 88 → T2.2.2.2 c = t.2.2.2 c := fun c h1 h2 => by
      rw [dT, dP c h1 h2]
      funext j
      rcases Fr.2.2.2 c j with w | w
      · omega
      · exact w
    have a202 : T2.1 202 = t.1 202 := by
      rw [hT2]
      show T1.1 202 = _
      rw [dN 202 (by decide) (by decide) (by decide), Fr.1 202 (by decide) (by decide) (by decide) (by decide) (by decide) (by decide) (by decide) (by decide) (by decide)]; rfl
    refine Or.inl ⟨Int32.ofNat Rs.length, S3, T2, own3 own s.2.1, by rw [fin]; rfl, ?_, ?_, fun Z h1 h2 => ?_, ?_, ?_, ?_, ?_⟩
    · rw [c2, d1, Option.bind_some, Option.bind_some, Option.bind_some, ← hT2, d205', Option.bind_some]
    · rw [hT2]
      show T1.1 0 = 0
      rw [dN 0 (by decide) (by decide) (by decide), Fr.1 0 (by decide) (by decide) (by decide) (by decide) (by decide) (by decide) (by decide) (by decide) (by decide)]; rfl
    · have e1 : rt T2 Z = rt T1 Z := by rw [hT2, rt_ptI (fun w => h1 (by rw [← w]; decide)), rt_ptI (fun w => h1 (by rw [← w]; decide))]
      have e2 : rt T1 Z = rt T Z := by
        have m3 : ∀ c, mR c = 3 ∨ (∀ j, T1.2.2.1 c j = T.2.2.1 c j) ∧ ∀ j, T1.2.2.2 c j = T.2.2.2 c j := fun c => by
          by_cases z : 79 ≤ c ∧ c ≤ 88
          · left
            obtain ⟨i, hi, rfl⟩ : ∃ i : Fin 10, True ∧ c = 79 + i.val := ⟨⟨c - 79, by omega⟩, trivial, by show c = 79 + (c - 79); omega⟩
            revert i; decide
          · right
            exact ⟨fun j => by rw [dO c (by omega)], fun j => by rw [dP c (by omega) (by omega)]⟩
        have n3 : ∀ c, mI c = 3 ∨ T1.1 c = T.1 c := fun c => by
          by_cases z : c = 205 ∨ c = 210 ∨ c = 215
          · left
            rcases z with rfl | rfl | rfl <;> decide
          · exact Or.inr (dN c (by omega) (by omega) (by omega))
        unfold rt
        refine Prod.ext ?_ (Prod.ext ?_ (Prod.ext ?_ ?_)) <;> dsimp only
        · funext c
          by_cases z : mI c = Z
          · rw [if_pos z, if_pos z]
            exact (n3 c).resolve_left (fun w => h1 (by rw [← z, w]))
          · rw [if_neg z, if_neg z]
        · rw [dL]
        · funext c j
          by_cases z : mR c = Z
          · rw [if_pos z, if_pos z]
            exact ((m3 c).resolve_left (fun w => h1 (by rw [← z, w]))).1 j
          · rw [if_neg z, if_neg z]
        · funext c j
          by_cases z : mR c = Z
          · rw [if_pos z, if_pos z]
            exact ((m3 c).resolve_left (fun w => h1 (by rw [← z, w]))).2 j
          · rw [if_neg z, if_neg z]
      rw [e1, e2, RzF_rt Fr h1, rt_ptI (fun w => h2 (by rw [← w]; decide))]
    · refine frm_pt (fun p => p = 104 ∨ p = 105) (fun p hp h => ?_) (fun p hp h => ?_) (by rw [b3]; exact lS) (fun p hp => own3_lt hp) (fun p h1 h2 => own3_ge h1) w3
      · rcases h with rfl | rfl
        · exact o104
        · exact o105
      · rw [eoth p (fun w => h (Or.inl w)) (fun w => h (Or.inr w)), J.2.2.1 p (by have := J3.2.1; omega) (by omega), J3.2.2.1 p hp (fun w => w)]
    · refine R3_read (T' := T2) (nf := nf) I (fun p c h => ?_) hh (by omega) ?_ ?_ ?_ d205' d201 d218 (fun c j hc' hj => by rw [dT]; exact d8 c j hc' hj) (fun c j hc' hj => by rw [dT]; exact d83 c j hc' hj) (fun j hj => by rw [dT]; exact d87 j hj)
      · obtain ⟨h1, h2, h3⟩ := noN_of h
        obtain ⟨h4, h5⟩ := noK_of h1
        exact noK_in (hh p c h3 h4) h5
      · exact rs_some.mpr ⟨by rw [own3_lt (by omega)]; exact o104, e104⟩
      · exact rs_some.mpr ⟨by rw [own3_lt (by omega)]; exact o105, e105⟩
      · refine R3f_cg a202 (agL 77 (by decide) (by decide)) (agI 78 (by decide)) (R3f_up rF (fun c h => ?_))
        obtain ⟨o, h'⟩ := rs_some.mp h
        exact rs_some.mpr ⟨by rw [own3_lt (wf_lt hw h')]; exact o, (eoth 107 (by decide) (by decide)).trans (hrg 107 c h' J)⟩
    · have := J.2.2.2.1
      have := J3.2.2.2.1
      have e : S3.2.2.1 = S.2.2.1 := by rw [hS3, hS2, hS1]; rfl
      omega
    · have := J.2.2.2.2
      have := J3.2.2.2.2
      have e : S3.2.2.2 = S.2.2.2 := by rw [hS3, hS2, hS1]; rfl
      omega
end
