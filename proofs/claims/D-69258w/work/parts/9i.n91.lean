/-! the plan's readers: ways, the component: a side, a ring -/
section
variable {s S : CS} {t T : TS} {L : PLn} {nl nr : Nat} {st ln : Nat → Nat} {lab : Int → Int → Int} {LC LD : Nat → Nat} {DC : Nat → Nat → Nat} {fd fL ou ol mp : Nat} {pid nid aid : Nat → Nat → Nat} {si rc rl sp sl : Nat → Nat} {nd : Nat → Nat} {f : Nat → Nat} {Lq dl : List Nat} {N x y a0 : Nat}
/-- lines and their doors -/
def DrH (s : CS) (t : TS) (L : PLn) (nl : Nat) (LC LD : Nat → Nat) (DC : Nat → Nat → Nat) (nd : Nat → Nat) : Prop := ∀ l, l < nl → s.1 (LC l) = some (lcC L LD l) ∧ nd l ≤ 6 ∧ (∃ m : Int32, s.1 (LD l) = some (true, false, 1013, .int m :: rowC (fun k => .ref (DC l k)) (nd l))) ∧ ∀ i, i < nd l → ∃ da db dr, s.1 (DC l i) = some (true, false, 60, [.int (Int32.ofNat da), .int (Int32.ofNat db), dr]) ∧ t.2.2.1 55 (6 * l + i) = Int32.ofNat da ∧ t.2.2.1 56 (6 * l + i) = Int32.ofNat db ∧ da < 100 ∧ db < 100
/-- spaces behind the doors of some sides -/
def AdR (t : TS) (L : PLn) (nl : Nat) (lab : Int → Int → Int) (nd : Nat → Nat) (R : List Nat) (z : Nat) : Prop := ∃ q, q ∈ R ∧ gLL (gS L nl) lab (bkS q) = (z : Int) - 1 ∧ hsD t L nl q (nd (kL L nl (q / 2)))
theorem wy_side (hw : wfS s) (F : FNx s t L nl nr st ln lab LC fd fL ou ol mp pid nid aid si rc rl sp sl) (H : DrH s t L nl LC LD DC nd) {dn A : Nat → Prop} {q b : Nat} (r : WyS s S (spn L nl st ln nr) ou sp f Lq dl x y) (J : qmJ (fun c => c = a0) (adW t L nl lab nd) f b Lq dn A) (hq : q < 2 * nP L nl) (hb : b ≤ spn L nl st ln nr) (hqb : gLL (gS L nl) lab q = (b : Int) - 1) {B : Type} (p : Int32) (g : CS → Int32 → Option B) : ∃ S' f' Lq', Option.bind (toN S [65] (.ref (si q))) (fun a9 => Option.bind (xN S [(65, 4)] a9) (fun a10 => Option.bind (xN S [(65, 5)] a10) (fun a11 => Option.bind (xR S [(66, 3)] a11) (fun r12 => Option.bind (xN S [(65, 0)] a9) (fun a13 => Option.bind (xN S [(59, 5)] a13) (fun a14 => (if isK S [13] a14 = true then Option.bind (alMc S a14) (fun i15 => Option.bind (wh (S := CS × Int32 × Int32) (X := CS × Int32) (fun p36 => Option.bind (alHas p36.1 a14 p36.2.2) (fun x16 => (if x16 = 0 then some (.inr (p36.1, p36.2.1)) else Option.bind (alNext p36.1 a14 i15.1 p36.2.2) (fun e17 => Option.bind (toN p36.1 [60] e17) (fun a18 => Option.bind (r12) (fun a19 => Option.bind (xI p36.1 [(62, 0)] a19) (fun x20 => Option.bind (some (chg p36.1 1 1)) (fun s21 => (if isK s21 [42] s.2.1 = true then Option.bind (tmHas s21 s.2.1 (.int x20)) (fun x22 => Option.bind ((if x22 = 0 then Option.bind (c_916 a18 a9 s21) (fun x23 => (if x23 = 0 then some s21 else Option.bind (xI s21 [(62, 0)] a19) (fun x24 => Option.bind (some (chg s21 1 1)) (fun s25 => Option.bind (xI s25 [(62, 0)] (ndC ou sp b)) (fun x26 => Option.bind (some (chg s25 1 1)) (fun s27 => (if isK s27 [42] s.2.1 = true then Option.bind (tmGet s27 s.2.1 (.int x26)) (fun e28 => Option.bind (toOB e28) (fun b29 => Option.bind (b29) (fun x30 => Option.bind (some (chg s27 1 1)) (fun s31 => (if isK s31 [42] s.2.1 = true then Option.bind (tmPut s31 s.2.1 (.int x24) (.int (x30 + 1))) (fun x32 => (if isK x32.2 [4] (s.2.1 + 1) = true then Option.bind (adAdd x32.2 (s.2.1 + 1) (.ref a19)) (fun s33 => some s33) else none)) else none))))) else none))))))) else some s21)) (fun v72 => some (.inl (v72, p36.2.1, p36.2.2 + 1)))) else none))))))))) (i15.2, p + 1, 0)) (fun v73 => g v73.1 v73.2)) else none))))))) = g S' (p + 1) ∧ WyS s S' (spn L nl st ln nr) ou sp f' Lq' dl (x + 7) (y + 10) ∧ qmJ (fun c => c = a0) (adW t L nl lab nd) f' b Lq' dn (fun z => A z ∨ AdR t L nl lab nd [q] z) := by
  have hle := FN_le F
  have old : ∀ {V : CS}, (∀ q, q < s.2.1 → V.1 q = s.1 q) → ∀ a c, s.1 a = some c → V.1 a = some c := fun {V} h a c e => by rw [h a (wf_lt hw e)]; exact e
  have ex := old r.2.2.1
  have FS := FN_ext F ex
  obtain ⟨_, _, _, _, _, _, _, z1, _, _⟩ := FN_sr FS hq
  obtain ⟨kb, svb, a', b', c', _, _, w1, w2, w3⟩ := FN_sr FS (bkS_lt hq)
  have kl := (k_in (show q / 2 < nP L nl by omega)).1
  obtain ⟨h1, h2, ⟨m, h3⟩, h4⟩ := H _ kl
  obtain ⟨c, hc, ec, _⟩ := LL_i F.1 (bkS q)
  have en : spo ou sp (gLL (gS L nl) lab (bkS q)) = ndC ou sp c := by unfold ndC; rw [ec]
  rw [en] at w2
  rw [toN_o z1 rfl, Option.bind_some, xN_o (b := si (bkS q)) z1 rfl rfl, Option.bind_some, xN_o (b := rc kb) w1 rfl rfl, Option.bind_some, xR_o (b := ndC ou sp c) w2 rfl rfl, Option.bind_some, xN_o (b := LC (kL L nl (q / 2))) z1 rfl rfl, Option.bind_some, xN_o (b := LD (kL L nl (q / 2))) (ex _ _ h1) rfl rfl, Option.bind_some, if_pos (isK_t (ex _ _ h3) rfl), alMc_l (ex _ _ h3), Option.bind_some]
  dsimp only
  have key : ∀ X : Option (CS × Int32), Tr X (fun v => v.2 = p + 1 ∧ ∃ f' Lq', WyS s v.1 (spn L nl st ln nr) ou sp f' Lq' dl (x + 7) (y + 10) ∧ qmJ (fun c => c = a0) (adW t L nl lab nd) f' b Lq' dn (fun z => A z ∨ AdR t L nl lab nd [q] z)) → ∃ S' f' Lq', Option.bind X (fun v73 => g v73.1 v73.2) = g S' (p + 1) ∧ WyS s S' (spn L nl st ln nr) ou sp f' Lq' dl (x + 7) (y + 10) ∧ qmJ (fun c => c = a0) (adW t L nl lab nd) f' b Lq' dn (fun z => A z ∨ AdR t L nl lab nd [q] z) := by
    rintro X ⟨⟨S', p'⟩, rfl, rfl, f', Lq', h1, h2⟩
    exact ⟨S', f', Lq', rfl, h1, h2⟩
  refine key _ ?_
  refine wh_cnt (nd (kL L nl (q / 2))) (fun n (v : CS × Int32 × Int32) => v.2.2 = Int32.ofNat n ∧ v.2.1 = p + 1 ∧ ∃ f' Lq', WyS s v.1 (spn L nl st ln nr) ou sp f' Lq' dl (x + 1 + n) (y + 4 + n) ∧ qmJ (fun c => c = a0) (adW t L nl lab nd) f' b Lq' dn (fun z => A z ∨ (z = c ∧ hsD t L nl q n))) ?_ ?_ ⟨rfl, rfl, f, Lq, Wy_chg r 1 4, qmJ_skip J (fun z hz => ?_)⟩
  · rintro n ⟨U, _, _⟩ hn ⟨rfl, rfl, f1, L1, u1, u2⟩
    right
    dsimp only at u1 u2 ⊢
    have exU := old u1.2.2.1
    obtain ⟨da, db, dr, d1, d2, d3, d4, d5⟩ := h4 n hn
    rw [alHas_r (exU _ _ h3) (by omega) (by omega), if_neg (by omega), Option.bind_some, if_neg (by decide), alNext_r (exU _ _ h3) hn (by omega), Option.bind_some, toN_o (exU _ _ d1) rfl, Option.bind_some]
    obtain ⟨S', f', Lq', g1, g2, g3⟩ := wy_door hw F u1 hq hb u2.2.2.2.2.2.2.1 hc h1 d1 d4 d5 (A := Sum (CS × Int32 × Int32) (CS × Int32)) (fun v72 => some (.inl (v72, p + 1, Int32.ofNat n + 1)))
    rw [g1, i_suc]
    refine ⟨_, rfl, rfl, rfl, f', Lq', g2, ?_⟩
    have dI : dIn t L nl q n ↔ max (kAn L nl (q / 2)) da < min (kB L nl (q / 2)) db := by
      constructor
      · rintro ⟨a', b', y1, y2, y3, y4, y5⟩
        have e1 := (i_inj (by omega) (by omega)).mp (d2.symm.trans y1)
        have e2 := (i_inj (by omega) (by omega)).mp (d3.symm.trans y2)
        rw [e1, e2]; exact y5
      · exact fun h => ⟨da, db, d2, d3, d4, d5, h⟩
    have hS : hsD t L nl q (n + 1) → hsD t L nl q n ∨ dIn t L nl q n := by
      rintro ⟨i, hi, h⟩
      by_cases z : i = n
      · rw [z] at h; exact Or.inr h
      · exact Or.inl ⟨i, by omega, h⟩
    rcases g3 with ⟨rfl, rfl, g3⟩ | ⟨g3, g4, rfl, rfl⟩
    · refine qmJ_skip u2 (fun z hz => ?_)
      rcases hz with hz | ⟨rfl, hz⟩
      · exact Or.inl (Or.inl hz)
      · rcases hS hz with w | w
        · exact Or.inl (Or.inr ⟨rfl, w⟩)
        · rcases g3 with g3 | g3
          · exact Or.inr g3
          · exact absurd (dI.mp w) g3
    · refine qmJ_add u2 ⟨q, hq, hqb, ec, n, hn, dI.mpr g4⟩ g3 (fun z hz => ?_)
      rcases hz with hz | ⟨rfl, hz⟩
      · exact Or.inl (Or.inl hz)
      · exact Or.inr rfl
  · rintro ⟨U, _, _⟩ ⟨rfl, rfl, f1, L1, u1, u2⟩
    dsimp only at u1 u2 ⊢
    have exU := old u1.2.2.1
    rw [alHas_r (exU _ _ h3) (by omega) (by omega), if_pos rfl, Option.bind_some, if_pos rfl]
    refine ⟨_, rfl, rfl, f1, L1, ?_, qmJ_skip u2 (fun z hz => ?_)⟩
    · obtain ⟨q1, q2, q3, q4, q5, q6, q7, q8, q9, q10⟩ := u1
      exact ⟨q1, q2, q3, q4, q5, q6, q7, q8, by dsimp only; omega, by dsimp only; omega⟩
    · rcases hz with hz | ⟨q', hz1, hz2, hz3⟩
      · exact Or.inl (Or.inl hz)
      · rw [List.mem_singleton] at hz1
        rw [hz1] at hz2 hz3
        exact Or.inl (Or.inr ⟨by omega, hz3⟩)
  · rcases hz with hz | ⟨rfl, i, hi, _⟩
    · exact Or.inl hz
    · exact absurd hi (Nat.not_lt_zero _)
theorem AdR_app {R R' : List Nat} {z : Nat} : AdR t L nl lab nd (R ++ R') z ↔ AdR t L nl lab nd R z ∨ AdR t L nl lab nd R' z := by
  constructor
  · rintro ⟨q, h, x⟩
    rcases List.mem_append.mp h with h | h
    · exact Or.inl ⟨q, h, x⟩
    · exact Or.inr ⟨q, h, x⟩
  · rintro (⟨q, h, x⟩ | ⟨q, h, x⟩)
    · exact ⟨q, List.mem_append.mpr (Or.inl h), x⟩
    · exact ⟨q, List.mem_append.mpr (Or.inr h), x⟩
theorem wy_ring (hw : wfS s) (F : FNx s t L nl nr st ln lab LC fd fL ou ol mp pid nid aid si rc rl sp sl) (H : DrH s t L nl LC LD DC nd) {dn A : Nat → Prop} {k b : Nat} (r : WyS s S (spn L nl st ln nr) ou sp f Lq dl x y) (J : qmJ (fun c => c = a0) (adW t L nl lab nd) f b Lq dn A) (hk : k < nr) (hb : b ≤ spn L nl st ln nr) (hkb : fcS L nl st lab k = (b : Int) - 1) {m : Int32} (r2 : s.1 (rl k) = some (true, false, 1013, .int m :: rowC (fun j => .ref (si (itn (gNx L nl) j (st k)))) (ln k))) : Tr (wh (S := CS × Int32) (X := CS) (fun p19 => Option.bind (alHas p19.1 (rl k) p19.2) (fun x7 => (if x7 = 0 then some (.inr p19.1) else Option.bind (alNext p19.1 (rl k) m p19.2) (fun e8 => Option.bind (toN p19.1 [65] e8) (fun a9 => Option.bind (xN p19.1 [(65, 4)] a9) (fun a10 => Option.bind (xN p19.1 [(65, 5)] a10) (fun a11 => Option.bind (xR p19.1 [(66, 3)] a11) (fun r12 => Option.bind (xN p19.1 [(65, 0)] a9) (fun a13 => Option.bind (xN p19.1 [(59, 5)] a13) (fun a14 => (if isK p19.1 [13] a14 = true then Option.bind (alMc p19.1 a14) (fun i15 => Option.bind (wh (S := CS × Int32 × Int32) (X := CS × Int32) (fun p36 => Option.bind (alHas p36.1 a14 p36.2.2) (fun x16 => (if x16 = 0 then some (.inr (p36.1, p36.2.1)) else Option.bind (alNext p36.1 a14 i15.1 p36.2.2) (fun e17 => Option.bind (toN p36.1 [60] e17) (fun a18 => Option.bind (r12) (fun a19 => Option.bind (xI p36.1 [(62, 0)] a19) (fun x20 => Option.bind (some (chg p36.1 1 1)) (fun s21 => (if isK s21 [42] s.2.1 = true then Option.bind (tmHas s21 s.2.1 (.int x20)) (fun x22 => Option.bind ((if x22 = 0 then Option.bind (c_916 a18 a9 s21) (fun x23 => (if x23 = 0 then some s21 else Option.bind (xI s21 [(62, 0)] a19) (fun x24 => Option.bind (some (chg s21 1 1)) (fun s25 => Option.bind (xI s25 [(62, 0)] (ndC ou sp b)) (fun x26 => Option.bind (some (chg s25 1 1)) (fun s27 => (if isK s27 [42] s.2.1 = true then Option.bind (tmGet s27 s.2.1 (.int x26)) (fun e28 => Option.bind (toOB e28) (fun b29 => Option.bind (b29) (fun x30 => Option.bind (some (chg s27 1 1)) (fun s31 => (if isK s31 [42] s.2.1 = true then Option.bind (tmPut s31 s.2.1 (.int x24) (.int (x30 + 1))) (fun x32 => (if isK x32.2 [4] (s.2.1 + 1) = true then Option.bind (adAdd x32.2 (s.2.1 + 1) (.ref a19)) (fun s33 => some s33) else none)) else none))))) else none))))))) else some s21)) (fun v72 => some (.inl (v72, p36.2.1, p36.2.2 + 1)))) else none))))))))) (i15.2, p19.2 + 1, 0)) (fun v73 => some (.inl (v73.1, v73.2)))) else none))))))))))) (S, 0)) (fun S' => ∃ f' Lq', WyS s S' (spn L nl st ln nr) ou sp f' Lq' dl (x + 7 * ln k) (y + 10 * ln k) ∧ qmJ (fun c => c = a0) (adW t L nl lab nd) f' b Lq' dn (fun z => A z ∨ AdR t L nl lab nd (rgs L nl st ln k) z)) := by
  have hle := FN_le F
  obtain ⟨_, _, _, _, r3, r4⟩ := FN_rc F hk
  refine wh_cnt (ln k) (fun n (v : CS × Int32) => v.2 = Int32.ofNat n ∧ ∃ f' Lq', WyS s v.1 (spn L nl st ln nr) ou sp f' Lq' dl (x + 7 * n) (y + 10 * n) ∧ qmJ (fun c => c = a0) (adW t L nl lab nd) f' b Lq' dn (fun z => A z ∨ AdR t L nl lab nd (orb (gNx L nl) n (st k)) z)) ?_ ?_ ⟨rfl, f, Lq, r, qmJ_skip J (fun z hz => ?_)⟩
  · rintro n ⟨U, _⟩ hn ⟨rfl, f1, L1, u1, u2⟩
    right
    dsimp only at u1 u2 ⊢
    have u3 : U.1 (rl k) = _ := (u1.2.2.1 _ (wf_lt hw r2)).trans r2
    have hm : itn (gNx L nl) n (st k) ∈ rgs L nl st ln k := orb_mem.mpr ⟨n, hn, rfl⟩
    rw [alHas_r u3 (by omega) (by omega), if_neg (by omega), Option.bind_some, if_neg (by decide), alNext_r u3 hn (by omega), Option.bind_some]
    obtain ⟨S', f', Lq', g1, g2, g3⟩ := wy_side hw F H u1 u2 (r3 n) hb ((lb_fc F.1.1 F.1.2.1 F.1.2.2.2.1.1 hk hm).trans hkb) (Int32.ofNat n) (B := Sum (CS × Int32) CS) (fun v w => some (.inl (v, w)))
    rw [g1, i_suc]
    refine ⟨_, rfl, rfl, f', Lq', g2, qmJ_skip g3 (fun z hz => Or.inl ?_)⟩
    rw [orb_s, AdR_app] at hz
    rcases hz with hz | hz | hz
    · exact Or.inl (Or.inl hz)
    · exact Or.inl (Or.inr hz)
    · exact Or.inr hz
  · rintro ⟨U, _⟩ ⟨rfl, f1, L1, u1, u2⟩
    dsimp only at u1 u2 ⊢
    have u3 : U.1 (rl k) = _ := (u1.2.2.1 _ (wf_lt hw r2)).trans r2
    rw [alHas_r u3 (by omega) (by omega), if_pos rfl, Option.bind_some, if_pos rfl]
    exact ⟨_, rfl, f1, L1, u1, u2⟩
  · rcases hz with hz | ⟨q, hq, _⟩
    · exact Or.inl hz
    · obtain ⟨i, hi, _⟩ := orb_mem.mp hq
      exact absurd hi (Nat.not_lt_zero _)
end
