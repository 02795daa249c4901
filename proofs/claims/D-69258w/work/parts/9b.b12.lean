/-! the bus: a bit for the ear -/
theorem v01_of {l : Nat} (h : l = 0 ∨ l = 1) : v01 (Int32.ofNat l) := by rcases h with rfl | rfl <;> simp [v01]
/-! what is paid beforehand: characters that were heard will be copied once -/
def potc (t : TS) (N : Nat) : Nat := if t.1 516 = 0 then 0 else bN (t.1 517) + (if t.1 528 = 0 then 0 else N + 1 - bN (t.1 528))
def pots (t : TS) (N : Nat) : Nat := if t.1 516 = 0 then 0 else 16 * bN (t.1 517) + (if t.1 528 = 0 then 0 else 4 * (N + 1 - bN (t.1 528)))
theorem pot_0 {t : TS} {N : Nat} (h : t.1 516 = 0) : potc t N = 0 ∧ pots t N = 0 := by
  unfold potc pots; rw [if_pos h, if_pos h]; exact ⟨rfl, rfl⟩
theorem pot_g {t : TS} {N nb : Nat} (h : ¬ t.1 516 = 0) (h1 : t.1 517 = Int32.ofNat nb) (hn : nb ≤ 14000) (h2 : t.1 528 = 0) : potc t N = nb ∧ pots t N = 16 * nb := by
  unfold potc pots; rw [if_neg h, if_neg h, if_pos h2, if_pos h2, h1, i_bN (by omega)]; exact ⟨rfl, rfl⟩
theorem pot_c {t : TS} {N nb q : Nat} (h : ¬ t.1 516 = 0) (h1 : t.1 517 = Int32.ofNat nb) (hn : nb ≤ 14000) (h2 : t.1 528 = Int32.ofNat q) (hq : 0 < q) (hq2 : q ≤ 1000000) : potc t N = nb + (N + 1 - q) ∧ pots t N = 16 * nb + 4 * (N + 1 - q) := by
  have n0 : ¬ t.1 528 = 0 := by rw [h2]; exact fun z => absurd ((i_eqL (by omega) (by omega)).mp z) (by show ¬ q = 0; omega)
  unfold potc pots; rw [if_neg h, if_neg h, if_neg n0, if_neg n0, h1, i_bN (by omega), h2, i_bN (by omega)]; exact ⟨rfl, rfl⟩
theorem cup_3 (s : CS) (c d e : lCell) : cup (cup (cup s 122 c) 123 d) 122 e = cup (cup s 123 d) 122 e := by
  unfold cup
  refine Prod.ext ?_ rfl
  funext q
  show lUpd (lUpd (lUpd s.1 122 c) 123 d) 122 e q = lUpd (lUpd s.1 123 d) 122 e q
  simp only [lUpd_at]
  by_cases h : q = 122
  · simp [h]
  · simp [h]
theorem ear_end {s : CS} {e1 e2 e3 e4 e5 x e7 mc v y9 y10 w : Int32} {f : Nat → Value} {nb B : Nat} (h1 : s.1 122 = some (eC e1 e2 e3 e4 e5 x e7)) (h2 : s.1 123 = some (true, false, 1013, .int mc :: rowC f nb)) (hB : B < 256) (b8 : (x >>> ((1 : Int32) &&& 31)) &&& 255 = Int32.ofNat B) (b9 : (x >>> ((9 : Int32) &&& 31)) &&& 1 = y9) (b10 : (x >>> ((10 : Int32) &&& 31)) = y10) (hw : (if y9 = Int32.ofNat (pc8 B % 2) then (if y10 = 0 then some (1 : Int32) else some 0) else some 1) = some w) (h01 : v01 (e1 ||| w)) (hn : nb < 500000) :
    c_1158 122 v s = some (chg (cup (cup s 123 (true, false, 1013, .int (mc + 1) :: rowC (fun j => if j = nb then .int (Int32.ofNat B) else f j) (nb + 1))) 122 (eC (e1 ||| w) e2 v e4 e5 x e7)) 2 17) := by
  have c6 : xI s [(130, 6)] 122 = some x := by simp [xI, xV, h1, eC, lLook, toI]
  have c1 : xI s [(130, 1)] 122 = some e1 := by simp [xI, xV, h1, eC, lLook, toI]
  unfold c_1158
  rw [c6, Option.bind_some, c1, Option.bind_some, Option.bind_some, b8, bc_of hB, Option.bind_some, b9, i_andB]
  have wv : (if y9 = Int32.ofNat (pc8 B % 2) then Option.bind (α := Int32) (some x) (fun x5 => (if (x5 >>> ((10 : Int32) &&& 31)) = 0 then some (1 : Int32) else some 0)) else some 1) = some w := by
    rw [Option.bind_some, b10, hw]
  rw [wv, Option.bind_some, if_pos (fit01 h01)]
  have d1 : xP s [(130, 1)] 122 (.int (e1 ||| w)) = some (cup s 122 (eC (e1 ||| w) e2 e3 e4 e5 x e7)) := by simp [xP, h1, eC, lLook]
  rw [d1, Option.bind_some]
  have d2 : xN (cup s 122 (eC (e1 ||| w) e2 e3 e4 e5 x e7)) [(130, 0)] 122 = some 123 := by unfold xN xV; rw [cup_at, if_pos rfl]; simp [eC, lLook, toP]
  rw [d2, Option.bind_some, Option.bind_some]
  have d3 : (chg (cup s 122 (eC (e1 ||| w) e2 e3 e4 e5 x e7)) 1 1).1 123 = some (true, false, 1013, .int mc :: rowC f nb) := by
    show lUpd s.1 122 (eC (e1 ||| w) e2 e3 e4 e5 x e7) 123 = _
    rw [lUpd_at, if_neg (by omega), h2]
  have d4 : isK (chg (cup s 122 (eC (e1 ||| w) e2 e3 e4 e5 x e7)) 1 1) [13] 123 = true := by simp only [isK, kdo, d3]; decide
  rw [if_pos d4, alAdd_r d3 hn elO_i, Option.bind_some]
  simp [xP, cput, cup, chg, lUpd_at, lUpdU, eC, lLook]
  funext q
  simp only [lUpd_at]
  by_cases q1 : q = 122
  · simp [q1]
  · simp [q1]
theorem ear_step {own : Nat → Nat} {s : CS} {t : TS} {N Nd M l : Nat} (hw : wfS s) (r : R6x (rs s.1 own 6) t N N Nd M) (hM : M = N + 1) (hl : l = 0 ∨ l = 1) (hline : t.2.2.1 141 M = Int32.ofNat l) :
    (∃ s' t', c_1155 122 (Int32.ofNat l) (t.1 500) s = some (0, s') ∧ t_839 t = some t' ∧ R6x (rs s'.1 own 6) t' N M Nd M ∧ BS own own 2 17 s t s' t' ∧ (∀ c j, c ≠ 155 → t'.2.2.1 c j = t.2.2.1 c j) ∧ (t'.1 500 = t.1 500 ∧ t'.1 503 = t.1 503) ∧ s'.2.2.1 + potc t' M ≤ s.2.2.1 + potc t N + 1 ∧ s'.2.2.2 + pots t' M ≤ s.2.2.2 + pots t N + 4) ∨
    (∃ (mc e1 e2 e3 e5 e6 e7 : Int32) (nb b : Nat) (f : Nat → Value), c_1155 122 (Int32.ofNat l) (t.1 500) s = some (1, cup s 122 (eC e1 e2 e3 0 e5 e6 e7)) ∧ rs s.1 own 6 123 = some (true, false, 1013, .int mc :: rowC f nb) ∧ own 122 = 6 ∧ ¬ t.1 516 = 0 ∧ t_841 t = some (1, t) ∧ t.1 516 = Int32.ofNat b ∧ 0 < b ∧ b ≤ N ∧ e2 = Int32.ofNat b ∧ e1 = t.1 519 ∧ v01 e1 ∧ t.1 517 = Int32.ofNat nb ∧ nb ≤ 14000 ∧ 0 < nb ∧ (∀ i, i < nb → f i = .int (t.2.2.1 155 i) ∧ byt (t.2.2.1 155 i)) ∧ e3 = t.1 520 ∧ t.1 520 = Int32.ofNat (b + 13 * nb - 3) ∧ b + 13 * nb - 3 ≤ N ∧ t.1 528 = 0) := by
  have r2 := r
  obtain ⟨g, ⟨mc, e1, e2, e3, e4, e5, e6, e7, nb, f, q1, q2, q3, q4, q5, q6⟩, _⟩ := r2
  obtain ⟨_, _, _, _, g500, gM, _, _, _, _, g141, _⟩ := g
  have o1 := rs_in q1
  have o2 := rs_in q2
  have m1 : 180001 < 2147483648 := by omega
  have one : rdI t 141 180001 (t.1 500) = some (Int32.ofNat l) := by rw [g500, rdI_n (by omega) (by omega), hline]
  have h122 : s.1 122 = some (eC e1 e2 e3 e4 e5 e6 e7) := o1.1
  have F4 : xI s [(130, 4)] 122 = some e4 := by simp [xI, xV, h122, eC, lLook, toI]
  have F5 : xI s [(130, 5)] 122 = some e5 := by simp [xI, xV, h122, eC, lLook, toI]
  have F6 : xI s [(130, 6)] 122 = some e6 := by simp [xI, xV, h122, eC, lLook, toI]
  have F7 : xI s [(130, 7)] 122 = some e7 := by simp [xI, xV, h122, eC, lLook, toI]
  have K0 : isK s [130] 122 = true := by simp [isK, kdo, h122, eC]
  -- what starts() does
  have starts : t_840 t = some (ptI (ptI (ptI (ptI t 516 (if l = 0 then Int32.ofNat M else 0)) 528 (if l = 0 then Int32.ofNat M else 0)) 517 0) 519 0) := by
    unfold t_840
    rw [one, Option.bind_some]
    rcases hl with rfl | rfl
    · simp [pt_1, g500]
    · simp [pt_1]
  rcases q6 with ⟨z1, z2⟩ | ⟨b, z1, z2, z3, z4, z5, z6, z7, z8, z9⟩
  · -- nothing is heard yet
    refine Or.inl ?_
    have th : t_839 t = some (ptI (ptI (ptI (ptI t 516 (if l = 0 then Int32.ofNat M else 0)) 528 (if l = 0 then Int32.ofNat M else 0)) 517 0) 519 0) := by
      unfold t_839
      rw [if_pos z1, starts, Option.bind_some]
    have nn : ∀ c, c ≠ 516 → c ≠ 517 → c ≠ 519 → c ≠ 520 → c ≠ 528 → (ptI (ptI (ptI (ptI t 516 (if l = 0 then Int32.ofNat M else 0)) 528 (if l = 0 then Int32.ofNat M else 0)) 517 0) 519 0).1 c = t.1 c := fun c a1 a2 a3 a4 a5 => by simp only [pt_1, if_neg a1, if_neg a2, if_neg a3, if_neg a5]
    rcases hl with rfl | rfl
    · -- a 0: it begins
      have eb := ear_begin (v := t.1 500) h122 o2.1
      obtain ⟨R', B'⟩ := ear_bs (t' := ptI (ptI (ptI (ptI t 516 (Int32.ofNat M)) 528 (Int32.ofNat M)) 517 0) 519 0) (Ne' := M) (c1 := eC 0 (t.1 500) e3 1 1 0 0) (c2 := (true, false, 1013, [.int (mc + 1)])) (n' := 0) (m' := 0) hw r nn (fun _ _ _ => rfl) rfl rfl (R6e_of (mc + 1) 0 (t.1 500) e3 1 1 0 0 0 f _ rfl (by omega) (Or.inl rfl) (by obtain ⟨hc, a1, a2⟩ := q5; exact ⟨hc, a1, by omega⟩) (Or.inr ⟨M, rfl, by omega, by omega, rfl, g500, rfl, rfl, fun i hi => absurd hi (by omega), Or.inl ⟨rfl, by omega, by omega, by simp, by simp [lett], rfl⟩⟩))
      have P0 := pot_0 (N := N) z1
      have P1 := pot_c (t := ptI (ptI (ptI (ptI t 516 (Int32.ofNat M)) 528 (Int32.ofNat M)) 517 0) 519 0) (N := M) (nb := 0) (q := M) (fun z => absurd ((i_inj (j := M) (k := 0) (by omega) (by omega)).mp z) (by omega)) rfl (by omega) rfl (by omega) (by omega)
      refine ⟨_, _, ?_, th, R', ?_, fun _ _ _ => rfl, ⟨rfl, rfl⟩, ?_, ?_⟩
      · unfold c_1155
        rw [F4, Option.bind_some, if_pos z2, if_pos (show Int32.ofNat 0 = 0 from rfl), if_pos K0, eb, Option.bind_some]
      · exact ⟨B'.1, B'.2.1, by have := B'.2.2.1; omega, by have := B'.2.2.2; omega⟩
      · have q1 : _ ≤ s.2.2.1 + 0 := B'.2.2.1
        have q2 := P1.1
        simp only [if_true] at q2 ⊢
        rw [q2, P0.1]; omega
      · have q1 : _ ≤ s.2.2.2 + 0 := B'.2.2.2
        have q2 := P1.2
        simp only [if_true] at q2 ⊢
        rw [q2, P0.2]; omega
    · obtain ⟨R', B'⟩ := ear_bs (t' := ptI (ptI (ptI (ptI t 516 0) 528 0) 517 0) 519 0) (Ne' := M) (c1 := eC e1 e2 e3 e4 e5 e6 e7) (c2 := (true, false, 1013, .int mc :: rowC f nb)) (n' := 0) (m' := 0) hw r nn (fun _ _ _ => rfl) rfl rfl (R6e_of mc e1 e2 e3 e4 e5 e6 e7 nb f _ rfl q3 q4 (by obtain ⟨hc, a1, a2⟩ := q5; exact ⟨hc, a1, by omega⟩) (Or.inl ⟨rfl, z2⟩))
      have es : chg (cup (cup s 123 (true, false, 1013, .int mc :: rowC f nb)) 122 (eC e1 e2 e3 e4 e5 e6 e7)) 0 0 = s := by
        rw [cup_same o2.1, cup_same h122]; rfl
      rw [es] at R' B'
      refine ⟨s, _, ?_, th, R', ?_, fun _ _ _ => rfl, ⟨rfl, rfl⟩, ?_, ?_⟩
      · unfold c_1155
        rw [F4, Option.bind_some, if_pos z2, if_neg (by decide)]
      · exact ⟨B'.1, B'.2.1, by have := B'.2.2.1; omega, by have := B'.2.2.2; omega⟩
      · rw [(pot_0 (N := M) (t := ptI (ptI (ptI (ptI t 516 (if (1 : Nat) = 0 then Int32.ofNat M else 0)) 528 (if (1 : Nat) = 0 then Int32.ofNat M else 0)) 517 0) 519 0) rfl).1]; omega
      · rw [(pot_0 (N := M) (t := ptI (ptI (ptI (ptI t 516 (if (1 : Nat) = 0 then Int32.ofNat M else 0)) 528 (if (1 : Nat) = 0 then Int32.ofNat M else 0)) 517 0) 519 0) rfl).2]; omega
  · have hb : ¬ t.1 516 = 0 := by rw [z1]; exact fun z => absurd ((i_eqL (by omega) (by omega)).mp z) (by show ¬ b = 0; omega)
    have he4 : ¬ e4 = 0 := by rw [z4]; decide
    rcases z9 with ⟨y1, y2, y3, y4, y5, y6⟩ | ⟨y1, y2, y3, y4, y5, y6, y7, y8⟩
    · -- within a character
      refine Or.inl ?_
      have l11 : e5 < 11 := by rw [y4]; exact (i_ltL (by omega) (by omega)).mpr (by show N - (b + 13 * nb) + 1 < 11; omega)
      have nx : (0 : Int32) < t.1 528 := by rw [y1]; exact (i_Llt (by omega) (by omega)).mpr (by show 0 < b + 13 * nb; omega)
      have sh : e6 ||| (Int32.ofNat l <<< (e5 &&& 31)) = lett t (b + 13 * nb) (M - (b + 13 * nb)) := by
        rw [y5, y4, ← hline, show M - (b + 13 * nb) = (N - (b + 13 * nb)) + 1 by omega]
        show _ = lett t (b + 13 * nb) (N - (b + 13 * nb)) ||| (t.2.2.1 141 (b + 13 * nb + (N - (b + 13 * nb) + 1)) <<< _)
        rw [show b + 13 * nb + (N - (b + 13 * nb) + 1) = M by omega]
      have a13 : xP s [(130, 5)] 122 (.int (e5 + 1)) = some (cup s 122 (eC e1 e2 e3 e4 (e5 + 1) e6 e7)) := by simp [xP, h122, eC, lLook]
      have a14 : xP (cup s 122 (eC e1 e2 e3 e4 (e5 + 1) e6 e7)) [(130, 6)] 122 (.int (e6 ||| (Int32.ofNat l <<< (e5 &&& 31)))) = some (cup s 122 (eC e1 e2 e3 e4 (e5 + 1) (e6 ||| (Int32.ofNat l <<< (e5 &&& 31))) e7)) := by
        unfold xP; rw [cup_at, if_pos rfl]; simp [eC, lLook, cup_cup]
      have a15 : xI (cup s 122 (eC e1 e2 e3 e4 (e5 + 1) (e6 ||| (Int32.ofNat l <<< (e5 &&& 31))) e7)) [(130, 5)] 122 = some (e5 + 1) := by unfold xI xV; rw [cup_at, if_pos rfl]; simp [eC, lLook, toI]
      have k14 : isK (cup s 122 (eC e1 e2 e3 e4 (e5 + 1) (e6 ||| (Int32.ofNat l <<< (e5 &&& 31))) e7)) [130] 122 = true := by unfold isK kdo; rw [cup_at, if_pos rfl]; simp [eC]
      have e5n : e5 + 1 = Int32.ofNat (M - (b + 13 * nb) + 1) := by rw [y4, i_addL]; congr 1; show N - (b + 13 * nb) + 1 + 1 = _; omega
      have v1 : ∀ i, b + 13 * nb < i → i ≤ b + 13 * nb + 10 → i ≤ M → v01 (t.2.2.1 141 i) := fun i _ _ h => g141 i (by omega)
      by_cases last : M = b + 13 * nb + 10
      · -- its last bit
        have L := lett_N (t := t) (q := b + 13 * nb) (c := 10) (fun i h1 h2 => v1 i h1 h2 (by omega)) (by omega)
        obtain ⟨p1, p2, p3, p4⟩ := ltN_10 t (b + 13 * nb) (fun i h1 h2 => v1 i h1 h2 (by omega))
        rw [show M - (b + 13 * nb) = 10 by omega] at sh
        have lt : ltN t (b + 13 * nb) 10 < 2147483648 := by have := L.2; omega
        have b8 : ((e6 ||| (Int32.ofNat l <<< (e5 &&& 31))) >>> ((1 : Int32) &&& 31)) &&& 255 = Int32.ofNat (by8 t (b + 13 * nb)) := by
          rw [sh, L.1, show ((1 : Int32) &&& 31) = Int32.ofNat 1 from rfl, i_shr lt (by omega), i_and255, show (2 : Nat) ^ 1 = 2 from rfl, p1]
        have b9 : ((e6 ||| (Int32.ofNat l <<< (e5 &&& 31))) >>> ((9 : Int32) &&& 31)) &&& 1 = t.2.2.1 141 (b + 13 * nb + 9) := by
          rw [sh, L.1, show ((9 : Int32) &&& 31) = Int32.ofNat 9 from rfl, i_shr lt (by omega), i_andB, show (2 : Nat) ^ 9 = 512 from rfl, p2]
          exact (v01_N (v1 (b + 13 * nb + 9) (by omega) (by omega) (by omega))).1.symm
        have b10 : ((e6 ||| (Int32.ofNat l <<< (e5 &&& 31))) >>> ((10 : Int32) &&& 31)) = Int32.ofNat l := by
          rw [sh, L.1, show ((10 : Int32) &&& 31) = Int32.ofNat 10 from rfl, i_shr lt (by omega), show (2 : Nat) ^ 10 = 1024 from rfl, p3, ← show M = b + 13 * nb + 10 by omega, ← hline]
          exact (v01_N (v1 M (by omega) (by omega) (by omega))).1.symm
        -- whether it is bad
        let par : Int32 := Int32.ofNat (pc8 (by8 t (b + 13 * nb)) % 2)
        let w : Int32 := if t.2.2.1 141 (b + 13 * nb + 9) = par then (if Int32.ofNat l = 0 then 1 else 0) else 1
        have hw01 : v01 w := by
          show v01 (if _ then (if _ then _ else _) else _)
          split
          · split <;> simp [v01]
          · simp [v01]
        have orw : v01 (e1 ||| w) ∧ (e1 ||| w) = (if e1 = 0 then w else 1) := by
          rcases q4 with h | h <;> rcases hw01 with h' | h' <;> rw [h, h'] <;> exact ⟨by unfold v01; decide, by decide⟩
        have bc := bc_of p4 (cup s 122 (eC e1 e2 e3 e4 (e5 + 1) (e6 ||| (Int32.ofNat l <<< (e5 &&& 31))) e7))
        let S1 := cup s 122 (eC e1 e2 e3 e4 (e5 + 1) (e6 ||| (Int32.ofNat l <<< (e5 &&& 31))) e7)
        have ec : c_1158 122 (t.1 500) (cup s 122 (eC e1 e2 e3 e4 (e5 + 1) (e6 ||| (Int32.ofNat l <<< (e5 &&& 31))) e7)) = some (chg (cup (cup s 123 (true, false, 1013, .int (mc + 1) :: rowC (fun j => if j = nb then .int (Int32.ofNat (by8 t (b + 13 * nb))) else f j) (nb + 1))) 122 (eC (e1 ||| w) e2 (t.1 500) e4 (e5 + 1) (e6 ||| (Int32.ofNat l <<< (e5 &&& 31))) e7)) 2 17) := by
          have wv : (if t.2.2.1 141 (b + 13 * nb + 9) = Int32.ofNat (pc8 (by8 t (b + 13 * nb)) % 2) then (if Int32.ofNat l = 0 then some (1 : Int32) else some 0) else some 1) = some w := by
            show _ = some (if _ then (if _ then _ else _) else _)
            split
            · split <;> rfl
            · rfl
          have := ear_end (s := cup s 122 (eC e1 e2 e3 e4 (e5 + 1) (e6 ||| (Int32.ofNat l <<< (e5 &&& 31))) e7)) (v := t.1 500) (by rw [cup_at, if_pos rfl]) (by rw [cup_at, if_neg (by omega)]; exact o2.1) p4 b8 b9 b10 wv orw.1 (by omega)
          rw [cup_3] at this
          exact this
        -- the reference
        have v64 : (if t.1 519 = 0 then Option.bind (α := Int32) (rdI t 141 180001 (t.1 500 - 1)) (fun x5 => Option.bind (α := Int32) (t_837 (Int32.ofNat (by8 t (b + 13 * nb))) t) (fun x6 => Option.bind (α := Int32) ((if (x6 - x6 / (2 : Int32) * (2 : Int32)) = 1 then some 1 else some 0)) (fun v54 => (if x5 = v54 then Option.bind (α := Int32) (rdI t 141 180001 (t.1 500)) (fun x7 => (if x7 = 0 then some 1 else some 0)) else some 1)))) else some 1) = some (e1 ||| w) := by
          rw [orw.2, ← z6]
          by_cases h0 : e1 = 0
          · rw [if_pos h0, if_pos h0, g500, i_subL (a := 1) (by show 1 ≤ M; omega), rdI_n (n := M - 1) (by omega) m1, Option.bind_some, t_ones p4, Option.bind_some, i_modL (by unfold pc8; omega) (by omega)]
            have pv : (if Int32.ofNat (pc8 (by8 t (b + 13 * nb)) % 2) = 1 then some (1 : Int32) else some 0) = some par := by
              have : pc8 (by8 t (b + 13 * nb)) % 2 = 0 ∨ pc8 (by8 t (b + 13 * nb)) % 2 = 1 := by omega
              show _ = some (Int32.ofNat (pc8 (by8 t (b + 13 * nb)) % 2))
              rcases this with z | z <;> rw [z] <;> rfl
            rw [pv, Option.bind_some, show M - 1 = b + 13 * nb + 9 by omega, rdI_n (n := M) (by omega) m1, Option.bind_some, hline]
            show _ = some (if _ then (if _ then _ else _) else _)
            split
            · split <;> rfl
            · rfl
          · rw [if_neg h0, if_neg h0]
        let T1 := ptI (ptI (ptI (wrI (ptI t 519 (e1 ||| w)) 155 nb (Int32.ofNat (by8 t (b + 13 * nb)))) 517 (Int32.ofNat (nb + 1))) 520 (t.1 500)) 528 0
        have th : t_839 t = some T1 := by
          unfold t_839
          rw [if_neg hb]
          have rd : t_841 t = some (0, T1) := by
            unfold t_841
            rw [if_pos nx, if_pos (by rw [g500, y1, i_addL]; congr 1)]
            have tb8 := t_by8 (t := t) (q := b + 13 * nb) (fun i h1 h2 => v1 i h1 h2 (by omega)) (by omega)
            rw [← y1] at tb8
            rw [tb8, Option.bind_some, v64, Option.bind_some, if_pos (by rcases orw.1 with h | h <;> simp [h]), Option.bind_some]
            simp only [pt_1, if_neg (show ¬ (517 : Nat) = 519 by omega), z7, stI_n (show nb < 14000 by omega) (show 14000 < 2147483648 by omega), Option.bind_some, wr_1, i_suc]
            rfl
          rw [rd, Option.bind_some, if_pos rfl]
        have E : R6e (lUpd (lUpd (rs s.1 own 6) 123 (true, false, 1013, .int (mc + 1) :: rowC (fun j => if j = nb then .int (Int32.ofNat (by8 t (b + 13 * nb))) else f j) (nb + 1))) 122 (eC (e1 ||| w) e2 (t.1 500) e4 (e5 + 1) (e6 ||| (Int32.ofNat l <<< (e5 &&& 31))) e7)) T1 M := by
          refine R6e_of (mc + 1) (e1 ||| w) e2 (t.1 500) e4 (e5 + 1) _ e7 (nb + 1) _ _ rfl (by omega) orw.1 (by obtain ⟨hc, a1, a2⟩ := q5; exact ⟨hc, a1, by omega⟩) (Or.inr ⟨b, z1, z2, by omega, z4, z5, rfl, rfl, fun i hi => ?_, Or.inr ⟨rfl, by omega, ?_, by omega, by omega, ?_, ?_, ?_⟩⟩)
          · show (if i = nb then Value.int _ else f i) = .int ((wrI _ 155 nb _).2.2.1 155 i) ∧ byt ((wrI _ 155 nb _).2.2.1 155 i)
            by_cases ie : i = nb
            · rw [if_pos ie, ie, wr_s]; exact ⟨rfl, _, p4, rfl⟩
            · rw [if_neg ie, wr_nk ie]; exact z8 i (by omega)
          · show t.1 500 = _
            rw [g500, show b + 13 * (nb + 1) - 3 = M by omega]
          · rw [e5n, show M - (b + 13 * nb) + 1 = 11 by omega]; rfl
          · rw [g500, show b + 13 * (nb + 1) - 3 = M by omega]
          · rw [y6, show M + 3 - (b + 13 * (nb + 1)) = 0 by omega]; rfl
        obtain ⟨R', B'⟩ := ear_bs (t' := T1) (Ne' := M) (c1 := eC (e1 ||| w) e2 (t.1 500) e4 (e5 + 1) (e6 ||| (Int32.ofNat l <<< (e5 &&& 31))) e7) (c2 := (true, false, 1013, .int (mc + 1) :: rowC (fun j => if j = nb then .int (Int32.ofNat (by8 t (b + 13 * nb))) else f j) (nb + 1))) (n' := 2) (m' := 17) hw r (fun c a1 a2 a3 a4 a5 => by simp only [T1, pt_1, wr_1, if_neg a1, if_neg a2, if_neg a3, if_neg a4, if_neg a5]) (fun c j hc => by show (wrI _ 155 nb _).2.2.1 c j = _; rw [wr_ne hc]; rfl) rfl rfl E
        have P0 := pot_c (t := t) (N := N) (nb := nb) (q := b + 13 * nb) hb z7 q3 y1 (by omega) (by omega)
        have P1 := pot_g (t := T1) (N := M) (nb := nb + 1) hb rfl (by omega) rfl
        refine ⟨_, _, ?_, th, R', B', fun c j hc => by show (wrI _ 155 nb _).2.2.1 c j = _; rw [wr_ne hc]; rfl, ⟨rfl, rfl⟩, by have := B'.2.2.1; rw [P0.1, P1.1]; omega, by have := B'.2.2.2; rw [P0.2, P1.2]; omega⟩
        unfold c_1155
        rw [F4, Option.bind_some, if_neg he4, F5, Option.bind_some, if_pos l11, F6, Option.bind_some, Option.bind_some, a13, Option.bind_some, a14, Option.bind_some, a15, Option.bind_some]
        rw [if_pos (by rw [e5n]; rw [show M - (b + 13 * nb) + 1 = 11 by omega]; rfl), if_pos k14, ec, Option.bind_some]
      · obtain ⟨R', B'⟩ := ear_bs (t' := t) (Ne' := M) (c1 := eC e1 e2 e3 e4 (e5 + 1) (e6 ||| (Int32.ofNat l <<< (e5 &&& 31))) e7) (c2 := (true, false, 1013, .int mc :: rowC f nb)) (n' := 0) (m' := 0) hw r (fun _ _ _ _ _ _ => rfl) (fun _ _ _ => rfl) rfl rfl (R6e_of mc e1 e2 e3 e4 (e5 + 1) _ e7 nb f _ rfl q3 q4 (by obtain ⟨hc, a1, a2⟩ := q5; exact ⟨hc, a1, by omega⟩) (Or.inr ⟨b, z1, z2, by omega, z4, z5, z6, z7, z8, Or.inl ⟨y1, by omega, by omega, e5n, sh, y6⟩⟩))
        rw [cup_same o2.1] at R' B'
        have P0 := pot_c (t := t) (N := N) (nb := nb) (q := b + 13 * nb) hb z7 q3 y1 (by omega) (by omega)
        have P1 := pot_c (t := t) (N := M) (nb := nb) (q := b + 13 * nb) hb z7 q3 y1 (by omega) (by omega)
        refine ⟨_, t, ?_, ?_, R', ⟨B'.1, B'.2.1, by have := B'.2.2.1; omega, by have := B'.2.2.2; omega⟩, fun _ _ _ => rfl, ⟨rfl, rfl⟩, by have := B'.2.2.1; rw [P0.1, P1.1]; omega, by have := B'.2.2.2; rw [P0.2, P1.2]; omega⟩
        · unfold c_1155
          rw [F4, Option.bind_some, if_neg he4, F5, Option.bind_some, if_pos l11, F6, Option.bind_some, Option.bind_some, a13, Option.bind_some, a14, Option.bind_some, a15, Option.bind_some]
          rw [if_neg (by rw [e5n]; exact fun z => absurd ((i_eqL (by omega) (by omega)).mp z) (by show ¬ M - (b + 13 * nb) + 1 = 11; omega))]
          rfl
        · unfold t_839
          rw [if_neg hb]
          unfold t_841
          rw [if_pos nx, if_neg (by rw [g500, y1, i_addL]; exact fun z => absurd ((i_inj (by omega) (by omega)).mp z) (by show ¬ M = b + 13 * nb + 10; omega)), Option.bind_some]
          rfl
    · -- between characters
      have n11 : ¬ e5 < 11 := by rw [y6]; decide
      have nx : ¬ (0 : Int32) < t.1 528 := by rw [y1]; decide
      have en3 : t.1 520 + 3 = Int32.ofNat (b + 13 * nb) := by rw [y3, i_addL]; congr 1; show b + 13 * nb - 3 + 3 = _; omega
      have eq3 : (t.1 500 = t.1 520 + 3) = (M = b + 13 * nb) := by rw [en3, g500]; exact propext (i_inj (by omega) (by omega))
      have e8 : (eC e1 e2 e3 e4 e5 e6 e7) = (eC e1 e2 e3 1 11 e6 (Int32.ofNat (N + 3 - (b + 13 * nb)))) := by rw [z4, y6, y8]
      rcases hl with rfl | rfl
      · by_cases g2 : M = b + 13 * nb
        · -- the next character begins
          refine Or.inl ?_
          have e72 : e7 = 2 := by rw [y8, show N + 3 - (b + 13 * nb) = 2 by omega]; rfl
          have op : c_1157 122 s = some (cup s 122 (eC e1 e2 e3 e4 1 0 0)) := by
            unfold c_1157
            simp [xP, h122, cup, lUpd_at, lUpdU, eC, lLook]
          obtain ⟨R', B'⟩ := ear_bs (t' := ptI t 528 (t.1 500)) (Ne' := M) (c1 := eC e1 e2 e3 e4 1 0 0) (c2 := (true, false, 1013, .int mc :: rowC f nb)) (n' := 0) (m' := 0) hw r (fun c _ _ _ _ h => by rw [pt_1, if_neg h]) (fun _ _ _ => rfl) rfl rfl (R6e_of mc e1 e2 e3 e4 1 0 0 nb f _ rfl q3 q4 (by obtain ⟨hc, a1, a2⟩ := q5; exact ⟨hc, a1, by omega⟩) (Or.inr ⟨b, z1, z2, by omega, z4, z5, z6, z7, z8, Or.inl ⟨by show t.1 500 = _; rw [g500, g2], by omega, by omega, by rw [show M - (b + 13 * nb) + 1 = 1 by omega]; rfl, by rw [show M - (b + 13 * nb) = 0 by omega]; rfl, rfl⟩⟩))
          rw [cup_same o2.1] at R' B'
          have P0 := pot_g (t := t) (N := N) (nb := nb) hb z7 q3 y1
          have P1 := pot_c (t := ptI t 528 (t.1 500)) (N := M) (nb := nb) (q := M) hb z7 q3 g500 (by omega) (by omega)
          refine ⟨_, _, ?_, ?_, R', ⟨B'.1, B'.2.1, by have := B'.2.2.1; omega, by have := B'.2.2.2; omega⟩, fun _ _ _ => rfl, ⟨rfl, rfl⟩, by have := B'.2.2.1; rw [P0.1, P1.1]; omega, by have := B'.2.2.2; rw [P0.2, P1.2]; omega⟩
          · unfold c_1155
            rw [F4, Option.bind_some, if_neg he4, F5, Option.bind_some, if_neg n11, if_neg (by decide), F7, Option.bind_some, if_pos e72, if_pos K0, op, Option.bind_some]
            rfl
          · unfold t_839
            rw [if_neg hb]
            unfold t_841
            rw [if_neg nx]
            simp only [eq3, g2, if_true, one, Option.bind_some, show (Int32.ofNat 0 : Int32) = 0 from rfl, Sum.elim_inr]
        · -- complete by a 0
          refine Or.inr ⟨mc, e1, e2, e3, e5, e6, e7, nb, b, f, ?_, q2, o1.2, hb, ?_, z1, z2, z3, z5, z6, q4, z7, q3, y2, z8, by rw [y7, y3], y3, by omega, y1⟩
          · have e72 : ¬ e7 = 2 := by rw [y8]; exact fun z => absurd ((i_eqL (by omega) (by omega)).mp z) (by show ¬ N + 3 - (b + 13 * nb) = 2; omega)
            have a4 : xP s [(130, 4)] 122 (.int 0) = some (cup s 122 (eC e1 e2 e3 0 e5 e6 e7)) := by simp [xP, h122, eC, lLook]
            unfold c_1155
            rw [F4, Option.bind_some, if_neg he4, F5, Option.bind_some, if_neg n11, if_neg (by decide), F7, Option.bind_some, if_neg e72, a4, Option.bind_some]
          · unfold t_841
            rw [if_neg nx]
            simp only [eq3, g2, if_false, one, Option.bind_some, show (Int32.ofNat 0 : Int32) = 0 from rfl, Sum.elim_inl, if_true]
      · have a7 : xP s [(130, 7)] 122 (.int (e7 + 1)) = some (cup s 122 (eC e1 e2 e3 e4 e5 e6 (e7 + 1))) := by simp [xP, h122, eC, lLook]
        have a7' : xI (cup s 122 (eC e1 e2 e3 e4 e5 e6 (e7 + 1))) [(130, 7)] 122 = some (e7 + 1) := by unfold xI xV; rw [cup_at, if_pos rfl]; simp [eC, lLook, toI]
        have e7n : e7 + 1 = Int32.ofNat (M + 3 - (b + 13 * nb)) := by rw [y8, i_addL]; congr 1; show N + 3 - (b + 13 * nb) + 1 = _; omega
        by_cases g2 : M = b + 13 * nb
        · -- complete by three 1
          refine Or.inr ⟨mc, e1, e2, e3, e5, e6, e7 + 1, nb, b, f, ?_, q2, o1.2, hb, ?_, z1, z2, z3, z5, z6, q4, z7, q3, y2, z8, by rw [y7, y3], y3, by omega, y1⟩
          · have n3 : ¬ e7 + 1 < 3 := by rw [e7n, show M + 3 - (b + 13 * nb) = 3 by omega]; decide
            have a9 : xP (cup s 122 (eC e1 e2 e3 e4 e5 e6 (e7 + 1))) [(130, 4)] 122 (.int 0) = some (cup s 122 (eC e1 e2 e3 0 e5 e6 (e7 + 1))) := by unfold xP; rw [cup_at, if_pos rfl]; simp [eC, lLook, cup_cup]
            have a10 : xI (cup s 122 (eC e1 e2 e3 0 e5 e6 (e7 + 1))) [(130, 4)] 122 = some 0 := by unfold xI xV; rw [cup_at, if_pos rfl]; simp [eC, lLook, toI]
            unfold c_1155
            rw [F4, Option.bind_some, if_neg he4, F5, Option.bind_some, if_neg n11, if_pos (by decide), F7, Option.bind_some, a7, Option.bind_some, a7', Option.bind_some, if_neg n3, Option.bind_some, if_pos (by decide), a9, Option.bind_some, a10, Option.bind_some, if_pos rfl]
          · unfold t_841
            rw [if_neg nx]
            simp only [eq3, g2, if_true, one, Option.bind_some, show ¬ (Int32.ofNat 1 : Int32) = 0 by decide, if_false, Sum.elim_inl]
        · refine Or.inl ?_
          have n3 : e7 + 1 < 3 := by rw [e7n]; exact (i_ltL (by omega) (by omega)).mpr (by show M + 3 - (b + 13 * nb) < 3; omega)
          have a9 : xP (cup s 122 (eC e1 e2 e3 e4 e5 e6 (e7 + 1))) [(130, 4)] 122 (.int 1) = some (cup s 122 (eC e1 e2 e3 1 e5 e6 (e7 + 1))) := by unfold xP; rw [cup_at, if_pos rfl]; simp [eC, lLook, cup_cup]
          have a10 : xI (cup s 122 (eC e1 e2 e3 1 e5 e6 (e7 + 1))) [(130, 4)] 122 = some 1 := by unfold xI xV; rw [cup_at, if_pos rfl]; simp [eC, lLook, toI]
          obtain ⟨R', B'⟩ := ear_bs (t' := t) (Ne' := M) (c1 := eC e1 e2 e3 1 e5 e6 (e7 + 1)) (c2 := (true, false, 1013, .int mc :: rowC f nb)) (n' := 0) (m' := 0) hw r (fun _ _ _ _ _ _ => rfl) (fun _ _ _ => rfl) rfl rfl (R6e_of mc e1 e2 e3 1 e5 e6 (e7 + 1) nb f _ rfl q3 q4 (by obtain ⟨hc, a1, a2⟩ := q5; exact ⟨hc, a1, by omega⟩) (Or.inr ⟨b, z1, z2, by omega, rfl, z5, z6, z7, z8, Or.inr ⟨y1, y2, y3, by omega, by omega, y6, y7, e7n⟩⟩))
          rw [cup_same o2.1] at R' B'
          have P0 := pot_g (t := t) (N := N) (nb := nb) hb z7 q3 y1
          have P1 := pot_g (t := t) (N := M) (nb := nb) hb z7 q3 y1
          refine ⟨_, t, ?_, ?_, R', ⟨B'.1, B'.2.1, by have := B'.2.2.1; omega, by have := B'.2.2.2; omega⟩, fun _ _ _ => rfl, ⟨rfl, rfl⟩, by have := B'.2.2.1; rw [P0.1, P1.1]; omega, by have := B'.2.2.2; rw [P0.2, P1.2]; omega⟩
          · unfold c_1155
            rw [F4, Option.bind_some, if_neg he4, F5, Option.bind_some, if_neg n11, if_pos (by decide), F7, Option.bind_some, a7, Option.bind_some, a7', Option.bind_some, if_pos n3, Option.bind_some, if_pos (by decide), a9, Option.bind_some, a10, Option.bind_some, if_neg (by decide)]
            rfl
          · unfold t_839
            rw [if_neg hb]
            unfold t_841
            rw [if_neg nx]
            simp only [eq3, g2, if_false, one, Option.bind_some, show ¬ (Int32.ofNat 1 : Int32) = 0 by decide, Sum.elim_inl, if_true]
