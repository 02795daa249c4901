/-! the bus: the ear, when nothing becomes complete -/
def eC (e1 e2 e3 e4 e5 e6 e7 : Int32) : lCell := (true, false, 130, [.ref 123, .int e1, .int e2, .int e3, .int e4, .int e5, .int e6, .int e7])
theorem R6g_cg2 {h h' : lHeap} {t t' : TS} {N M : Nat} (r : R6g h t N M) (c1 : h' 120 = h 120) (c2 : h' 121 = h 121) (c3 : h' 125 = h 125) (c4 : h' 126 = h 126) (r1 : ∀ j, t'.2.2.1 141 j = t.2.2.1 141 j) (r2 : ∀ j, t'.2.2.1 142 j = t.2.2.1 142 j) (r3 : ∀ j, t'.2.2.1 156 j = t.2.2.1 156 j) (r4 : ∀ j, t'.2.2.1 157 j = t.2.2.1 157 j) (n1 : t'.1 1 = t.1 1) (n500 : t'.1 500 = t.1 500) (n521 : t'.1 521 = t.1 521) (n523 : t'.1 523 = t.1 523) (n524 : t'.1 524 = t.1 524) (n525 : t'.1 525 = t.1 525) (n526 : t'.1 526 = t.1 526) : R6g h' t' N M := by
  unfold R6g R6i at r ⊢
  simp only [r1, r2, r3, r4, n1, n500, n521, n523, n524, n525, n526, c1, c2, c3, c4]
  exact r
theorem R6_ge {h h' : lHeap} {t t' : TS} {N Ne Nd M N' Ne' M' : Nat} (r : R6x h t N Ne Nd M) (hc : ∀ q, q ≠ 120 → q ≠ 122 → q ≠ 123 → q ≠ 125 → q ≠ 126 → h' q = h q) (hr : ∀ c j, 142 ≤ c → c ≤ 154 → t'.2.2.1 c j = t.2.2.1 c j) (h5 : t'.1 503 = t.1 503) (g : R6g h' t' N' M') (e : R6e h' t' Ne') : R6x h' t' N' Ne' Nd M' := by
  obtain ⟨_, _, d, n, ti, bi, m, i1, i2, rr⟩ := r
  refine ⟨g, e, R6d_cg d (hc _ (by omega) (by omega) (by omega) (by omega) (by omega)) (fun j => hr _ j (by omega) (by omega)) h5, n, ti, bi, m, i1, i2, fun k hk => ?_⟩
  have r' := rr k hk
  refine R6s_cg r' (hc _ (by omega) (by omega) (by omega) (by omega) (by omega)) (hc _ (by omega) (by omega) (by omega) (by omega) (by omega)) (hc _ (by omega) (by omega) (by omega) (by omega) (by omega)) (fun j hj => ?_) (fun c q1 q2 _ _ => hr c k (by omega) q2) (fun g _ => hr _ _ (by omega) (by omega)) (fun j i _ _ => hr _ _ (by omega) (by omega))
  have := (r'.2.2.2.2.2.1 j hj).2.2.2.2.2.2
  exact ⟨hc _ (by omega) (by omega) (by omega) (by omega) (by omega), hc _ (by omega) (by omega) (by omega) (by omega) (by omega)⟩
/-- the ear's cell and its bytes are changed -/
theorem ear_bs {own : Nat → Nat} {s : CS} {t t' : TS} {N Ne Nd M Ne' n' m' : Nat} {c1 c2 : lCell} (hw : wfS s) (r : R6x (rs s.1 own 6) t N Ne Nd M) (hn : ∀ c, c ≠ 516 → c ≠ 517 → c ≠ 519 → c ≠ 520 → c ≠ 528 → t'.1 c = t.1 c) (hr : ∀ c j, c ≠ 155 → t'.2.2.1 c j = t.2.2.1 c j) (h2 : t'.2.1 = t.2.1) (h4 : t'.2.2.2 = t.2.2.2)
    (e : R6e (lUpd (lUpd (rs s.1 own 6) 123 c2) 122 c1) t' Ne') : R6x (rs (chg (cup (cup s 123 c2) 122 c1) n' m').1 own 6) t' N Ne' Nd M ∧ BS own own n' m' s t (chg (cup (cup s 123 c2) 122 c1) n' m') t' := by
  have r2 := r
  obtain ⟨g, ⟨mc, e1, e2, e3, e4, e5, e6, e7, nb, f, q1, q2, _⟩, _⟩ := r2
  have o1 := rs_in q1
  have o2 := rs_in q2
  have er : rs (chg (cup (cup s 123 c2) 122 c1) n' m').1 own 6 = lUpd (lUpd (rs s.1 own 6) 123 c2) 122 c1 := by
    show rs (lUpd (lUpd s.1 123 c2) 122 c1) own 6 = _
    rw [rs_upd o1.2, rs_upd o2.2]
  refine ⟨?_, ?_, ?_, Nat.le_refl _, Nat.le_refl _⟩
  · rw [er]
    have ne : ∀ q, q ≠ 122 → q ≠ 123 → lUpd (lUpd (rs s.1 own 6) 123 c2) 122 c1 q = rs s.1 own 6 q := fun q a b => by rw [lUpd_at, if_neg a, lUpd_at, if_neg b]
    refine R6_ge r (fun q _ a b _ _ => ne q a b) (fun c j a b => hr c j (by omega)) (hn _ (by omega) (by omega) (by omega) (by omega) (by omega)) (R6g_cg2 g (ne _ (by omega) (by omega)) (ne _ (by omega) (by omega)) (ne _ (by omega) (by omega)) (ne _ (by omega) (by omega)) (fun j => hr _ j (by omega)) (fun j => hr _ j (by omega)) (fun j => hr _ j (by omega)) (fun j => hr _ j (by omega)) ?_ ?_ ?_ ?_ ?_ ?_ ?_) e <;> exact hn _ (by omega) (by omega) (by omega) (by omega) (by omega)
  · have f1 := frm_cup (X := fun X => X = 6) (own := own) (c := c2) hw (wf_lt hw o2.1) o2.2
    have f2 := frm_cup (X := fun X => X = 6) (own := own) (c := c1) (a := 122) f1.2.2.2.2 (show 122 < s.2.1 from wf_lt hw o1.1) o1.2
    exact (f1.trans f2).trans (frm_chg f2.2.2.2.2)
  · intro Z hZ
    unfold rt
    rw [h2, h4]
    refine Prod.ext ?_ (Prod.ext rfl (Prod.ext ?_ rfl))
    · funext c
      by_cases hz : mI c = Z
      · simp only [if_pos hz]
        refine hn c ?_ ?_ ?_ ?_ ?_ <;> (intro q; exact hZ (by rw [← hz, q]; rfl))
      · simp only [if_neg hz]
    · funext c j
      by_cases hz : mR c = Z
      · simp only [if_pos hz]
        exact hr c j (fun q => hZ (by rw [← hz, q]; rfl))
      · simp only [if_neg hz]
theorem R6e_of {h : lHeap} {t : TS} {N : Nat} (mc e1 e2 e3 e4 e5 e6 e7 : Int32) (nb : Nat) (f : Nat → Value) (c2 : lCell) (hc2 : c2 = (true, false, 1013, .int mc :: rowC f nb)) (h1 : nb ≤ 14000) (h2 : v01 e1) (h3 : ∃ hc, t.2.2.1 157 1 = Int32.ofNat hc ∧ hc ≤ N) (h4 : (t.1 516 = 0 ∧ e4 = 0) ∨ ∃ b, t.1 516 = Int32.ofNat b ∧ 0 < b ∧ b ≤ N ∧ e4 = 1 ∧ e2 = Int32.ofNat b ∧ e1 = t.1 519 ∧ t.1 517 = Int32.ofNat nb ∧ (∀ i, i < nb → f i = .int (t.2.2.1 155 i) ∧ byt (t.2.2.1 155 i)) ∧
    ((t.1 528 = Int32.ofNat (b + 13 * nb) ∧ b + 13 * nb ≤ N ∧ N < b + 13 * nb + 10 ∧ e5 = Int32.ofNat (N - (b + 13 * nb) + 1) ∧ e6 = lett t (b + 13 * nb) (N - (b + 13 * nb)) ∧ e7 = 0) ∨
     (t.1 528 = 0 ∧ 0 < nb ∧ t.1 520 = Int32.ofNat (b + 13 * nb - 3) ∧ b + 13 * nb ≤ N + 3 ∧ N + 1 ≤ b + 13 * nb ∧ e5 = 11 ∧ e3 = Int32.ofNat (b + 13 * nb - 3) ∧ e7 = Int32.ofNat (N + 3 - (b + 13 * nb))))) : R6e (lUpd (lUpd h 123 c2) 122 (eC e1 e2 e3 e4 e5 e6 e7)) t N :=
  ⟨mc, e1, e2, e3, e4, e5, e6, e7, nb, f, by rw [lUpd_at, if_pos rfl]; rfl, by rw [lUpd_at, if_neg (by omega), lUpd_at, if_pos rfl, hc2], h1, h2, h3, h4⟩
/-- it begins -/
theorem ear_begin {s : CS} {e1 e2 e3 e4 e5 e6 e7 mc v : Int32} {f : Nat → Value} {nb : Nat} (h1 : s.1 122 = some (eC e1 e2 e3 e4 e5 e6 e7)) (h2 : s.1 123 = some (true, false, 1013, .int mc :: rowC f nb)) : c_1156 122 v s = some (chg (cup (cup s 123 (true, false, 1013, [.int (mc + 1)])) 122 (eC 0 v e3 1 1 0 0)) 0 0) := by
  unfold c_1156 c_1157
  have a1 : xP s [(130, 4)] 122 (.int 1) = some (cup s 122 (eC e1 e2 e3 1 e5 e6 e7)) := by simp [xP, h1, eC, lLook]
  have a2 : xN (cup s 122 (eC e1 e2 e3 1 e5 e6 e7)) [(130, 0)] 122 = some 123 := by simp [xN, xV, cup_at, eC, lLook, toP]
  have c2 : (cup s 122 (eC e1 e2 e3 1 e5 e6 e7)).1 123 = some (true, false, 1013, .int mc :: rowC f nb) := by rw [cup_at, if_neg (by omega), h2]
  have a3 : isK (cup s 122 (eC e1 e2 e3 1 e5 e6 e7)) [13] 123 = true := by simp only [isK, kdo, c2]; decide
  rw [a1, Option.bind_some, a2, Option.bind_some, if_pos a3, alClear_r c2, Option.bind_some]
  simp [xP, cput, cup, chg, lUpd_at, lUpdU, eC, lLook, isK, kdo]
  funext q
  simp only [lUpd_at]
  by_cases q1 : q = 122
  · simp [q1]
  · simp [q1]
