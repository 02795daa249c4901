/-! building: portals, the reference -/
section
variable {t T : TS} {L : PLn} {nl nr : Nat} {st ln : Nat → Nat} {lab : Int → Int → Int} {nm : Nat → Int32} {nd : Nat → Nat} {g : List (Nat × Nat × Nat)}
/-- the room with a space's number; the outside is the last -/
def rmP (n : Int32) (F : Int) : Int32 := if F = -1 then n else Int32.ofInt F
/-- the portals so far -/
def PorS (t T : TS) (L : PLn) (nl : Nat) (lab : Int → Int → Int) (g : List (Nat × Nat × Nat)) : Prop := agr [10] [7, 8, 9, 10, 11, 15] t T ∧ T.1 10 = Int32.ofNat g.length ∧ ∀ k, k < g.length → T.2.2.1 7 k = rmP (t.1 9) (gLL (gS L nl) lab (2 * (g.getD k (0, 0, 0)).2.2)) ∧ T.2.2.1 8 k = rmP (t.1 9) (gLL (gS L nl) lab (2 * (g.getD k (0, 0, 0)).2.2 + 1)) ∧ T.2.2.1 9 k = Int32.ofNat (g.getD k (0, 0, 0)).1 ∧ T.2.2.1 10 k = Int32.ofNat (g.getD k (0, 0, 0)).2.1 ∧ T.2.2.1 11 k = Int32.ofNat (max (dA t (g.getD k (0, 0, 0)).1 (g.getD k (0, 0, 0)).2.1) (kAn L nl (g.getD k (0, 0, 0)).2.2)) ∧ T.2.2.1 15 k = 1000000
theorem FT_por (F : FT t L nl nr st ln lab nm) (a : agr [10] [7, 8, 9, 10, 11, 15] t T) : FT T L nl nr st ln lab nm := FT_cg2 F a (by simp) (by simp) (by simp) (fun l _ => by rw [a.2.2.1 52 (by simp)])
theorem drR_por (h : drR t L nl nd) (a : agr [10] [7, 8, 9, 10, 11, 15] t T) : drR T L nl nd := by
  unfold drR
  rw [a.2.2.1 50 (by simp), a.2.2.1 51 (by simp), a.2.2.1 54 (by simp), a.2.2.1 55 (by simp), a.2.2.1 56 (by simp)]
  exact h
theorem t_low (F : FT T L nl nr st ln lab nm) (h : drR T L nl nd) {p : Nat} (hp : p < nP L nl) : t_725 (Int32.ofNat p) T = some (Int32.ofNat (kAn L nl p)) ∧ kB L nl p ≤ 24 := by
  have hle := FT_le F
  obtain ⟨ps, tg⟩ := F.2.2.2.2.1
  have n20 := F.1.1
  obtain ⟨k1, k2, k3, k4, k5, _⟩ := k_in hp
  obtain ⟨p1, a, b, h1, h2, h3, h4, h5, h6⟩ := tg.1.2.2.2.2.2 p hp
  have pl := TPl_len F.1 tg.1
  have bl := a_lt F.1 k1 (show kAn L nl p ≤ pN L (kL L nl p) by omega)
  have bh := a_lt F.1 k1 k3
  have e1 : ps.getD a 0 / 25 = aX L (kL L nl p) (kAn L nl p) := by rw [h3]; unfold qA; omega
  have e2 : ps.getD a 0 % 25 = aY L (kL L nl p) (kAn L nl p) := by rw [h3]; unfold qA; omega
  obtain ⟨g0, g1, _⟩ := h _ k1
  have y1 := tg.1.2.2.1.2 a h1
  have off : ((Int32.ofNat (aX L (kL L nl p) (kAn L nl p)) - Int32.ofNat (pX L (kL L nl p))) + Int32.ofNat (aY L (kL L nl p) (kAn L nl p))) - Int32.ofNat (pY L (kL L nl p)) = Int32.ofNat (kAn L nl p) := by
    rw [← i_ofI, ← i_ofI, ← i_ofI, ← i_ofI, ← i_ofI, i_subI, i_addI, i_subI]
    congr 1
    unfold aX aY
    by_cases w : pFl L (kL L nl p) = true
    · rw [if_pos w, if_pos w]; omega
    · rw [if_neg w, if_neg w]; omega
  constructor
  · unfold t_725
    rw [rdI_n (by omega) (by decide), p1, Option.bind_some, rdI_n (by omega) (by decide), h5, Option.bind_some, rdI_n (by omega) (by decide), y1.1, e1, Option.bind_some, rdI_n (by omega) (by decide), g0, Option.bind_some, Option.bind_some, rdI_n (by omega) (by decide), y1.2, e2, Option.bind_some, rdI_n (by omega) (by decide), g1, Option.bind_some, off]
  · unfold aX aY at bh
    by_cases w : pFl L (kL L nl p) = true
    · rw [if_pos w, if_pos w] at bh; omega
    · rw [if_neg w, if_neg w] at bh; omega
theorem t_part (F : FT T L nl nr st ln lab nm) (h : drR T L nl nd) {p d : Nat} (hp : p < nP L nl) (hd : d < nd (kL L nl p)) : t_724 (Int32.ofNat p) (Int32.ofNat d) T = some (if max (dA T (kL L nl p) d) (kAn L nl p) < min (dB T (kL L nl p) d) (kB L nl p) then Int32.ofNat (max (dA T (kL L nl p) d) (kAn L nl p)) else -1) := by
  have hle := FT_le F
  obtain ⟨ps, tg⟩ := F.2.2.2.2.1
  have n20 := F.1.1
  obtain ⟨k1, k2, k3, k4, k5, _⟩ := k_in hp
  obtain ⟨p1, _⟩ := tg.1.2.2.2.2.2 p hp
  obtain ⟨lo, hB⟩ := t_low F h hp
  obtain ⟨_, _, g4, g5, g6⟩ := h _ k1
  obtain ⟨da, db, d1, d2, d3, d4⟩ := g6 d hd
  have eA : dA T (kL L nl p) d = da := by unfold dA; rw [d1, i_clamp (by omega)]
  have eB : dB T (kL L nl p) d = db := by unfold dB; rw [d2, i_clamp (by omega)]
  have sl2 : kB L nl (2 * p / 2) - kAn L nl (2 * p / 2) = kB L nl p - kAn L nl p := by rw [show 2 * p / 2 = p by omega]
  unfold t_724
  rw [rdI_n (by omega) (by decide), p1, Option.bind_some, lo, Option.bind_some, Option.bind_some, i_mulL, t_len F.1 tg.1 (show 2 * p < 2 * nP L nl by omega), sl2, Option.bind_some, i_mulL, i_add, rdI_n (by omega) (by decide), d1, Option.bind_some, rdI_n (by omega) (by decide), d2, Option.bind_some, i_add, show kAn L nl p + (kB L nl p - kAn L nl p) = kB L nl p by omega, t_shr (by omega) (by omega) (by omega) (by omega), Option.bind_some, eA, eB]
  by_cases w : max da (kAn L nl p) < min db (kB L nl p)
  · rw [if_pos w, if_pos (show (0 : Int32) < Int32.ofNat (min (kB L nl p) db - max (kAn L nl p) da) from (i_lt (j := 0) (by omega) (by omega)).mpr (by omega)), Option.bind_some, if_neg (by decide), Option.bind_some, Option.bind_some]
    by_cases v : da < kAn L nl p
    · rw [if_pos ((i_lt (by omega) (by omega)).mpr v), Option.bind_some, Nat.max_eq_right (by omega)]
    · rw [if_neg (fun z => v ((i_lt (by omega) (by omega)).mp z)), Option.bind_some, Nat.max_eq_left (by omega)]
  · rw [if_neg w, if_neg (show ¬ (0 : Int32) < Int32.ofNat (min (kB L nl p) db - max (kAn L nl p) da) from fun z => by have := (i_lt (j := 0) (by omega) (by omega)).mp z; omega), Option.bind_some, if_pos rfl]
theorem t_rm (F : FT T L nl nr st ln lab nm) (q : Nat) : t_586 (Int32.ofInt (gLL (gS L nl) lab q)) T = some (rmP (T.1 9) (gLL (gS L nl) lab q)) := by
  unfold t_586 rmP
  have e := LL_n F (s := q)
  by_cases z : gLL (gS L nl) lab q = -1
  · rw [if_pos (e.mpr z), if_pos z]
  · rw [if_neg (fun w => z (e.mp w)), if_neg z]
theorem rm_eq (F : FT T L nl nr st ln lab nm) (h9 : T.1 9 = Int32.ofNat (spn L nl st ln nr)) (q q' : Nat) : rmP (T.1 9) (gLL (gS L nl) lab q) = rmP (T.1 9) (gLL (gS L nl) lab q') ↔ gLL (gS L nl) lab q = gLL (gS L nl) lab q' := by
  have hle := FT_le F
  constructor
  · intro h
    rw [h9] at h
    unfold rmP at h
    rcases LL_lt F q with a | ⟨n, a, ha⟩ <;> rcases LL_lt F q' with b | ⟨m, b, hb⟩
    · rw [a, b]
    · rw [a, b, if_pos rfl, if_neg (by omega), i_ofI] at h
      have := (i_inj (by omega) (by omega)).mp h
      omega
    · rw [a, b, if_pos rfl, if_neg (by omega), i_ofI] at h
      have := (i_inj (by omega) (by omega)).mp h
      omega
    · rw [a, b, if_neg (by omega), if_neg (by omega), i_ofI, i_ofI] at h
      have := (i_inj (by omega) (by omega)).mp h
      omega
  · intro h; rw [h]
/-- one portal -/
theorem t_por1 (F : FT t L nl nr st ln lab nm) (hd : drR t L nl nd) (h9 : t.1 9 = Int32.ofNat (spn L nl st ln nr)) (r : PorS t T L nl lab g) (hg : g.length < 1400) {d p : Nat} (hp : p < nP L nl) (hdl : d < nd (kL L nl p)) : ∃ T', t_585 (Int32.ofNat (kL L nl p)) (Int32.ofNat d) (Int32.ofNat p) T = some T' ∧ PorS t T' L nl lab (g ++ (if okG t L nl lab (kL L nl p) d p = true then [(kL L nl p, d, p)] else [])) := by
  have hle := FT_le F
  obtain ⟨a, r1, r2⟩ := r
  have FT' := FT_por F a
  have hd' := drR_por hd a
  have e9 : T.1 9 = t.1 9 := a.1 9 (by simp)
  have eA : ∀ l d, dA T l d = dA t l d := fun l d => by unfold dA; rw [a.2.2.1 55 (by simp)]
  have eB : ∀ l d, dB T l d = dB t l d := fun l d => by unfold dB; rw [a.2.2.1 56 (by simp)]
  have ok : okG t L nl lab (kL L nl p) d p = true ↔ max (dA t (kL L nl p) d) (kAn L nl p) < min (dB t (kL L nl p) d) (kB L nl p) ∧ gLL (gS L nl) lab (2 * p) ≠ gLL (gS L nl) lab (2 * p + 1) := by
    unfold okG
    rw [decide_eq_true_iff]
  have lf : t_723 (Int32.ofNat p) 1 T = some (Int32.ofInt (gLL (gS L nl) lab (2 * p))) := by
    unfold t_723
    rw [if_neg n10, i_mulL, t_lf FT' (show 2 * p < 2 * nP L nl by omega), Option.bind_some]
  have rt : t_723 (Int32.ofNat p) 0 T = some (Int32.ofInt (gLL (gS L nl) lab (2 * p + 1))) := by
    unfold t_723
    rw [if_pos rfl, i_mulL, t_rt FT' (show 2 * p < 2 * nP L nl by omega), Option.bind_some, show bkS (2 * p) = 2 * p + 1 by unfold bkS; rw [if_pos (by omega)]]
  have pt := t_part FT' hd' hp hdl
  have re := rm_eq FT' (e9.trans h9) (2 * p) (2 * p + 1)
  unfold t_585
  rw [lf, Option.bind_some, t_rm FT', Option.bind_some, rt, Option.bind_some, t_rm FT', Option.bind_some]
  by_cases w : gLL (gS L nl) lab (2 * p) = gLL (gS L nl) lab (2 * p + 1)
  · rw [if_pos (re.mpr w), if_neg (fun z => (ok.mp z).2 w), List.append_nil]
    exact ⟨T, rfl, a, r1, r2⟩
  rw [if_neg (fun z => w (re.mp z)), pt, Option.bind_some]
  rw [eA, eB] at pt ⊢
  by_cases z : max (dA t (kL L nl p) d) (kAn L nl p) < min (dB t (kL L nl p) d) (kB L nl p)
  rotate_left
  · rw [if_neg z, if_pos (by decide), if_neg (fun y => z (ok.mp y).1), List.append_nil]
    exact ⟨T, rfl, a, r1, r2⟩
  have hb := (t_low FT' hd' hp).2
  rw [if_pos z] at pt ⊢
  rw [if_neg (i_nlt0 (by omega)), r1, stI_n hg (by decide), Option.bind_some]
  have c1 : ∀ c k v, (wrI T c k v).1 = T.1 := fun _ _ _ => rfl
  rw [c1, r1, stI_n hg (by decide), Option.bind_some]
  rw [show (wrI (wrI T 7 g.length (rmP (T.1 9) (gLL (gS L nl) lab (2 * p)))) 8 g.length (rmP (T.1 9) (gLL (gS L nl) lab (2 * p + 1)))).1 = T.1 from rfl, r1, stI_n hg (by decide), Option.bind_some]
  rw [show (wrI (wrI (wrI T 7 g.length (rmP (T.1 9) (gLL (gS L nl) lab (2 * p)))) 8 g.length (rmP (T.1 9) (gLL (gS L nl) lab (2 * p + 1)))) 9 g.length (Int32.ofNat (kL L nl p))).1 = T.1 from rfl, r1, stI_n hg (by decide), Option.bind_some]
  obtain ⟨U, hU⟩ : ∃ U, U = wrI (wrI (wrI (wrI T 7 g.length (rmP (T.1 9) (gLL (gS L nl) lab (2 * p)))) 8 g.length (rmP (T.1 9) (gLL (gS L nl) lab (2 * p + 1)))) 9 g.length (Int32.ofNat (kL L nl p))) 10 g.length (Int32.ofNat d) := ⟨_, rfl⟩
  rw [← hU]
  have aU : agr [10] [7, 8, 9, 10, 11, 15] t U := by rw [hU]; exact agr_w (agr_w (agr_w (agr_w a (by simp)) (by simp)) (by simp)) (by simp)
  have u1 : U.1 = T.1 := by rw [hU]; rfl
  have pU := t_part (FT_por F aU) (drR_por hd aU) hp hdl
  have eA2 : dA U (kL L nl p) d = dA t (kL L nl p) d := by unfold dA; rw [aU.2.2.1 55 (by simp)]
  have eB2 : dB U (kL L nl p) d = dB t (kL L nl p) d := by unfold dB; rw [aU.2.2.1 56 (by simp)]
  rw [eA2, eB2, if_pos z] at pU
  rw [pU, Option.bind_some, u1, r1, stI_n hg (by decide), Option.bind_some]
  rw [show (wrI U 11 g.length (Int32.ofNat (max (dA t (kL L nl p) d) (kAn L nl p)))).1 = U.1 from rfl, u1, r1, stI_n hg (by decide), Option.bind_some, Option.bind_some]
  rw [show (wrI (wrI U 11 g.length (Int32.ofNat (max (dA t (kL L nl p) d) (kAn L nl p)))) 15 g.length 1000000).1 = U.1 from rfl, u1, r1, i_suc, if_pos (ok.mpr ⟨z, w⟩)]
  refine ⟨_, rfl, agr_p (agr_w (agr_w aU (by simp)) (by simp)) (by simp), ?_, fun k hk => ?_⟩
  · rw [List.length_append]; rfl
  · rw [List.length_append] at hk
    have hk : k < g.length + 1 := hk
    have rd : ∀ c, (ptI (wrI (wrI U 11 g.length (Int32.ofNat (max (dA t (kL L nl p) d) (kAn L nl p)))) 15 g.length 1000000) 10 (Int32.ofNat (g.length + 1))).2.2.1 c k = (wrI (wrI U 11 g.length (Int32.ofNat (max (dA t (kL L nl p) d) (kAn L nl p)))) 15 g.length 1000000).2.2.1 c k := fun c => rfl
    rw [rd, rd, rd, rd, rd, rd, hU]
    simp only [wr_at]
    by_cases y : k = g.length
    · have eg : (g ++ [(kL L nl p, d, p)]).getD k (0, 0, 0) = (kL L nl p, d, p) := by rw [y]; simp [List.getD]
      rw [eg, e9]
      simp [y]
    · have eg : (g ++ [(kL L nl p, d, p)]).getD k (0, 0, 0) = g.getD k (0, 0, 0) := getD_app (by omega)
      rw [eg]
      simp only [y, and_false, if_false]
      exact r2 k (by omega)
end
