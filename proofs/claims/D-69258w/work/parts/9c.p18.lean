/-! the program: a tick's two rounds -/
def Sm (t T : TS) : Prop := T.1 = t.1 ∧ ∀ c j, c ≠ 131 → c ≠ 132 → c ≠ 133 → c ≠ 140 → T.2.2.1 c j = t.2.2.1 c j
theorem Sm.rf (t : TS) : Sm t t := ⟨rfl, fun _ _ _ _ _ _ => rfl⟩
theorem Sm.tr {t T U : TS} (h : Sm t T) (k : Sm T U) : Sm t U := ⟨k.1.trans h.1, fun c j h1 h2 h3 h4 => (k.2 c j h1 h2 h3 h4).trans (h.2 c j h1 h2 h3 h4)⟩
theorem Sm.wr {t T : TS} {c k : Nat} {v : Int32} (h : Sm t T) (hc : c = 131 ∨ c = 132 ∨ c = 133 ∨ c = 140) : Sm t (wrI T c k v) := ⟨h.1, fun q j h1 h2 h3 h4 => by rw [wr_ne (by omega)]; exact h.2 q j h1 h2 h3 h4⟩
theorem app_sm (t : TS) (k : Nat) (e : EvR) : Sm t (app t k e) := by
  cases e with
  | inl x => exact (((Sm.rf t).wr (Or.inr (Or.inl rfl))).wr (Or.inr (Or.inr (Or.inl rfl)))).wr (Or.inl rfl)
  | inr w => exact (((Sm.rf t).wr (Or.inr (Or.inr (Or.inr rfl)))).wr (Or.inr (Or.inr (Or.inr rfl)))).wr (Or.inl rfl)
/-- by hand it is so already -/
def inH (t : TS) (j : Nat) : Prop := t.2.2.1 134 j = 0 ∨ t.2.2.1 131 j = t.2.2.1 135 j
theorem app_H (t : TS) (k : Nat) (e : EvR) : inH (app t k e) k ∧ ∀ j, j ≠ k → inH t j → inH (app t k e) j := by
  have hs := app_sm t k e
  have h4 := fun j => hs.2 134 j (by omega) (by omega) (by omega) (by omega)
  have h5 := fun j => hs.2 135 j (by omega) (by omega) (by omega) (by omega)
  have h1 : (app t k e).2.2.1 131 k = (match e with | .inl (o, f, g) => (if t.2.2.1 134 k = 0 then o else t.2.2.1 135 k) | .inr w => (if t.2.2.1 134 k = 0 then t.2.2.1 128 k else t.2.2.1 135 k)) := by
    cases e with
    | inl x => exact if_pos ⟨rfl, rfl⟩
    | inr w => exact if_pos ⟨rfl, rfl⟩
  have h2 : ∀ j, j ≠ k → (app t k e).2.2.1 131 j = t.2.2.1 131 j := by
    intro j hj
    cases e with
    | inl x =>
      show (wrI (wrI (wrI t 132 k _) 133 k _) 131 k _).2.2.1 131 j = _
      rw [wr_nk hj, wr_nk hj, wr_nk hj]
    | inr w =>
      show (wrI (wrI (wrI t 140 0 _) 140 _ _) 131 k _).2.2.1 131 j = _
      rw [wr_nk hj, wr_ne (by omega), wr_ne (by omega)]
  refine ⟨?_, fun j hj h => ?_⟩
  · unfold inH
    rw [h4, h5, h1]
    by_cases e4 : t.2.2.1 134 k = 0
    · exact Or.inl e4
    · refine Or.inr ?_
      cases e with
      | inl x => exact if_neg e4
      | inr w => exact if_neg e4
  · unfold inH at h ⊢
    rw [h4, h5, h2 j hj]; exact h
section
variable {s : CS} {own : Nat → Nat} {t : TS} {n k : Nat} {B : Nat → Nat → Nat} {o : Value} {od : Int32}
theorem rec_two' (h : Tk s own t n B o od) (hk : k < n) (hR : ∀ a, a < 100 → own a ≠ 5) : ∃ s' e, c_1104 115 (B k 0) 0 s = some s' ∧ t_812 (Int32.ofNat k) t = some (app t k e) ∧ Tk s' own (app t k e) n B o od ∧ Tc own s s' t (app t k e) := by
  obtain ⟨s', t', e1, e2, e3, e4⟩ := rec_two h hk hR
  obtain ⟨K, hK, hKe⟩ := (h.ok.2.2 k hk).1
  have e5 := t_rec K hK h.ok hk hKe
  rw [e2] at e5
  obtain rfl := Option.some.inj e5
  exact ⟨s', _, e1, e2, e3, e4⟩
theorem Tk.w3 {x : Int32} (h : Tk s own t n B o od) (hk : k < n) (hR : ∀ a, a < 100 → own a ≠ 5) : Tk (cup s (B k 0) (bC (wrI t 132 k x) B k)) own (wrI t 132 k x) n B o od ∧ Tc own s (cup s (B k 0) (bC (wrI t 132 k x) B k)) t (wrI t 132 k x) := by
  have hw := h.1
  have r := h.2.2.2
  have hB0 := rs_in (r.2.2.2.1 k hk).1
  have hTc : Tc own s (cup s (B k 0) (bC (wrI t 132 k x) B k)) t (wrI t 132 k x) := ⟨frm_cup hw (wf_lt hw hB0.1) hB0.2, rfl, rfl, rfl, rfl, fun c j q => wr_ne (fun z => q (by rw [z]; rfl)) j⟩
  refine ⟨h.cg hTc ?_ hR, hTc⟩
  show R5x (rs (lUpd s.1 (B k 0) _) own 5) (ptI (wrI t 132 k x) 418 (rst (wrI t 132 k x))) n B o od (t.1 414)
  rw [rs_upd hB0.2]
  have er : rst (wrI t 132 k x) = rst t := rfl
  rw [er]
  refine R5_st (t' := ptI (wrI t 132 k x) 418 (rst t)) hk r (fun c j hm hq => ?_) (fun c _ _ => rfl) ?_
  · show (wrI t 132 k x).2.2.1 c j = t.2.2.1 c j
    rw [wr_at, if_neg (fun z => hq ⟨by unfold bRow; omega, z.2⟩)]
  · exact (r.2.2.2.1 k hk).2.2.2.2.2
/-- a tick's end, a block -/
theorem end_two (h : Tk s own t n B o od) (hk : k < n) (hR : ∀ a, a < 100 → own a ≠ 5) (hH : inH t k) : ∃ s' t', c_1104 115 (B k 0) 1 s = some s' ∧ Option.bind (α := Int32) (rdI t 125 40 (Int32.ofNat k)) (fun x4 => Option.bind (α := TS) (Option.bind (α := Sum (Unit) (TS)) ((if x4 = 16 then Option.bind (α := Int32) (rdI t 129 120 (3 * Int32.ofNat k)) (fun x5 => (if x5 < 0 then Option.bind (α := TS) (t_815 (Int32.ofNat k) 3 t) (fun x6 => Option.bind (α := Int32) (rdI x6 134 40 (Int32.ofNat k)) (fun x7 => Option.bind (α := Int32) ((if x7 = 0 then Option.bind (α := Int32) (rdI x6 131 40 (Int32.ofNat k)) (fun x8 => some x8) else Option.bind (α := Int32) (rdI x6 135 40 (Int32.ofNat k)) (fun x9 => some x9))) (fun v63 => Option.bind (α := TS) (stI x6 131 40 (Int32.ofNat k) v63) (fun s10 => some (.inr s10))))) else some (.inl ()))) else some (.inl ()))) (Sum.elim (fun v65 => Option.bind (α := Int32) (rdI t 125 40 (Int32.ofNat k)) (fun x11 => (if x11 = 16 then Option.bind (α := Int32) (t_814 (Int32.ofNat k) 0 t) (fun x12 => Option.bind (α := TS) (stI t 132 40 (Int32.ofNat k) x12) (fun s13 => some s13)) else some t))) (fun z => some z))) (fun v79 => some (Sum.inl (β := TS) (v79, Int32.ofNat k + 1)))) = some (.inl (t', Int32.ofNat (k + 1))) ∧ Tk s' own t' n B o od ∧ Tc own s s' t t' ∧ Sm t t' ∧ ∀ j, inH t j → inH t' j := by
  have hb := h.bx hk
  have ho := h.ok
  have hn := ho.1
  have hw := h.1
  have r := h.2.2.2
  obtain ⟨K, hK, hKe⟩ := (ho.2.2 k hk).1
  have hkd := c_kd hb hK hKe
  have r1 := (hb.2.2.1 k hk).1
  have hkk := hb.2.1.1 K hK
  have hid : ∀ U : TS, U.2.2.1 134 k = t.2.2.1 134 k → U.2.2.1 135 k = t.2.2.1 135 k → U.2.2.1 131 k = t.2.2.1 131 k → wrI U 131 k (if U.2.2.1 134 k = 0 then U.2.2.1 131 k else U.2.2.1 135 k) = U := by
    intro U q4 q5 q1
    rcases hH with z | z
    · rw [if_pos (q4.trans z), wr_id]
    · by_cases e : U.2.2.1 134 k = 0
      · rw [if_pos e, wr_id]
      · rw [if_neg e, q5, ← z, ← q1, wr_id]
  by_cases h16 : K = 16
  · subst h16
    have k1 : ¬ isK s [102, 103, 104, 105, 106, 107, 108, 109, 110, 113, 114, 115, 116, 117, 118, 119, 120, 121, 123, 124, 125, 126, 127, 128, 129] (kid 16) = true := by
      rw [isK_o hkk, kcl_w hK]; simp
    have k2 : isK s [112] (kid 16) = true := isK_t hkk rfl
    have hwi := (ho.2.2 k hk).2 0 (by omega)
    rcases hwi with e | ⟨w, hw1, e⟩
    · -- not wired
      have e' : t.2.2.1 129 (3 * k) = -1 := e
      have h119 := rs_in r.1.2.2.2.1
      have g0 := r.2.2.1.2 k 0 hk (by omega)
      have hin : inV t k 0 = none := by unfold inV; rw [if_pos e]
      have hno := c_noT hb (w := 3) (by omega) h119.1 (by omega)
      have k3 : isK s [133] 93 = true := isK_t hb.2.1.2.1 rfl
      have hcc : c_1104 115 (B k 0) 1 s = some (cup (cup s 119 (f119 (app t k (.inr (Int32.ofNat 3))))) (B k 0) (bC (app t k (.inr (Int32.ofNat 3))) B k)) := by
        rw [← hno]
        unfold c_1104 cT tel
        rw [if_neg (by decide), hkd, Option.bind_some, if_neg k1, if_pos k2]
        unfold c_1121
        rw [if_pos (isK_t r1 rfl), c_in0 hb, hin]
        simp only [Option.bind_some, Sum.elim_inr, show fwo (Int32.ofNat 3) = 93 from rfl, k3, if_true]
      have hbv : bN (Int32.ofNat 3) = 3 := rfl
      generalize hT : app t k (.inr (Int32.ofNat 3)) = T at hcc
      have eT : T = wrI (wrI (wrI t 140 0 (t.2.2.1 140 0 + 1)) 140 3 (t.2.2.1 140 3 + 1)) 131 k (if t.2.2.1 134 k = 0 then t.2.2.1 128 k else t.2.2.1 135 k) := by
        rw [← hT]; rfl
      have hB0 := rs_in (r.2.2.2.1 k hk).1
      have hTc : Tc own s (cup (cup s 119 (f119 T)) (B k 0) (bC T B k)) t T := by
        have f1 := frm_cup (X := fun X => X = 5) (c := f119 T) hw (wf_lt hw h119.1) h119.2
        refine ⟨f1.trans (frm_cup f1.2.2.2.2 (show B k 0 < s.2.1 from wf_lt hw hB0.1) hB0.2), rfl, by rw [eT]; rfl, by rw [eT]; rfl, by rw [eT]; rfl, fun c j q => ?_⟩
        rw [eT, wr_ne (fun z => q (by rw [z]; rfl)), wr_ne (fun z => q (by rw [z]; rfl)), wr_ne (fun z => q (by rw [z]; rfl))]
      refine ⟨_, T, hcc, ?_, h.cg hTc ?_ hR, hTc, by rw [← hT]; exact app_sm .., ?_⟩
      · rw [rdI_n (by omega) (by omega), Option.bind_some, hKe, if_pos (by decide), i_mulL, rdI_n (by omega) (by omega), Option.bind_some, e', if_pos (by decide)]
        unfold t_815
        rw [rdI_0 (a := 0) (by decide) (by decide), Option.bind_some, stI_0 (a := 0) (by decide) (by decide), Option.bind_some, rdI_0 (a := 3) (by decide) (by decide), Option.bind_some, wr_nk (show (3 : Nat) ≠ 0 by omega), stI_0 (a := 3) (by decide) (by decide), Option.bind_some, rdI_n (by omega) (by omega), Option.bind_some, wr_ne (by omega), wr_ne (by omega), stI_n (by omega) (by omega), Option.bind_some, Option.bind_some, rdI_n (by omega) (by omega), Option.bind_some]
        generalize hU : wrI (wrI (wrI t 140 0 (t.2.2.1 140 0 + 1)) 140 3 (t.2.2.1 140 3 + 1)) 131 k (t.2.2.1 128 k) = U
        have u4 : U.2.2.1 134 k = t.2.2.1 134 k := by rw [← hU, wr_ne (by omega), wr_ne (by omega), wr_ne (by omega)]
        have u5 : U.2.2.1 135 k = t.2.2.1 135 k := by rw [← hU, wr_ne (by omega), wr_ne (by omega), wr_ne (by omega)]
        have u1 : U.2.2.1 131 k = t.2.2.1 128 k := by rw [← hU, wr_at, if_pos ⟨rfl, rfl⟩]
        rw [rdI_n (by omega) (by omega), rdI_n (by omega) (by omega), u4, u5, u1]
        simp only [Option.bind_some, iteS]
        rw [stI_n (by omega) (by omega), Option.bind_some]
        simp only [Option.bind_some, Sum.elim_inr, i_suc]
        rw [← hU, wr_wr, eT]
      · have e414 : T.1 414 = t.1 414 := by rw [eT]; rfl
        show R5x (rs (lUpd (lUpd s.1 119 _) (B k 0) _) own 5) (ptI T 418 (rst T)) n B o od (T.1 414)
        rw [rs_upd hB0.2, rs_upd h119.2, e414]
        have r2 := R5_119 (t1 := wrI (wrI t 140 0 (t.2.2.1 140 0 + 1)) 140 3 (t.2.2.1 140 3 + 1)) r (fun c j hc => by rw [wr_ne hc, wr_ne hc]; rfl) (fun c h1 h2 => by show t.1 c = (ptI t 418 (rst t)).1 c; rw [pt_1, if_neg h1])
        have eR : ∀ j, T.2.2.1 140 j = (wrI (wrI t 140 0 (t.2.2.1 140 0 + 1)) 140 3 (t.2.2.1 140 3 + 1)).2.2.1 140 j := fun j => by rw [eT, wr_ne (by omega)]
        have eF : f119 T = f119 (wrI (wrI t 140 0 (t.2.2.1 140 0 + 1)) 140 3 (t.2.2.1 140 3 + 1)) := by
          unfold f119; simp only [eR]
        have eS : rst T = rst (wrI (wrI t 140 0 (t.2.2.1 140 0 + 1)) 140 3 (t.2.2.1 140 3 + 1)) := by
          unfold rst; rw [eR]
        rw [eF, eS]
        refine R5_st (t' := ptI T 418 (rst (wrI (wrI t 140 0 (t.2.2.1 140 0 + 1)) 140 3 (t.2.2.1 140 3 + 1)))) hk r2 (fun c j hm hq => ?_) (fun c _ _ => by rw [eT]; rfl) ?_
        · show T.2.2.1 c j = (wrI (wrI t 140 0 (t.2.2.1 140 0 + 1)) 140 3 (t.2.2.1 140 3 + 1)).2.2.1 c j
          rw [eT, wr_at, if_neg (fun z => hq ⟨by unfold bRow; omega, z.2⟩)]
        · show v01 (T.2.2.1 134 k)
          rw [eT, wr_ne (by omega), wr_ne (by omega), wr_ne (by omega)]
          exact (r.2.2.2.1 k hk).2.2.2.2.2
      · intro j hj
        rw [← hT]
        by_cases ej : j = k
        · rw [ej]; exact (app_H t k _).1
        · exact (app_H t k _).2 j ej hj
    · have hne : wire t k 0 ≠ -1 := by rw [e]; exact i_ne1 (by omega)
      have hin : inV t k 0 = some (t.2.2.1 131 (bN (wire t k 0))) := by unfold inV; rw [if_neg hne]
      have e' : t.2.2.1 129 (3 * k) = Int32.ofNat w := e
      generalize hx : t.2.2.1 131 (bN (wire t k 0)) = x at hin
      obtain ⟨q1, q2⟩ := h.w3 (x := x) hk hR
      refine ⟨_, _, ?_, ?_, q1, q2, (Sm.rf t).wr (Or.inr (Or.inl rfl)), fun j hj => hj⟩
      · unfold c_1104
        rw [if_neg (by decide), hkd, Option.bind_some, if_neg k1, if_pos k2]
        unfold c_1121
        rw [if_pos (isK_t r1 rfl), c_in0 hb, hin]
        simp only [Option.bind_some, Sum.elim_inl]
        rw [xP_o r1 rfl (by simp [bC]), Option.bind_some]
        simp only [Option.bind_some, Sum.elim_inl, Sum.elim_inr]
        have hc : (cup s (B k 0) (true, false, 94, (bC t B k).2.2.2.set 8 (.int x))).1 (B k 0) = some (bC (wrI t 132 k x) B k) := by
          rw [cup_eq]; simp [bC, wr_at]
        refine (c_hand hc).trans ?_
        rw [cupU, hid _ (wr_ne (by omega) _) (wr_ne (by omega) _) (wr_ne (by omega) _)]
      · rw [rdI_n (by omega) (by omega), Option.bind_some, hKe, if_pos (by decide), i_mulL, rdI_n (by omega) (by omega), Option.bind_some, e', if_neg (i_nlt0 (by omega)), Option.bind_some, Sum.elim_inl, Option.bind_some, if_pos (by decide), t_8140 ho hk hin, Option.bind_some, stI_n (by omega) (by omega), Option.bind_some, Option.bind_some, i_suc]
  · have k1 : isK s [102, 103, 104, 105, 106, 107, 108, 109, 110, 113, 114, 115, 116, 117, 118, 119, 120, 121, 123, 124, 125, 126, 127, 128, 129] (kid K) = true := by
      rw [isK_o hkk, kcl_w hK]; simp [h16]
    refine ⟨s, t, ?_, ?_, h, Tc.rf hw, Sm.rf t, fun j hj => hj⟩
    · unfold c_1104
      rw [if_neg (by decide), hkd, Option.bind_some, if_pos k1]
      unfold c_1119
      simp only [Option.bind_some, Sum.elim_inl, Sum.elim_inr]
      refine (c_hand r1).trans ?_
      rw [hid t rfl rfl rfl, cup_id r1]
    · have hne : ¬ Int32.ofNat K = 16 := by rw [i_eqL (by omega) (by omega)]; exact h16
      rw [rdI_n (by omega) (by omega), Option.bind_some, hKe, if_neg hne, Option.bind_some, Sum.elim_inl, Option.bind_some, if_neg hne, Option.bind_some, i_suc]
end
