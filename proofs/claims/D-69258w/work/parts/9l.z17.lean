/-! the house: give -/
section
variable {α : Type} {s s' : CS} {own own' : Nat → Nat} {t T : TS} {K N N' : Nat}
def fullV (t : TS) : Int32 := if (0 : Int32) < Int32.ofNat (dnC t 1) then 1 else 0
theorem t_563_0 (t : TS) : t_563 0 t = some (0, ptI t 0 1) := by rw [stays_eq t (Or.inl rfl), if_pos rfl]
theorem t_563_1 (t : TS) : t_563 1 t = some (1, ptI t 0 0) := by rw [stays_eq t (Or.inr rfl), if_neg (by decide)]
theorem hs_give (r : RH s own t K N) (hcnt : s.2.2.1 < 3800000000) : Hr thr1 own s t K N 1001 7006 (c_468 100 s) (t_658 t) := by
  obtain ⟨nc, nk, C, D, M, b, q⟩ := r.r8
  have q' := q
  obtain ⟨⟨nw, hm, lst, p1⟩, ⟨m1, p2⟩, ⟨m5, e5, p3⟩, ⟨m6, e6, p4⟩, ⟨f7, p5⟩, ⟨f8, p6⟩, _⟩ := q'
  have g1 := rs_in p1
  have hv : v01 (fullV t) := by
    unfold fullV
    split
    · exact Or.inr rfl
    · exact Or.inl rfl
  have hb : (if (0 : Int32) < Int32.ofNat (dnC t 1) then some (1 : Int32) else some 0) = some (fullV t) := by unfold fullV; split <;> rfl
  have hd := r.done (v := 1) (Or.inr (by decide))
  have hp : xP s [(49, 4)] 162 (.int (fullV t)) = some (cup s 162 (true, false, 49, [.ref 163, .ref 164, .int (t.1 606), .int nw, .int (fullV t), .int (t.1 1), .ref 165, .ref 166, .ref 167, .ref 168, .long lst, .ref 169])) := xP_c g1.1 rfl (by simp) rfl
  obtain ⟨S, hS⟩ : ∃ S, S = cup s 162 (true, false, 49, [.ref 163, .ref 164, .int (t.1 606), .int nw, .int (fullV t), .int (t.1 1), .ref 165, .ref 166, .ref 167, .ref 168, .long lst, .ref 169]) := ⟨_, rfl⟩
  rw [← hS] at hp
  have fS : Frm (fun X => X = 8) own own s S := by rw [hS]; exact frm_cup r.wf (wf_lt r.wf g1.1) g1.2
  have hS2 : S.2 = s.2 := by rw [hS]; rfl
  have gS : S.1 162 = some (true, false, 49, [.ref 163, .ref 164, .int (t.1 606), .int nw, .int (fullV t), .int (t.1 1), .ref 165, .ref 166, .ref 167, .ref 168, .long lst, .ref 169]) := by rw [hS, cup_eq]
  have nS : ∀ p, p ≠ 162 → S.1 p = s.1 p := fun p hp => by rw [hS, cup_ne hp]
  have up : ∀ p c, p ≠ 162 → rs s.1 own 8 p = some c → rs S.1 own 8 p = some c := fun p c hp h => by
    obtain ⟨h1, h2⟩ := rs_some.mp h
    exact rs_some.mpr ⟨h1, by rw [nS p hp]; exact h2⟩
  have qS : R8x (rs S.1 own 8) t nc nk C D M b := R8x_fr q ⟨nw, fullV t, lst, rs_some.mpr ⟨g1.2, gS⟩⟩ ⟨m5, e5, up _ _ (by omega) p3⟩ ⟨m6, e6, up _ _ (by omega) p4⟩ ⟨f7, up _ _ (by omega) p5⟩ ⟨f8, up _ _ (by omega) p6⟩ (fun p c h1 _ _ _ _ e => up p c h1 e)
  have key : Rg thr1 (fun X => X = 8) 8 (fun H t => R8 (H 8) t) own s t 1000 7000 (c_530 162 (t.1 612) S) (t_658 t) := by
    by_cases hz : t.1 1 = 0
    · refine Or.inr ⟨0, 12, 1, S, own, ⟨rfl, rfl⟩, ?_, ?_, fS, ⟨nc, nk, C, D, M, b, qS⟩, by rw [hS2]; omega, by rw [hS2]; omega⟩
      · unfold c_530
        rw [xI_o (x := t.1 1) gS rfl rfl, Option.bind_some, may_eq, if_pos hz]; rfl
      · unfold t_658
        rw [hz, t_563_0, Option.bind_some, if_pos rfl]
    · have h1 : t.1 1 = 1 := r.nn.v1.resolve_left hz
      have hli := li_give (t := ptI (ptI t 0 0) 613 (fullV t)) fS.2.2.2.2 (by rw [hS2]; exact r.hs) (show R8x (rs S.1 own 8) (ptI (ptI t 0 0) 613 (fullV t)) nc nk C D M b from qS) gS hz (by rw [hS2]; omega)
      obtain ⟨x, s1, t1, own1, a1, a2, a3, a4, a5, a6, a7, a8⟩ := hli
      rw [hS2] at a7 a8
      refine Or.inl ⟨x, s1, t1, own1, a1, ?_, a3, fun Z h8 h9 => (a4 Z h8).trans ((rt_ptI (by show 8 ≠ Z; exact fun w => h8 w.symm)).trans (rt_ptI (by show 99 ≠ Z; exact fun w => h9 w.symm))), fS.trans a5, a6, a7, a8⟩
      unfold t_658
      rw [h1, t_563_1, Option.bind_some, if_neg (show ¬ (1 : Int32) = 0 by decide), hd.2 (ptI t 0 0) (rt_ptI (by decide)) rfl, Option.bind_some, hb, Option.bind_some, if_pos (show fullV t = 0 ∨ fullV t = 1 from hv), Option.bind_some, a2]
      rfl
  unfold c_468
  rw [show xR s [(45, 7)] 100 = some (some 162) from xR_o r.c100 rfl rfl, Option.bind_some, r.m7.1, Option.bind_some, if_pos r.m7.2, hd.1, Option.bind_some, hb, Option.bind_some, Option.bind_some, if_pos (fits_01 hv), hp, Option.bind_some, xN_o ((nS 100 (by omega)).trans r.c100) rfl rfl, Option.bind_some, xN_o ((nS 100 (by omega)).trans r.c100) rfl rfl, Option.bind_some, xI_o ((nS 101 (by omega)).trans r.c101.1) rfl rfl, Option.bind_some, if_pos (isK_t gS rfl), bindId, ← r.nn.n8]
  exact key.hs r (by omega) RY8 (kp_658 KpN.rf) (fun z => absurd z (by decide)) (by decide) (by decide)
end
