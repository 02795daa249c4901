/-! the law's walk: what a case comes to -/
def cLs : List (List lI) := [cd_L_0, cd_L_1, cd_L_2, cd_L_3, cd_L_4, cd_L_5, cd_L_6, cd_L_7, cd_L_8, cd_L_9, cd_L_10, cd_L_11, cd_L_12, cd_L_13, cd_L_14, cd_L_15, cd_L_16, cd_L_17, cd_L_18, cd_L_19, cd_L_20, cd_L_21, cd_L_22, cd_L_23, cd_L_24, cd_L_25, cd_L_26, cd_L_27, cd_L_28, cd_L_29, cd_L_30, cd_L_31, cd_L_32, cd_L_33, cd_L_34, cd_L_35, cd_L_36, cd_L_37, cd_L_38, cd_L_39, cd_L_40, cd_L_41, cd_L_42, cd_L_43, cd_L_44, cd_L_45, cd_L_46, cd_L_47, cd_L_48, cd_L_49, cd_L_50, cd_L_51, cd_L_52, cd_L_53, cd_L_54, cd_L_55, cd_L_56, cd_L_57, cd_L_58, cd_L_59, cd_L_60, cd_L_61, cd_L_62, cd_L_63, cd_L_64, cd_L_65, cd_L_66, cd_L_67, cd_L_68, cd_L_69, cd_L_70, cd_L_71, cd_L_72, cd_L_73, cd_L_74, cd_L_75, cd_L_76, cd_L_77, cd_L_78, cd_L_79, cd_L_80, cd_L_81, cd_L_82, cd_L_83, cd_L_84, cd_L_85, cd_L_86, cd_L_87, cd_L_88, cd_L_89, cd_L_90, cd_L_91, cd_L_92]
theorem cLa (n : Nat) : cd_L[n]? = (cLs[n / 40]?).bind (fun l => l[n % 40]?) := by
  have fl : ∀ (ls : List (List lI)) (z : List lI), (∀ l ∈ ls, l.length = 40) → z.length ≤ 40 → ∀ n, ((ls ++ [z]).flatten)[n]? = ((ls ++ [z])[n / 40]?).bind (fun l => l[n % 40]?) := by
    intro ls z
    induction ls with
    | nil =>
      intro _ hz n
      simp only [List.nil_append, List.flatten_cons, List.flatten_nil, List.append_nil]
      by_cases h : n < 40
      · rw [Nat.div_eq_of_lt h, Nat.mod_eq_of_lt h]; rfl
      · have : n / 40 ≠ 0 := by omega
        obtain ⟨m, hm⟩ : ∃ m, n / 40 = m + 1 := ⟨n / 40 - 1, by omega⟩
        rw [hm, List.getElem?_eq_none (by omega)]; rfl
    | cons a r ih =>
      intro ha hz n
      have h40 := ha a List.mem_cons_self
      have ih := ih (fun l hl => ha l (List.mem_cons_of_mem _ hl)) hz
      rw [List.cons_append, List.flatten_cons]
      by_cases h : n < 40
      · rw [List.getElem?_append_left (by omega), Nat.div_eq_of_lt h, Nat.mod_eq_of_lt h]; rfl
      · rw [List.getElem?_append_right (by omega), ih, h40, show n / 40 = (n - 40) / 40 + 1 by omega, show n % 40 = (n - 40) % 40 by omega, List.getElem?_cons_succ]
  have e1 : cd_L = (cLs.dropLast ++ [cd_L_92]).flatten := by
    show cd_L = _
    simp only [cLs, List.dropLast, List.cons_append, List.nil_append, List.flatten_cons, List.flatten_nil, List.append_nil]
    rfl
  have e2 : cLs = cLs.dropLast ++ [cd_L_92] := rfl
  rw [e1, e2]
  refine fl _ _ ?_ (by decide +kernel) n
  have : (cLs.dropLast).all (fun l => l.length == 40) = true := by decide +kernel
  intro l hl
  exact beq_iff_eq.mp (List.all_eq_true.mp this l hl)
theorem cLg (n : Nat) {x : lI} (h : (cLs[n / 40]?).bind (fun l => l[n % 40]?) = some x) : cd_L[n]? = some x := (cLa n).trans h
/-- the locals at the loop's head -/
def LL (ad : List Nat) (b h1 o1 i : Nat) : lL := [(0, .ref b), (1, .ref h1), (2, .ref (adr ad 0)), (3, .ref o1), (4, .int (Int32.ofNat i))]
theorem LLs {ad : List Nat} {b h1 o1 i : Nat} {L : lL} (e0 : lGet L 0 = some (.ref b)) (e1 : lGet L 1 = some (.ref h1)) (e2 : lGet L 2 = some (.ref (adr ad 0))) (e3 : lGet L 3 = some (.ref o1)) (e4 : lGet L 4 = some (.int (Int32.ofNat i))) : lSub L (LL ad b h1 o1 i) := lSb e0 (lSb e1 (lSb e2 (lSb e3 (lSb e4 lSb0))))
/-- what holds there -/
def LV (E : lE) (ad : List Nat) (b n : Nat) (f : Nat → Int32) (h1 o1 o : Nat) (y : lY) (s : CS) (A : lMem) (own : Nat → Nat) (t : TS) (K N : Nat) : Prop := LI E ad b n f y s A t ∧ RL s own t K N o ∧ relV y.1 A (.ref 100) (.ref h1) ∧ relV y.1 A (.ref o) (.ref o1)
/-- how the law goes on after a case -/
def LKP (R : lAR) (E : lE) (b n : Nat) (f : Nat → Int32) (h1 o1 o i : Nat) (s : CS) (t : TS) (K N cn cm : Nat) (P : TS → Prop) (Z : lZ) : Prop := ∀ (ad' : List Nat) (y' : lY) (S : CS) (A' : lMem) (own' : Nat → Nat) (t' : TS) (K' N' : Nat), tOk ad' → LV E ad' b n f h1 o1 o y' S A' own' t' K' N' → K' ≤ K + 1 → S.2.2.1 + PHc S t' N' ≤ s.2.2.1 + PHc s t N + cn → S.2.2.2 + PHs S t' N' ≤ s.2.2.2 + PHs s t N + cm → P t' → lQ R E 1625 cd_L 3716 (LL ad' b h1 o1 i) [] (cp y' S A') Z
def LK (R : lAR) (E : lE) (b n : Nat) (f : Nat → Int32) (h1 o1 o i : Nat) (s : CS) (_own : Nat → Nat) (t : TS) (K N cn cm : Nat) (Z : lZ) : Prop := LKP R E b n f h1 o1 o i s t K N cn cm (fun t' => t'.1 1 = t.1 1) Z
set_option maxRecDepth 10000 in
theorem swp_fit {ad ad2 : List Nat} {t : TS} {B : lMem} (hn : tOk ad) (h : ad2 = ad ∨ ad2 = swp ad) : tOk ad2 ∧ SDa ad ad2 ∧ adr ad2 0 = adr ad 0 ∧ tp ad2 t B = tp ad2 t B := by
  rcases h with rfl | rfl
  · exact ⟨hn, SDa.rf, rfl, rfl⟩
  · exact ⟨swp_ok hn, SDa.swp hn, adr_swp (by decide), rfl⟩
theorem LV_out {E : lE} {y : lY} {S : CS} {A : lMem} {o o1 : Nat} {v : Int64} (hW : cW E y S A) (f3 : relV y.1 A (.ref o) (.ref o1)) (hv : S.1 o = some (true, true, 1, [.long v])) : gA (cp y S A) [1] o1 0 (.long v) := by
  have e : aV S [1] o 0 = some (.long v) := by
    unfold aV aCell
    rw [hv]
    rfl
  obtain ⟨q, e1, e2, _⟩ := hW.gA f3 e
  cases e1
  exact e2
theorem lg_cmp_rf (x : Int64) : lg_cmp x x = 0 := by
  unfold lg_cmp
  rw [if_neg (by intro z; exact absurd z (Int64.lt_irrefl)), if_pos rfl]
theorem uT_some {o : Option TS} {x : Unit} {t : TS} (h : uT o = some (x, t)) : o = some t := by
  unfold uT at h
  cases o with
  | none => cases h
  | some z => cases h; rfl
