/-! permits: names are told apart -/
section
variable {s S : CS} {t T U V : TS} {x : List Nat} {rd rl k k' nr a : Nat} {dp mc : Int32}
noncomputable def nmLp (a : Nat) (mc : Int32) (rd : Nat) : CS × Int32 → Option (Sum (CS × Int32) (Sum (CS) (Sum (CS) (Nat × CS)))) := fun p17 => Option.bind (α := Int32) (alHas p17.1 a p17.2) (fun x8 => (if x8 = 0 then some (.inr (.inl p17.1)) else Option.bind (α := Value) (alNext p17.1 a mc p17.2) (fun e9 => Option.bind (α := Nat) (toN p17.1 [70] e9) (fun a10 => Option.bind (α := Nat) (xN p17.1 [(70, 0)] a10) (fun a11 => (if isK p17.1 [68] rd = true then Option.bind (α := Int32) (c_938 rd a11 p17.1) (fun x12 => Option.bind (α := Int32) ((if x12 = 0 then some 1 else some 0)) (fun v33 => (if isK p17.1 [68] rd = true then Option.bind (α := Sum (CS) (Nat × CS)) (c_935 rd v33 p17.1) (Sum.elim (fun x13 => some (.inl (x13, p17.2 + 1))) (fun q14 => some (.inr (.inr (.inr (q14.1, q14.2)))))) else none))) else none))))))
def nmN (l : List Nat) : Nat := l.foldl (fun v c => 256 * v + c) 0
theorem nmN_app (l : List Nat) (c : Nat) : nmN (l ++ [c]) = 256 * nmN l + c := by unfold nmN; rw [List.foldl_append]; rfl
theorem nmN_lt : ∀ {n : Nat} {l : List Nat}, l.length = n → (∀ d ∈ l, d < 256) → nmN l < 256 ^ n := by
  intro n
  induction n with
  | zero => intro l h _; rw [List.length_eq_zero_iff.mp h]; decide
  | succ n ih =>
    intro l h hd
    obtain ⟨l', c, rfl⟩ : ∃ l' c, l = l' ++ [c] := ⟨l.dropLast, l.getLast (by intro z; rw [z] at h; simp at h), (List.dropLast_concat_getLast _).symm⟩
    rw [nmN_app, Nat.pow_succ]
    have h1 := ih (l := l') (by rw [List.length_append] at h; simpa using h) (fun d hd' => hd d (List.mem_append_left _ hd'))
    have h2 := hd c (List.mem_append_right _ (List.mem_singleton.mpr rfl))
    omega
theorem nm_val : ∀ {n : Nat} {l : List Nat}, l.length = n → n ≤ 8 → (∀ d ∈ l, d < 256) → (nmL l).toBitVec.toNat = nmN l := by
  intro n
  induction n with
  | zero => intro l h _ _; rw [List.length_eq_zero_iff.mp h]; rfl
  | succ n ih =>
    intro l h n8 hd
    obtain ⟨l', c, rfl⟩ : ∃ l' c, l = l' ++ [c] := ⟨l.dropLast, l.getLast (by intro z; rw [z] at h; simp at h), (List.dropLast_concat_getLast _).symm⟩
    have hl : l'.length = n := by rw [List.length_append] at h; simpa using h
    have h1 := ih hl (by omega) (fun d hd' => hd d (List.mem_append_left _ hd'))
    have h2 := hd c (List.mem_append_right _ (List.mem_singleton.mpr rfl))
    have h3 := nmN_lt hl (fun d hd' => hd d (List.mem_append_left _ hd'))
    have p7 : 256 ^ n ≤ 256 ^ 7 := Nat.pow_le_pow_right (by decide) (by omega)
    rw [nmN_app]
    have e : nmL (l' ++ [c]) = nmS (nmL l') c := by unfold nmL; rw [List.foldl_append]; rfl
    rw [e]
    unfold nmS
    rw [l_32 (by omega), Int64.toBitVec_or, BitVec.toNat_or]
    have p7' : (256 : Nat) ^ 7 = 72057594037927936 := by decide
    have hm : nmN l' * 2 ^ 8 < 2 ^ 64 := by omega
    have e1 : ((nmL l') <<< ((8 : Int32).toInt64 &&& 63)).toBitVec.toNat = 256 * nmN l' := by
      rw [show ((8 : Int32).toInt64 &&& 63) = (8 : Int64) by decide, Int64.toBitVec_shiftLeft, show (Int64.toBitVec 8).smod 64 = 8#64 by decide, BitVec.shiftLeft_eq', BitVec.toNat_shiftLeft, h1, show (8#64).toNat = 8 from rfl, Nat.shiftLeft_eq, Nat.mod_eq_of_lt hm]
      omega
    have e2 : (Int64.ofNat c).toBitVec.toNat = c := by
      show (BitVec.ofNat 64 c).toNat = c
      rw [BitVec.toNat_ofNat]
      exact Nat.mod_eq_of_lt (by omega)
    rw [e1, e2]
    have := Nat.shiftLeft_add_eq_or_of_lt (b := c) (i := 8) h2 (nmN l')
    rw [Nat.shiftLeft_eq] at this
    rw [show 256 * nmN l' = nmN l' * 2 ^ 8 by omega, ← this]
theorem nm_inj0 : ∀ {n : Nat} {a b : List Nat}, a.length = n → (∀ d ∈ a, 0 < d ∧ d < 256) → (∀ d ∈ b, 0 < d ∧ d < 256) → nmN a = nmN b → a = b := by
  intro n
  induction n with
  | zero =>
    intro a b h _ hb e
    rw [List.length_eq_zero_iff.mp h] at e ⊢
    cases hb' : b with
    | nil => rfl
    | cons c r =>
      obtain ⟨b', d, e2⟩ : ∃ l' c, b = l' ++ [c] := ⟨b.dropLast, b.getLast (by intro z; rw [z] at hb'; cases hb'), (List.dropLast_concat_getLast _).symm⟩
      rw [e2, nmN_app] at e
      have := hb d (by rw [e2]; exact List.mem_append_right _ (List.mem_singleton.mpr rfl))
      have e3 : nmN [] = 0 := rfl
      omega
  | succ n ih =>
    intro a b h ha hb e
    obtain ⟨a', c, rfl⟩ : ∃ l' c, a = l' ++ [c] := ⟨a.dropLast, a.getLast (by intro z; rw [z] at h; simp at h), (List.dropLast_concat_getLast _).symm⟩
    have hc := ha c (List.mem_append_right _ (List.mem_singleton.mpr rfl))
    cases hb' : b with
    | nil =>
      rw [hb', nmN_app] at e
      have e3 : nmN [] = 0 := rfl
      omega
    | cons d0 r =>
      obtain ⟨b', d, e2⟩ : ∃ l' c, b = l' ++ [c] := ⟨b.dropLast, b.getLast (by intro z; rw [z] at hb'; cases hb'), (List.dropLast_concat_getLast _).symm⟩
      rw [← hb', e2]
      rw [e2, nmN_app, nmN_app] at e
      have hd := hb d (by rw [e2]; exact List.mem_append_right _ (List.mem_singleton.mpr rfl))
      have := ih (a := a') (b := b') (by rw [List.length_append] at h; simpa using h) (fun q hq => ha q (List.mem_append_left _ hq)) (fun q hq => hb q (by rw [e2]; exact List.mem_append_left _ hq)) (by omega)
      rw [this, show c = d by omega]
/-- a name -/
def nmOk (l : List Nat) : Prop := l.length ≤ 8 ∧ ∀ d ∈ l, ltB d = true
theorem nm_inj {a b : List Nat} (ha : nmOk a) (hb : nmOk b) : nmL a = nmL b ↔ a = b := by
  have c : ∀ {l : List Nat}, nmOk l → ∀ d ∈ l, 0 < d ∧ d < 256 := fun {l} h d hd => by
    have := of_decide_eq_true (h.2 d hd); omega
  refine ⟨fun e => ?_, fun e => by rw [e]⟩
  refine nm_inj0 rfl (c ha) (c hb) ?_
  rw [← nm_val rfl ha.1 (fun d hd => (c ha d hd).2), ← nm_val rfl hb.1 (fun d hd => (c hb d hd).2), e]
theorem nmOk_w (R : RdC s rd rl x k dp) (z : tkK (tkW x k) = 2) : nmOk (tkW x k) := by
  obtain ⟨y, ey⟩ := tkW_y R
  obtain ⟨_, _, _, _, ok, _⟩ := R
  rw [ey] at ok z ⊢
  rcases wd_cases ok with e | ⟨d, r, e, hd, hl, h3, h4⟩ | ⟨d, r, e, hd, hl, h3, h4⟩ | ⟨d, e, hd, hl, hs⟩ | ⟨d, e, hd, hl, h6⟩
  · rw [e] at z; exact absurd z (by show ¬ 0 = 2; decide)
  · rw [e, tkK_c, if_pos hd] at z; exact absurd z (by decide)
  · exact ⟨h4, h3⟩
  · have := sgns_lt hs
    rw [e, tkK_c, if_neg hd, if_neg hl, if_pos rfl] at z; omega
  · rw [e, tkK_c, if_neg hd, if_neg hl, if_neg (by simp)] at z; omega
/-- the names so far: the reference -/
theorem t_new {NM : List (List Nat)} {w : List Nat} (h232 : T.1 232 = Int32.ofNat NM.length) (hl : NM.length ≤ 12) (h79 : ∀ j (h : j < NM.length), T.2.2.2 79 (12 + j) = nmL NM[j]) (ok : ∀ l ∈ NM, nmOk l) (hw : nmOk w) : t_740 (nmL w) T = some (if w ∈ NM then 0 else 1) := by
  unfold t_740
  have key : wh (S := Int32 × Int32) (X := Int32) (fun p4 => (if p4.2 < (T.1 232) then Option.bind ((if p4.1 = 0 then some 0 else Option.bind (rdL T 79 24 (12 + p4.2)) (fun x1 => (if (lg_cmp x1 (nmL w)) = 0 then some 0 else some 1)))) (fun v22 => some (.inl (v22, p4.2 + 1))) else some (.inr p4.1))) (1, 0) = some (if w ∈ NM then 0 else 1) := by
    refine wh_st (n := NM.length) (f := fun p4 : Int32 × Int32 => (if p4.2 < (T.1 232) then Option.bind ((if p4.1 = 0 then some 0 else Option.bind (rdL T 79 24 (12 + p4.2)) (fun x1 => (if (lg_cmp x1 (nmL w)) = 0 then some 0 else some 1)))) (fun v22 => some (.inl (v22, p4.2 + 1))) else some (.inr p4.1))) (fun j => ((if w ∈ NM.take j then 0 else 1), Int32.ofNat j)) (fun j hj => ?_) ?_
    · dsimp only
      rw [h232, if_pos ((i_lt (by omega) (by omega)).mpr hj), show (12 : Int32) + Int32.ofNat j = Int32.ofNat (12 + j) from i_add 12 j, rdL_n (by omega) (by decide), Option.bind_some, h79 j hj, i_suc, List.take_succ_eq_append_getElem hj]
      have iff := nm_inj (ok _ (List.getElem_mem hj)) hw
      by_cases z : w ∈ NM.take j
      · rw [if_pos z, if_pos rfl, Option.bind_some, if_pos (List.mem_append_left _ z)]
      · rw [if_neg z, if_neg (by decide)]
        by_cases z2 : NM[j] = w
        · rw [if_pos ((lc_0 _ _).mpr (iff.mpr z2)), Option.bind_some, if_pos (List.mem_append_right _ (by rw [z2]; exact List.mem_singleton.mpr rfl))]
        · rw [if_neg (fun q => z2 (iff.mp ((lc_0 _ _).mp q))), Option.bind_some, if_neg (fun q => by
            rcases List.mem_append.mp q with q | q
            · exact z q
            · exact z2 (List.mem_singleton.mp q).symm)]
    · dsimp only
      rw [h232, if_neg (fun q => Nat.lt_irrefl _ ((i_lt (by omega) (by omega)).mp q)), List.take_length]
  rw [key, Option.bind_some, if_pos (by by_cases z : w ∈ NM <;> simp [z])]
/-- the names so far: the component -/
theorem c_new {NM : List (List Nat)} {RU NR : List Nat} (R : RdC S rd rl x k dp) (hl : S.1 a = some (true, false, 1013, .int mc :: RU.map Value.ref)) (h1 : RU.length = NM.length) (h2 : NR.length = NM.length) (h12 : NM.length ≤ 12) (hr : ∀ j (h : j < NM.length), (∃ w fs, S.1 RU[j] = some (w, false, 70, fs) ∧ fs[0]? = some (.ref NR[j])) ∧ ∃ fl, S.1 NR[j] = some (fl, false, 1000, txV NM[j])) (ok : ∀ l ∈ NM, nmOk l) : wh (nmLp a mc rd) (S, 0) = some (if tkW x k ∈ NM then .inr (.inr (S.2.1, exWr S (Int32.ofNat (tkS x k).1))) else .inl S) := by
  have st : ∀ j (h : j < NM.length), nmLp a mc rd (S, Int32.ofNat j) = if tkW x k = NM[j] then some (.inr (.inr (.inr (S.2.1, exWr S (Int32.ofNat (tkS x k).1))))) else some (.inl (S, Int32.ofNat (j + 1))) := by
    intro j hj
    obtain ⟨⟨w, fs, hr1, hr2⟩, fl, hr3⟩ := hr j hj
    have c1000 : ∀ c ∈ NM[j], c < 1000 := fun c hc => by
      have := of_decide_eq_true ((ok _ (List.getElem_mem hj)).2 c hc)
      omega
    unfold nmLp
    rw [alHas_l hl (by omega) (by rw [List.length_map]; omega), Option.bind_some, if_neg (by rw [if_neg (by rw [List.length_map]; omega)]; decide), alNext_l (v := .ref RU[j]) hl (by rw [List.getElem?_map, List.getElem?_eq_getElem (by omega)]; rfl) (by omega), Option.bind_some, toN_o hr1 rfl, Option.bind_some, xN_o hr1 rfl hr2, Option.bind_some, if_pos (RdC_68 R), c_isS R hr3 c1000, Option.bind_some]
    by_cases z : tkW x k = NM[j]
    · rw [if_pos z, if_neg (by decide), Option.bind_some, if_pos (RdC_68 R), rd_bad R, if_pos rfl, Option.bind_some, Sum.elim_inr, if_pos z]
    · rw [if_neg z, if_pos rfl, Option.bind_some, if_pos (RdC_68 R), rd_bad R, if_neg (by decide), Option.bind_some, Sum.elim_inl, if_neg z, i_suc]
  have key : ∀ m, m ≤ NM.length → wh (nmLp a mc rd) (S, Int32.ofNat (NM.length - m)) = some (if tkW x k ∈ NM.drop (NM.length - m) then .inr (.inr (S.2.1, exWr S (Int32.ofNat (tkS x k).1))) else .inl S) := by
    intro m
    induction m with
    | zero =>
      intro _
      rw [Nat.sub_zero, List.drop_length, if_neg List.not_mem_nil]
      refine wh_inr ?_
      unfold nmLp
      rw [alHas_l hl (by omega) (by rw [List.length_map]; omega), Option.bind_some, if_pos (if_pos (by rw [List.length_map]; omega))]
    | succ m ih =>
      intro hm
      have hj : NM.length - (m + 1) < NM.length := by omega
      have e := st _ hj
      rw [List.drop_eq_getElem_cons hj]
      by_cases z : tkW x k = NM[NM.length - (m + 1)]
      · rw [if_pos z] at e
        rw [wh_inr e, if_pos (by rw [z]; exact List.mem_cons_self)]
      · rw [if_neg z, show NM.length - (m + 1) + 1 = NM.length - m by omega] at e
        rw [wh_inl e, ih (by omega), show NM.length - (m + 1) + 1 = NM.length - m by omega]
        by_cases z2 : tkW x k ∈ NM.drop (NM.length - m)
        · rw [if_pos z2, if_pos (List.mem_cons_of_mem _ z2)]
        · rw [if_neg z2, if_neg (fun q => (List.mem_cons.mp q).elim z z2)]
  have := key NM.length (Nat.le_refl _)
  rw [Nat.sub_self, List.drop_zero] at this
  exact this
end
