/-! permits: the next word, the reference: whole -/
section
variable {t T S : TS} {x : List Nat}
/-- what the next word changes -/
def StF (t T : TS) : Prop := (∀ c, c ≠ 226 → c ≠ 227 → c ≠ 228 → c ≠ 230 → c ≠ 231 → T.1 c = t.1 c) ∧ (∀ c, c ≠ 229 → T.2.1 c = t.2.1 c) ∧ T.2.2 = t.2.2
theorem n01 {v : Int32} (h : v = 0 ∨ v = 1) {A : Type} {x y : A} : (if v = 0 ∨ v = 1 then x else y) = x := if_pos h
theorem t_step {p n : Nat} (X : TxR x t) (hp : p ≤ x.length) (h227 : t.1 227 = Int32.ofNat p) (h230 : t.1 230 = Int32.ofNat n) (hn : n ≤ 120) (h231 : t.1 231 = 0) : ∃ T, t_734 t = some T ∧ StF t T ∧ T.1 226 = Int32.ofNat (skp x p) ∧ ((skp x p = x.length ∧ T.1 227 = Int32.ofNat (skp x p) ∧ T.1 228 = 0 ∧ T.2.1 229 = 0 ∧ T.1 230 = Int32.ofNat n ∧ T.1 231 = 0) ∨ (skp x p < x.length ∧ T.1 230 = Int32.ofNat (n + 1) ∧ ((tkO (tkC (x.drop (skp x p))) = true ∧ n < 120 ∧ T.1 231 = 0 ∧ T.1 227 = Int32.ofNat (skp x p + (tkC (x.drop (skp x p))).length) ∧ T.1 228 = Int32.ofNat (tkK (tkC (x.drop (skp x p)))) ∧ T.2.1 229 = tkV (tkC (x.drop (skp x p)))) ∨ (¬ (tkO (tkC (x.drop (skp x p))) = true ∧ n < 120) ∧ T.1 231 = 1)))) := by
  have xl := X.2.1
  have sl := skp_le hp
  obtain ⟨V, eV, fV, fL, e227⟩ := t_skip X hp h227
  obtain ⟨a, ha⟩ : ∃ a, a = skp x p := ⟨_, rfl⟩
  rw [← ha] at e227 sl ⊢
  unfold t_734
  rw [eV, Option.bind_some, e227, Option.bind_some, Option.bind_some, Option.bind_some]
  obtain ⟨S5, h5⟩ : ∃ S5, S5 = ptL (ptI (ptI V 226 (Int32.ofNat a)) 228 0) 229 0 := ⟨_, rfl⟩
  have XV := TxR_w fV X
  have X5 : TxR x S5 := by rw [h5]; exact XV
  have e226 : S5.1 226 = Int32.ofNat a := by rw [h5]; rfl
  have e228 : S5.1 228 = 0 := by rw [h5]; rfl
  have g227 : S5.1 227 = Int32.ofNat a := by rw [h5]; exact e227
  have g230 : S5.1 230 = Int32.ofNat n := by rw [h5]; exact (fV.1 230 (by decide)).trans h230
  have g231 : S5.1 231 = 0 := by rw [h5]; exact (fV.1 231 (by decide)).trans h231
  have g229 : S5.2.1 229 = 0 := by rw [h5]; rfl
  have F5 : StF t S5 := by
    rw [h5]
    exact ⟨fun c c1 c2 c3 c4 c5 => (if_neg c3).trans ((if_neg c1).trans (fV.1 c c2)), fun c c1 => (if_neg c1).trans (fV.2.1 c c1), fV.2.2⟩
  rw [← h5]
  clear h5
  rw [e226, X5.1]
  by_cases aE : a = x.length
  · rw [if_pos (by rw [aE])]
    exact ⟨S5, rfl, F5, e226, Or.inl ⟨aE, g227, e228, g229, g230, g231⟩⟩
  have al : a < x.length := by omega
  rw [if_neg (fun w => aE ((i_inj (by omega) (by omega)).mp w)), rdI_n (by omega) (by decide), Option.bind_some, X5.2.2.1 a al, Option.bind_some]
  obtain ⟨c, hc⟩ : ∃ c, c = x[a] := ⟨_, rfl⟩
  have c126 : 32 ≤ c ∧ c ≤ 126 := by rw [hc]; exact X5.2.2.2 _ (List.getElem_mem al)
  have dr : x.drop a = c :: x.drop (a + 1) := by rw [hc]; exact List.drop_eq_getElem_cons al
  rw [← hc]
  obtain ⟨S7, h7⟩ : ∃ S7, S7 = ptI S5 230 (S5.1 230 + 1) := ⟨_, rfl⟩
  have F7 : StF t S7 := by
    rw [h7]
    exact ⟨fun q c1 c2 c3 c4 c5 => (if_neg c4).trans (F5.1 q c1 c2 c3 c4 c5), F5.2.1, F5.2.2⟩
  have X7 : TxR x S7 := by rw [h7]; exact X5
  have k226 : S7.1 226 = Int32.ofNat a := by rw [h7]; exact e226
  have k227 : S7.1 227 = Int32.ofNat a := by rw [h7]; exact g227
  have k230 : S7.1 230 = Int32.ofNat (n + 1) := by rw [h7]; show S5.1 230 + 1 = _; rw [g230, i_suc]
  have k231 : S7.1 231 = 0 := by rw [h7]; exact g231
  have k229 : S7.2.1 229 = 0 := by rw [h7]; exact g229
  rw [← h7]
  clear h7
  rw [t_735g (by omega), Option.bind_some]
  obtain ⟨w, hw⟩ : ∃ w, w = tkC (x.drop a) := ⟨_, rfl⟩
  rw [← hw]
  -- the end
  have fin : ∀ {U : TS} {M : Option TS}, M = some U → StF t U → U.1 226 = Int32.ofNat a → U.1 230 = Int32.ofNat (n + 1) → ((tkO w = true ∧ U.1 231 = 0 ∧ U.1 227 = Int32.ofNat (a + w.length) ∧ U.1 228 = Int32.ofNat (tkK w) ∧ U.2.1 229 = tkV w) ∨ (¬ tkO w = true ∧ U.1 231 = 1)) → ∃ T, Option.bind M (fun v192 => Option.bind ((if (v192.1 231) = 0 then (if 120 < (v192.1 230) then some (1 : Int32) else some 0) else some 1)) (fun v203 => (if v203 = 0 ∨ v203 = 1 then Option.bind (some (ptI v192 231 v203)) (fun s29 => some s29) else none))) = some T ∧ StF t T ∧ T.1 226 = Int32.ofNat a ∧ ((a = x.length ∧ T.1 227 = Int32.ofNat a ∧ T.1 228 = 0 ∧ T.2.1 229 = 0 ∧ T.1 230 = Int32.ofNat n ∧ T.1 231 = 0) ∨ (a < x.length ∧ T.1 230 = Int32.ofNat (n + 1) ∧ ((tkO w = true ∧ n < 120 ∧ T.1 231 = 0 ∧ T.1 227 = Int32.ofNat (a + w.length) ∧ T.1 228 = Int32.ofNat (tkK w) ∧ T.2.1 229 = tkV w) ∨ (¬ (tkO w = true ∧ n < 120) ∧ T.1 231 = 1)))) := by
    intro U M eM F u226 u230 h
    rw [eM, Option.bind_some]
    have F' : ∀ v, StF t (ptI U 231 v) := fun v => ⟨fun q c1 c2 c3 c4 c5 => (if_neg c5).trans (F.1 q c1 c2 c3 c4 c5), F.2.1, F.2.2⟩
    rcases h with ⟨ok, u231, u227, u228, u229⟩ | ⟨ok, u231⟩
    · rw [u231, if_pos rfl, u230]
      by_cases n120 : n < 120
      · rw [if_neg (show ¬ (120 : Int32) < Int32.ofNat (n + 1) from fun z => by have := (i_lt (j := 120) (by decide) (by omega)).mp z; omega), Option.bind_some, n01 (Or.inl rfl), Option.bind_some]
        exact ⟨_, rfl, F' 0, u226, Or.inr ⟨al, u230, Or.inl ⟨ok, n120, rfl, u227, u228, u229⟩⟩⟩
      · rw [if_pos (show (120 : Int32) < Int32.ofNat (n + 1) from (i_lt (j := 120) (by decide) (by omega)).mpr (by omega)), Option.bind_some, n01 (Or.inr rfl), Option.bind_some]
        exact ⟨_, rfl, F' 1, u226, Or.inr ⟨al, u230, Or.inr ⟨fun z => n120 z.2, rfl⟩⟩⟩
    · rw [u231, if_neg (by decide), Option.bind_some, n01 (Or.inr rfl), Option.bind_some]
      exact ⟨_, rfl, F' 1, u226, Or.inr ⟨al, u230, Or.inr ⟨fun z => ok z.1, rfl⟩⟩⟩
  by_cases d : dgB c = true
  · rw [if_pos d, if_neg (by decide), Option.bind_some]
    obtain ⟨U, eU, fU, b1, b2⟩ := t_digs (S := ptI S7 228 1) (a := a) X7 (by omega) k226 k227 k229
    have wd : w = (x.drop a).takeWhile dgB := by rw [hw, dr, tkC_c, if_pos d]
    rw [← wd] at b1 b2
    obtain ⟨r, hr⟩ : ∃ r, w = c :: r := by rw [hw, dr]; exact tkC_ne
    have wl : w.length ≤ 800 := by
      have := tkC_le (x.drop a)
      rw [← hw, List.length_drop] at this; omega
    have u226 : U.1 226 = Int32.ofNat a := (fU.1 226 (by decide)).trans k226
    have FU : ∀ v, StF t (ptI U 231 v) := fun v => ⟨fun q c1 c2 c3 c4 c5 => (if_neg c5).trans ((fU.1 q c2).trans ((if_neg c3).trans (F7.1 q c1 c2 c3 c4 c5))), fun q c1 => (fU.2.1 q c1).trans (F7.2.1 q c1), fU.2.2.trans F7.2.2⟩
    have ko : tkO w = decide (w.length ≤ 9) := by rw [hr, tkO_c, if_pos d, List.length_cons]; exact decide_eq_decide.mpr (by omega)
    have u228 : U.1 228 = 1 := fU.1 228 (by decide)
    have kk : tkK w = 1 := by rw [hr, tkK_c, if_pos d]
    rw [eU, Option.bind_some, b1, u226, i_sub (by omega), show a + w.length - a = w.length by omega]
    by_cases l9 : w.length ≤ 9
    · refine fin (U := ptI U 231 0) ?_ (FU 0) u226 ((fU.1 230 (by decide)).trans k230) (Or.inl ⟨by rw [ko]; exact decide_eq_true l9, rfl, b1, by rw [kk]; exact u228, ?_⟩)
      · rw [if_neg (show ¬ (9 : Int32) < Int32.ofNat w.length from fun z => by have := (i_lt (j := 9) (by decide) (by omega)).mp z; omega), Option.bind_some, n01 (Or.inl rfl), Option.bind_some]
      · show U.2.1 229 = _
        rw [b2 l9, hr, tkV_c, if_pos d]
    · refine fin (U := ptI U 231 1) ?_ (FU 1) u226 ((fU.1 230 (by decide)).trans k230) (Or.inr ⟨by rw [ko]; exact fun z => l9 (of_decide_eq_true z), rfl⟩)
      rw [if_pos (show (9 : Int32) < Int32.ofNat w.length from (i_lt (j := 9) (by decide) (by omega)).mpr (by omega)), Option.bind_some, n01 (Or.inr rfl), Option.bind_some]
  rw [if_neg d, if_pos rfl, t_737g (by omega), Option.bind_some]
  by_cases l : ltB c = true
  · rw [if_pos l, if_neg (by decide), Option.bind_some]
    obtain ⟨U, eU, fU, b1, b2⟩ := t_lets (S := ptI S7 228 2) (a := a) X7 (by omega) k227 k229
    have wd : w = (x.drop a).takeWhile ltB := by rw [hw, dr, tkC_c, if_neg d, if_pos l]
    rw [← wd] at b1 b2
    obtain ⟨r, hr⟩ : ∃ r, w = c :: r := by rw [hw, dr]; exact tkC_ne
    have wl : w.length ≤ 800 := by
      have := tkC_le (x.drop a)
      rw [← hw, List.length_drop] at this; omega
    have u226 : U.1 226 = Int32.ofNat a := (fU.1 226 (by decide)).trans k226
    have FU : ∀ v, StF t (ptI U 231 v) := fun v => ⟨fun q c1 c2 c3 c4 c5 => (if_neg c5).trans ((fU.1 q c2).trans ((if_neg c3).trans (F7.1 q c1 c2 c3 c4 c5))), fun q c1 => (fU.2.1 q c1).trans (F7.2.1 q c1), fU.2.2.trans F7.2.2⟩
    have ko : tkO w = decide (w.length ≤ 8) := by rw [hr, tkO_c, if_neg d, if_pos l, List.length_cons]; exact decide_eq_decide.mpr (by omega)
    have u228 : U.1 228 = 2 := fU.1 228 (by decide)
    have kk : tkK w = 2 := by rw [hr, tkK_c, if_neg d, if_pos l]
    rw [eU, Option.bind_some, b1, u226, i_sub (by omega), show a + w.length - a = w.length by omega]
    by_cases l9 : w.length ≤ 8
    · refine fin (U := ptI U 231 0) ?_ (FU 0) u226 ((fU.1 230 (by decide)).trans k230) (Or.inl ⟨by rw [ko]; exact decide_eq_true l9, rfl, b1, by rw [kk]; exact u228, ?_⟩)
      · rw [if_neg (show ¬ (8 : Int32) < Int32.ofNat w.length from fun z => by have := (i_lt (j := 8) (by decide) (by omega)).mp z; omega), Option.bind_some, n01 (Or.inl rfl), Option.bind_some]
      · show U.2.1 229 = _
        rw [b2, hr, tkV_c, if_neg d, if_pos l]
    · refine fin (U := ptI U 231 1) ?_ (FU 1) u226 ((fU.1 230 (by decide)).trans k230) (Or.inr ⟨by rw [ko]; exact fun z => l9 (of_decide_eq_true z), rfl⟩)
      rw [if_pos (show (8 : Int32) < Int32.ofNat w.length from (i_lt (j := 8) (by decide) (by omega)).mpr (by omega)), Option.bind_some, n01 (Or.inr rfl), Option.bind_some]
  rw [if_neg l, if_pos rfl]
  have a1 : (S7.1 226) + 1 = Int32.ofNat (a + 1) := by rw [k226, i_suc]
  have g126 := gd_126 X7 (a + 1)
  have n60 : Int32.ofNat c = 60 ↔ c = 60 := i_inj (j := c) (k := 60) (by omega) (by decide)
  have n62 : Int32.ofNat c = 62 ↔ c = 62 := i_inj (j := c) (k := 62) (by omega) (by decide)
  have n61 : Int32.ofNat (x.getD (a + 1) 32) = 61 ↔ x.getD (a + 1) 32 = 61 := i_inj (j := x.getD (a + 1) 32) (k := 61) (by omega) (by decide)
  have hd : (x.drop (a + 1)).head? = some 61 ↔ x.getD (a + 1) 32 = 61 := by
    rw [List.head?_drop, List.getD_eq_getElem?_getD]
    cases e : x[a + 1]? with
    | none => simp
    | some v => simp
  have two : Option.bind ((if Int32.ofNat c = 60 then some (.inl ()) else (if Int32.ofNat c = 62 then some (.inl ()) else some (.inr (0 : Int32))) : Option (Sum Unit Int32))) (Sum.elim (fun v153 => Option.bind (t_736 ((S7.1 226) + 1) S7) (fun x10 => (if x10 = 61 then some 1 else some 0))) (fun z => some z)) = some (if (c = 60 ∨ c = 62) ∧ (x.drop (a + 1)).head? = some 61 then 1 else 0) := by
    rw [a1, t_736g X7 (by omega)]
    by_cases z6 : c = 60 ∨ c = 62
    · have e1 : (if Int32.ofNat c = 60 then some (.inl ()) else (if Int32.ofNat c = 62 then some (.inl ()) else some (.inr (0 : Int32))) : Option (Sum Unit Int32)) = some (.inl ()) := by
        rcases z6 with z | z
        · rw [if_pos (n60.mpr z)]
        · rw [if_neg (fun q => by have := n60.mp q; omega), if_pos (n62.mpr z)]
      rw [e1, Option.bind_some, Sum.elim_inl, Option.bind_some]
      by_cases z61 : x.getD (a + 1) 32 = 61
      · rw [if_pos (n61.mpr z61), if_pos ⟨z6, hd.mpr z61⟩]
      · rw [if_neg (fun q => z61 (n61.mp q)), if_neg (fun q => z61 (hd.mp q.2))]
    · rw [if_neg (fun q => z6 (Or.inl (n60.mp q))), if_neg (fun q => z6 (Or.inr (n62.mp q))), Option.bind_some, Sum.elim_inr, if_neg (fun q => z6 q.1)]
  rw [two, Option.bind_some]
  have sg := fun (V : TS) => t_738g (T := V) ⟨c, by omega⟩
  dsimp only at sg
  by_cases z : (c = 60 ∨ c = 62) ∧ (x.drop (a + 1)).head? = some 61
  · have wd : w = [c, 61] := by rw [hw, dr, tkC_c, if_neg d, if_neg l, if_pos z]
    have cs : sgns.contains c = true := by rcases z.1 with h | h <;> rw [h] <;> decide
    rw [if_pos z, if_neg (by decide), Option.bind_some, Option.bind_some, if_neg (by decide), Option.bind_some, Option.bind_some, sg, if_pos cs, Option.bind_some, if_neg (by decide), Option.bind_some, n01 (Or.inl rfl), Option.bind_some]
    refine fin rfl ⟨fun q c1 c2 c3 c4 c5 => (if_neg c5).trans ((if_neg c2).trans ((if_neg c3).trans (F7.1 q c1 c2 c3 c4 c5))), F7.2.1, F7.2.2⟩ k226 k230 (Or.inl ⟨by rw [wd, tkO_c, if_neg d, if_neg l]; rfl, rfl, ?_, ?_, ?_⟩)
    · show (ptI S7 228 (Int32.ofNat c + 256)).1 227 + 2 = _
      rw [show (ptI S7 228 (Int32.ofNat c + 256)).1 227 = Int32.ofNat a from k227, wd]
      exact i_add a 2
    · rw [wd, tkK_c, if_neg d, if_neg l, if_neg (by decide)]
      exact i_add c 256
    · rw [wd, tkV_c, if_neg d, if_neg l]
      exact k229
  · have wd : w = [c] := by rw [hw, dr, tkC_c, if_neg d, if_neg l, if_neg z]
    have ko : tkO w = sgns.contains c := by rw [wd, tkO_c, if_neg d, if_neg l, if_pos rfl]
    rw [if_neg z, if_pos rfl, Option.bind_some, Option.bind_some, if_pos rfl, Option.bind_some, Option.bind_some, sg, Option.bind_some]
    have F8 : ∀ v, StF t (ptI (ptI (ptI S7 228 (Int32.ofNat c)) 227 ((ptI S7 228 (Int32.ofNat c)).1 227 + 1)) 231 v) := fun v => ⟨fun q c1 c2 c3 c4 c5 => (if_neg c5).trans ((if_neg c2).trans ((if_neg c3).trans (F7.1 q c1 c2 c3 c4 c5))), F7.2.1, F7.2.2⟩
    by_cases cs : sgns.contains c = true
    · rw [if_pos cs, if_neg (by decide), Option.bind_some, n01 (Or.inl rfl), Option.bind_some]
      refine fin rfl (F8 0) k226 k230 (Or.inl ⟨by rw [ko]; exact cs, rfl, ?_, ?_, ?_⟩)
      · show (ptI S7 228 (Int32.ofNat c)).1 227 + 1 = _
        rw [show (ptI S7 228 (Int32.ofNat c)).1 227 = Int32.ofNat a from k227, wd]
        exact i_add a 1
      · rw [wd, tkK_c, if_neg d, if_neg l, if_pos rfl]; rfl
      · rw [wd, tkV_c, if_neg d, if_neg l]
        exact k229
    · rw [if_neg cs, if_pos rfl, Option.bind_some, n01 (Or.inr rfl), Option.bind_some]
      exact fin rfl (F8 1) k226 k230 (Or.inr ⟨by rw [ko]; exact cs, rfl⟩)
end
