/-! permits: the next word, the component: whole -/
section
variable {s S : CS} {x : List Nat} {rd rl : Nat}
theorem c_wlp {wd : Value} {a' wn dp : Int32} {a c : Nat} {B : Nat → Bool} (hw : wfS s) (X : TxC x s) (h : s.1 rd = some (rdCell rl wd a' (Int32.ofNat (a + 1)) wn dp)) (al : a < x.length) (hc : c = x[a]) (hB : (dgB c = true ∧ B = dgB) ∨ (¬ dgB c = true ∧ ltB c = true ∧ B = ltB)) : wh (S := CS) (X := CS) (fun p51 => Option.bind (c_933 (Int32.ofNat c) p51) (fun x27 => Option.bind ((if x27 = 0 then Option.bind (xI p51 [(68, 4)] rd) (fun x28 => (if isK p51 [68] rd = true then Option.bind (c_932 rd x28 p51) (fun x29 => Option.bind (c_934 x29 p51) (fun x30 => (if x30 = 0 then some (.inr (.inr p51)) else some (.inl ())))) else none)) else Option.bind (xI p51 [(68, 4)] rd) (fun x31 => (if isK p51 [68] rd = true then Option.bind (c_932 rd x31 p51) (fun x32 => Option.bind (c_933 x32 p51) (fun x33 => (if x33 = 0 then some (.inr (.inr p51)) else some (.inl ())))) else none)))) (Sum.elim (fun v67 => Option.bind (xI p51 [(68, 4)] rd) (fun x34 => Option.bind (xP p51 [(68, 4)] rd (.int (x34 + 1))) (fun s35 => some (.inl s35)))) (fun z => some z)))) s = some (cup s rd (rdCell rl wd a' (Int32.ofNat (a + ((x.drop a).takeWhile B).length)) wn dp)) := by
  have xl := X.2.1
  have r5 : (105 : Nat) ≠ rd := fun e => by
    have := X.1
    rw [e, h] at this
    unfold rdCell at this
    simp at this
  have X' : ∀ c, TxC x (cup s rd c) := fun c => ⟨(cup_ne r5).trans X.1, X.2⟩
  have st0 : cup s rd (rdCell rl wd a' (Int32.ofNat (a + 1 + 0)) wn dp) = s := cup_id h
  have c126 : c ≤ 126 := by rw [hc]; exact (X.2.2 _ (List.getElem_mem al)).2
  have B32 : B 32 = false := by rcases hB with ⟨_, h⟩ | ⟨_, _, h⟩ <;> rw [h] <;> decide
  have Bc : B c = true := by
    rcases hB with ⟨h1, h⟩ | ⟨_, h1, h⟩
    · rw [h]; exact h1
    · rw [h]; exact h1
  obtain ⟨g1, g2⟩ := tw_gd (x := x) (B := B) B32 a
  obtain ⟨w, hw'⟩ : ∃ w, w = (x.drop a).takeWhile B := ⟨_, rfl⟩
  have w1 : 1 ≤ w.length := by
    rw [hw', List.drop_eq_getElem_cons al, ← hc, List.takeWhile_cons_of_pos Bc, List.length_cons]; omega
  have wl : a + w.length ≤ x.length := by
    have := tw_le (B := B) (x.drop a)
    rw [← hw', List.length_drop] at this
    omega
  rw [← hw'] at g1 g2 ⊢
  have step : ∀ (q : Nat) (V : CS), q ≤ 900 → TxC x V → V.1 rd = some (rdCell rl wd a' (Int32.ofNat q) wn dp) → ∀ {A : Type} (g : Sum Unit (Sum CS CS) → Option A), Option.bind (c_933 (Int32.ofNat c) V) (fun x27 => Option.bind ((if x27 = 0 then Option.bind (xI V [(68, 4)] rd) (fun x28 => (if isK V [68] rd = true then Option.bind (c_932 rd x28 V) (fun x29 => Option.bind (c_934 x29 V) (fun x30 => (if x30 = 0 then some (.inr (.inr V)) else some (.inl ())))) else none)) else Option.bind (xI V [(68, 4)] rd) (fun x31 => (if isK V [68] rd = true then Option.bind (c_932 rd x31 V) (fun x32 => Option.bind (c_933 x32 V) (fun x33 => (if x33 = 0 then some (.inr (.inr V)) else some (.inl ())))) else none)))) g) = g (if B (x.getD q 32) = true then .inl () else .inr (.inr V)) := by
    intro q V hq XV hV A g
    have q126 := gdC XV q
    rw [c_933g (by omega), Option.bind_some]
    rcases hB with ⟨h1, h⟩ | ⟨h0, h1, h⟩
    · rw [if_pos h1, if_neg (by decide), xI_o hV rfl rfl, Option.bind_some, if_pos (isK_t hV rfl), c_932g XV hV (by omega), Option.bind_some, c_933g (by omega), Option.bind_some, h]
      by_cases z : dgB (x.getD q 32) = true
      · rw [if_pos z, if_pos z, if_neg (by decide), Option.bind_some]
      · rw [if_neg z, if_neg z, if_pos rfl, Option.bind_some]
    · rw [if_neg h0, if_pos rfl, xI_o hV rfl rfl, Option.bind_some, if_pos (isK_t hV rfl), c_932g XV hV (by omega), Option.bind_some, c_934g (by omega), Option.bind_some, h]
      by_cases z : ltB (x.getD q 32) = true
      · rw [if_pos z, if_pos z, if_neg (by decide), Option.bind_some]
      · rw [if_neg z, if_neg z, if_pos rfl, Option.bind_some]
  have key := wh_st (f := fun p51 => Option.bind (c_933 (Int32.ofNat c) p51) (fun x27 => Option.bind ((if x27 = 0 then Option.bind (xI p51 [(68, 4)] rd) (fun x28 => (if isK p51 [68] rd = true then Option.bind (c_932 rd x28 p51) (fun x29 => Option.bind (c_934 x29 p51) (fun x30 => (if x30 = 0 then some (.inr (.inr p51)) else some (.inl ())))) else none)) else Option.bind (xI p51 [(68, 4)] rd) (fun x31 => (if isK p51 [68] rd = true then Option.bind (c_932 rd x31 p51) (fun x32 => Option.bind (c_933 x32 p51) (fun x33 => (if x33 = 0 then some (.inr (.inr p51)) else some (.inl ())))) else none)))) (Sum.elim (fun v67 => Option.bind (xI p51 [(68, 4)] rd) (fun x34 => Option.bind (xP p51 [(68, 4)] rd (.int (x34 + 1))) (fun s35 => some (.inl s35)))) (fun z => some z)))) (n := w.length - 1) (x := cup s rd (rdCell rl wd a' (Int32.ofNat (a + w.length)) wn dp)) (fun j => cup s rd (rdCell rl wd a' (Int32.ofNat (a + 1 + j)) wn dp)) ?_ ?_
  · rw [st0] at key
    exact key
  · intro j hj
    have hc' := cup_eq s rd (rdCell rl wd a' (Int32.ofNat (a + 1 + j)) wn dp)
    rw [step (a + 1 + j) _ (by omega) (X' _) hc', if_pos (by have := (g1 (j + 1) (by omega)).1; rw [show a + (j + 1) = a + 1 + j by omega] at this; exact this), Sum.elim_inl, xI_o hc' rfl rfl, Option.bind_some, xP_c hc' rfl (by show 4 < 7; decide) (show List.set _ 4 _ = [.ref 105, .ref rl, wd, .int a', .int (Int32.ofNat (a + 1 + j) + 1), .int wn, .int dp] from rfl), Option.bind_some, cupU, i_suc]
    rfl
  · rw [show a + 1 + (w.length - 1) = a + w.length by omega]
    have hc' := cup_eq s rd (rdCell rl wd a' (Int32.ofNat (a + w.length)) wn dp)
    rw [step (a + w.length) _ (by omega) (X' _) hc', if_neg (by rw [g2]; decide), Sum.elim_inr]
theorem idx_at {c : Nat} : ∀ (l : List Nat) (k : Nat), (∀ d ∈ l, d < 1000) → c < 1000 → k + l.length < 1000 → (idx (txV l) (Int32.ofNat c) k < 0 ↔ ¬ c ∈ l) := by
  intro l
  induction l with
  | nil => intro k _ _ _; exact ⟨fun _ h => by simp at h, fun _ => (by decide : (-1 : Int32) < 0)⟩
  | cons d l ih =>
    intro k hd hc hk
    show (if Value.int (Int32.ofNat d) = .int (Int32.ofNat c) then k.toInt32 else idx (txV l) (Int32.ofNat c) (k + 1)) < 0 ↔ _
    rw [List.length_cons] at hk
    by_cases z : d = c
    · rw [if_pos (by rw [z])]
      exact ⟨fun w => absurd w (i_nlt0 (by omega)), fun w => absurd (by rw [z]; exact List.mem_cons_self) w⟩
    · rw [if_neg (fun w => z ((i_inj (by have := hd d List.mem_cons_self; omega) (by omega)).mp (Value.int.inj w))), ih (k + 1) (fun e he => hd e (List.mem_cons_of_mem _ he)) hc (by omega)]
      simp [Ne.symm z]
theorem JX_of {a n : Nat} (hw : wfS s) (h : VOk s S n) : JX a s S n := JX_v (JX_0 hw) h (by omega)
theorem rdP2 {wd : Value} {a' nx wn dp : Int32} (h : s.1 rd = some (rdCell rl wd a' nx wn dp)) (v : Value) : xP s [(68, 2)] rd v = some (cup s rd (rdCell rl v a' nx wn dp)) := xP_c h rfl (by show 2 < 7; decide) rfl
theorem rdP3 {wd : Value} {a' nx wn dp : Int32} (h : s.1 rd = some (rdCell rl wd a' nx wn dp)) (v : Int32) : xP s [(68, 3)] rd (.int v) = some (cup s rd (rdCell rl wd v nx wn dp)) := xP_c h rfl (by show 3 < 7; decide) rfl
theorem rdP4 {wd : Value} {a' nx wn dp : Int32} (h : s.1 rd = some (rdCell rl wd a' nx wn dp)) (v : Int32) : xP s [(68, 4)] rd (.int v) = some (cup s rd (rdCell rl wd a' v wn dp)) := xP_c h rfl (by show 4 < 7; decide) rfl
theorem rdP5 {wd : Value} {a' nx wn dp : Int32} (h : s.1 rd = some (rdCell rl wd a' nx wn dp)) (v : Int32) : xP s [(68, 5)] rd (.int v) = some (cup s rd (rdCell rl wd a' nx v dp)) := xP_c h rfl (by show 5 < 7; decide) rfl
theorem rdP6 {wd : Value} {a' nx wn dp : Int32} (h : s.1 rd = some (rdCell rl wd a' nx wn dp)) (v : Int32) : xP s [(68, 6)] rd (.int v) = some (cup s rd (rdCell rl wd a' nx wn v)) := xP_c h rfl (by show 6 < 7; decide) rfl
theorem rdI5 {wd : Value} {a' nx wn dp : Int32} (h : s.1 rd = some (rdCell rl wd a' nx wn dp)) : xI s [(68, 5)] rd = some wn := xI_o h rfl rfl
theorem tkO_len {y : List Nat} (h : tkO (tkC y) = true) : (tkC y).length ≤ 9 := by
  cases y with
  | nil => decide
  | cons c r =>
    obtain ⟨w, e⟩ := tkC_ne (c := c) (r := r)
    by_cases d : dgB c = true
    · rw [e, tkO_c, if_pos d] at h
      rw [e, List.length_cons]
      have := of_decide_eq_true h
      omega
    · by_cases l : ltB c = true
      · rw [e, tkO_c, if_neg d, if_pos l] at h
        rw [e, List.length_cons]
        have := of_decide_eq_true h
        omega
      · rw [tkC_c, if_neg d, if_neg l]
        by_cases z : (c = 60 ∨ c = 62) ∧ r.head? = some 61
        · rw [if_pos z]; show 2 ≤ 9; decide
        · rw [if_neg z]; show 1 ≤ 9; decide
theorem cup_nwS {c c' : lCell} {ys : List Value} (lr : rd < s.2.1) : cup (nwS (cup s rd c) ys).2 rd c' = cup (nwS s ys).2 rd c' := by
  unfold nwS nwc cup
  dsimp only
  refine Prod.ext ?_ rfl
  funext p
  simp only [lUpd_at]
  by_cases z : p = rd
  · simp [z]
  · by_cases z2 : p = s.2.1 <;> simp [z, z2]
/-- one word on -/
theorem c_step {wd : Value} {a' dp : Int32} {p n : Nat} (hw : wfS s) (X : TxC x s) (h65 : ∃ w, s.1 65 = some (w, false, 1000, txV sgns)) (h : s.1 rd = some (rdCell rl wd a' (Int32.ofNat p) (Int32.ofNat n) dp)) (hp : p ≤ x.length) (hn : n ≤ 120) : (skp x p = x.length ∧ c_931 rd s = some (.inl (cup s rd (rdCell rl (.ref 63) (Int32.ofNat (skp x p)) (Int32.ofNat (skp x p)) (Int32.ofNat n) dp)))) ∨ (skp x p < x.length ∧ tkO (tkC (x.drop (skp x p))) = true ∧ n < 120 ∧ c_931 rd s = some (.inl (cup (nwS s (txV (tkC (x.drop (skp x p))))).2 rd (rdCell rl (.ref s.2.1) (Int32.ofNat (skp x p)) (Int32.ofNat (skp x p + (tkC (x.drop (skp x p))).length)) (Int32.ofNat (n + 1)) dp)))) ∨ (skp x p < x.length ∧ ¬ (tkO (tkC (x.drop (skp x p))) = true ∧ n < 120) ∧ ∃ S e, c_931 rd s = some (.inr (e, S)) ∧ WrO S e (Int32.ofNat (skp x p)) ∧ JX rd s S 4) := by
  have xl := X.2.1
  have sl := skp_le hp
  have lr := wf_lt hw h
  have r5 : (105 : Nat) ≠ rd := fun e => by
    have := X.1
    rw [e, h] at this
    unfold rdCell at this
    simp at this
  have r65 : (65 : Nat) ≠ rd := fun e => by
    obtain ⟨w, h65⟩ := h65
    rw [e, h] at h65
    unfold rdCell at h65
    simp at h65
  unfold c_931
  rw [c_skip hw X h hp, Option.bind_some]
  obtain ⟨a, ha⟩ : ∃ a, a = skp x p := ⟨_, rfl⟩
  rw [← ha] at sl ⊢
  have hc1 := cup_eq s rd (rdCell rl wd a' (Int32.ofNat a) (Int32.ofNat n) dp)
  rw [xI_o hc1 rfl rfl, Option.bind_some, rdP3 hc1, Option.bind_some, cupU]
  have X' : ∀ c, TxC x (cup s rd c) := fun c => ⟨(cup_ne r5).trans X.1, X.2⟩
  have W' : ∀ c, wfS (cup s rd c) := fun c => wf_cup hw lr
  have hc2 := cup_eq s rd (rdCell rl wd (Int32.ofNat a) (Int32.ofNat a) (Int32.ofNat n) dp)
  have X2 := X' (rdCell rl wd (Int32.ofNat a) (Int32.ofNat a) (Int32.ofNat n) dp)
  rw [xI_o hc2 rfl rfl, Option.bind_some, xN_o hc2 rfl rfl, Option.bind_some, if_pos (isK_t X2.1 rfl), sbLen_x X2, Option.bind_some]
  by_cases aE : a = x.length
  · rw [if_pos (by rw [aE]), rdP2 hc2, Option.bind_some, cupU]
    exact Or.inl ⟨aE, rfl⟩
  right
  have al : a < x.length := by omega
  rw [if_neg (fun w => aE ((i_inj (by omega) (by omega)).mp w)), Option.bind_some, if_pos (isK_t hc2 rfl), c_932g X2 hc2 (by omega), Option.bind_some, xI_o hc2 rfl rfl, Option.bind_some, rdP4 hc2, Option.bind_some, cupU, i_suc, gdI al]
  obtain ⟨c, hc⟩ : ∃ c, c = x[a] := ⟨_, rfl⟩
  have c126 : 32 ≤ c ∧ c ≤ 126 := by rw [hc]; exact X.2.2 _ (List.getElem_mem al)
  have dr : x.drop a = c :: x.drop (a + 1) := by rw [hc]; exact List.drop_eq_getElem_cons al
  rw [← hc]
  have hc3 := cup_eq s rd (rdCell rl wd (Int32.ofNat a) (Int32.ofNat (a + 1)) (Int32.ofNat n) dp)
  have X3 := X' (rdCell rl wd (Int32.ofNat a) (Int32.ofNat (a + 1)) (Int32.ofNat n) dp)
  have W3 := W' (rdCell rl wd (Int32.ofNat a) (Int32.ofNat (a + 1)) (Int32.ofNat n) dp)
  have h65' : ∃ w, (cup s rd (rdCell rl wd (Int32.ofNat a) (Int32.ofNat (a + 1)) (Int32.ofNat n) dp)).1 65 = some (w, false, 1000, txV sgns) := by
    obtain ⟨w, h⟩ := h65
    exact ⟨w, (cup_ne r65).trans h⟩
  rw [c_933g (by omega), Option.bind_some]
  obtain ⟨w, hw'⟩ : ∃ w, w = tkC (x.drop a) := ⟨_, rfl⟩
  have wl : a + w.length ≤ x.length := by
    have := tkC_le (x.drop a)
    rw [← hw', List.length_drop] at this; omega
  rw [← hw']
  have w0 : 0 < w.length := by
    obtain ⟨r, hr⟩ : ∃ r, w = c :: r := by rw [hw', dr]; exact tkC_ne
    rw [hr]; exact Nat.succ_pos _
  have JE : ∀ {V : CS} {k : Nat}, JX rd s V k → k ≤ 3 → ∀ p, JX rd s (exWr V p) 4 := fun {V k} h hk p => JX_v h (exWr_v h.1 p) (by omega)
  have fin : ∀ {M : Option (Sum CS (Sum CS (Nat × CS)))} {V : CS}, V = cup s rd (rdCell rl wd (Int32.ofNat a) (Int32.ofNat (a + w.length)) (Int32.ofNat n) dp) → tkO w = true → (M = some (.inl V)) → (a < x.length ∧ tkO w = true ∧ n < 120 ∧ Option.bind M (Sum.elim (fun v120 => Option.bind (xN v120 [(68, 0)] rd) (fun a41 => Option.bind (xI v120 [(68, 3)] rd) (fun x42 => Option.bind (xI v120 [(68, 4)] rd) (fun x43 => (if isK v120 [35] a41 = true then Option.bind (sbSub v120 a41 x42 x43) (fun n44 => Option.bind (xP n44.2 [(68, 2)] rd (.ref n44.1)) (fun s45 => Option.bind (xI s45 [(68, 5)] rd) (fun x46 => Option.bind (xP s45 [(68, 5)] rd (.int (x46 + 1))) (fun s47 => Option.bind (xI s47 [(68, 5)] rd) (fun x48 => Option.bind ((if 120 < x48 then some (0 : Int32) else some 1)) (fun v143 => (if isK s47 [68] rd = true then Option.bind (c_935 rd v143 s47) (Sum.elim (fun x49 => some (.inl x49)) (fun q50 => some (.inr (q50.1, q50.2)))) else none))))))) else none))))) (fun z => some z)) = some (.inl (cup (nwS s (txV w)).2 rd (rdCell rl (.ref s.2.1) (Int32.ofNat a) (Int32.ofNat (a + w.length)) (Int32.ofNat (n + 1)) dp)))) ∨ (a < x.length ∧ ¬ (tkO w = true ∧ n < 120) ∧ ∃ S e, Option.bind M (Sum.elim (fun v120 => Option.bind (xN v120 [(68, 0)] rd) (fun a41 => Option.bind (xI v120 [(68, 3)] rd) (fun x42 => Option.bind (xI v120 [(68, 4)] rd) (fun x43 => (if isK v120 [35] a41 = true then Option.bind (sbSub v120 a41 x42 x43) (fun n44 => Option.bind (xP n44.2 [(68, 2)] rd (.ref n44.1)) (fun s45 => Option.bind (xI s45 [(68, 5)] rd) (fun x46 => Option.bind (xP s45 [(68, 5)] rd (.int (x46 + 1))) (fun s47 => Option.bind (xI s47 [(68, 5)] rd) (fun x48 => Option.bind ((if 120 < x48 then some (0 : Int32) else some 1)) (fun v143 => (if isK s47 [68] rd = true then Option.bind (c_935 rd v143 s47) (Sum.elim (fun x49 => some (.inl x49)) (fun q50 => some (.inr (q50.1, q50.2)))) else none))))))) else none))))) (fun z => some z)) = some (.inr (e, S)) ∧ WrO S e (Int32.ofNat a) ∧ JX rd s S 4) := by
    intro M V hV ok eM
    have hcV : V.1 rd = some (rdCell rl wd (Int32.ofNat a) (Int32.ofNat (a + w.length)) (Int32.ofNat n) dp) := by rw [hV]; exact cup_eq ..
    have XV : TxC x V := by rw [hV]; exact X' _
    have WV : wfS V := by rw [hV]; exact W' _
    have bV : V.2.1 = s.2.1 := by rw [hV]; rfl
    have sub : sbSub V 105 (Int32.ofNat a) (Int32.ofNat (a + w.length)) = some (nwS V (txV w)) := by
      unfold sbSub
      rw [sbC_x XV, Option.bind_some, if_pos ⟨i_nlt0 (by omega), (i_lt (by omega) (by omega)).mpr (by omega), by rw [i_clamp (by omega), txV_len]; exact wl⟩, i_clamp (by omega), i_clamp (by omega), show a + w.length - a = w.length by omega]
      have : ((txV x).drop a).take w.length = txV w := by
        unfold txV
        rw [← List.map_drop, ← List.map_take]
        congr 1
        rw [hw']; exact (tkC_take _).symm
      rw [this]
    have hcN : (nwS V (txV w)).2.1 rd = some (rdCell rl wd (Int32.ofNat a) (Int32.ofNat (a + w.length)) (Int32.ofNat n) dp) := (nwc_ne (by omega)).trans hcV
    have w9 : w.length ≤ 9 := by rw [hw'] at ok ⊢; exact tkO_len ok
    rw [eM, Option.bind_some, Sum.elim_inl, xN_o hcV rfl rfl, Option.bind_some, xI_o hcV rfl rfl, Option.bind_some, xI_o hcV rfl rfl, Option.bind_some, if_pos (isK_t XV.1 rfl), sub, Option.bind_some, rdP2 hcN, Option.bind_some, rdI5 (cup_eq ..), Option.bind_some, rdP5 (cup_eq ..), Option.bind_some, cupU, i_suc, rdI5 (cup_eq ..), Option.bind_some]
    have hcF := cup_eq (nwS V (txV w)).2 rd (rdCell rl (.ref (nwS V (txV w)).1) (Int32.ofNat a) (Int32.ofNat (a + w.length)) (Int32.ofNat (n + 1)) dp)
    have WN : wfS (nwS V (txV w)).2 := wf_nwc WV
    have WF : wfS (cup (nwS V (txV w)).2 rd (rdCell rl (.ref (nwS V (txV w)).1) (Int32.ofNat a) (Int32.ofNat (a + w.length)) (Int32.ofNat (n + 1)) dp)) := wf_cup WN (wf_lt WN hcN)
    by_cases n120 : n < 120
    · left
      rw [if_neg (show ¬ (120 : Int32) < Int32.ofNat (n + 1) from fun z => by have := (i_lt (j := 120) (by decide) (by omega)).mp z; omega), Option.bind_some, if_pos (isK_t hcF rfl), c_chk WF hcF, if_neg (by decide), Option.bind_some, Sum.elim_inl]
      refine ⟨al, ok, n120, ?_⟩
      rw [show (nwS V (txV w)).1 = s.2.1 from bV, hV, cup_nwS lr]
    · right
      rw [if_pos (show (120 : Int32) < Int32.ofNat (n + 1) from (i_lt (j := 120) (by decide) (by omega)).mpr (by omega)), Option.bind_some, if_pos (isK_t hcF rfl), c_chk WF hcF, if_pos rfl, Option.bind_some, Sum.elim_inr]
      have j1 : JX rd s V 0 := by rw [hV]; exact JX_c (JX_0 hw) lr
      have j2 : JX rd s (nwS V (txV w)).2 2 := JX_v j1 (VOk_nw (j := 2) (k := (txV w).length + 4) (n := 2) WV _ (by omega) (by rw [txV_len]; omega)) (by omega)
      exact ⟨al, fun z => n120 z.2, _, _, rfl, exWr_o _ _, JE (JX_c j2 (wf_lt WN hcN)) (by omega) _⟩
  have j3 : JX rd s (cup s rd (rdCell rl wd (Int32.ofNat a) (Int32.ofNat (a + 1)) (Int32.ofNat n) dp)) 0 := JX_c (JX_0 hw) lr
  have hcV := cup_eq s rd (rdCell rl wd (Int32.ofNat a) (Int32.ofNat (a + w.length)) (Int32.ofNat n) dp)
  have WV := W' (rdCell rl wd (Int32.ofNat a) (Int32.ofNat (a + w.length)) (Int32.ofNat n) dp)
  have jV : JX rd s (cup s rd (rdCell rl wd (Int32.ofNat a) (Int32.ofNat (a + w.length)) (Int32.ofNat n) dp)) 0 := JX_c (JX_0 hw) lr
  obtain ⟨r, hr⟩ : ∃ r, w = c :: r := by rw [hw', dr]; exact tkC_ne
  by_cases d : dgB c = true
  · have wd' : (x.drop a).takeWhile dgB = w := by rw [hw', dr, tkC_c, if_pos d]
    have ko : tkO w = decide (w.length ≤ 9) := by rw [hr, tkO_c, if_pos d, List.length_cons]; exact decide_eq_decide.mpr (by omega)
    rw [if_pos d, if_neg (by decide), Option.bind_some, Sum.elim_inl, c_wlp W3 X3 hc3 al hc (Or.inl ⟨d, rfl⟩), Option.bind_some, cupU, wd', xI_o hcV rfl rfl, Option.bind_some, xI_o hcV rfl rfl, Option.bind_some, c_933g (by omega), Option.bind_some, if_pos d, if_neg (by decide), Option.bind_some, i_sub (by omega), show a + w.length - a = w.length by omega]
    by_cases l9 : w.length ≤ 9
    · rw [if_neg (show ¬ (9 : Int32) < Int32.ofNat w.length from fun z => by have := (i_lt (j := 9) (by decide) (by omega)).mp z; omega), Option.bind_some, if_pos (isK_t hcV rfl), c_chk WV hcV, if_neg (by decide), Option.bind_some, Sum.elim_inl]
      exact fin rfl (by rw [ko]; exact decide_eq_true l9) rfl
    · rw [if_pos (show (9 : Int32) < Int32.ofNat w.length from (i_lt (j := 9) (by decide) (by omega)).mpr (by omega)), Option.bind_some, if_pos (isK_t hcV rfl), c_chk WV hcV, if_pos rfl, Option.bind_some, Sum.elim_inr, Option.bind_some, Sum.elim_inr]
      exact Or.inr ⟨al, fun z => by rw [ko] at z; exact l9 (of_decide_eq_true z.1), _, _, rfl, exWr_o _ _, JE jV (by omega) _⟩
  rw [if_neg d, if_pos rfl, c_934g (by omega), Option.bind_some]
  by_cases l : ltB c = true
  · have wd' : (x.drop a).takeWhile ltB = w := by rw [hw', dr, tkC_c, if_neg d, if_pos l]
    have ko : tkO w = decide (w.length ≤ 8) := by rw [hr, tkO_c, if_neg d, if_pos l, List.length_cons]; exact decide_eq_decide.mpr (by omega)
    rw [if_pos l, if_neg (by decide), Option.bind_some, Sum.elim_inl, c_wlp W3 X3 hc3 al hc (Or.inr ⟨d, l, rfl⟩), Option.bind_some, cupU, wd', xI_o hcV rfl rfl, Option.bind_some, xI_o hcV rfl rfl, Option.bind_some, c_933g (by omega), Option.bind_some, if_neg d, if_pos rfl, Option.bind_some, i_sub (by omega), show a + w.length - a = w.length by omega]
    by_cases l9 : w.length ≤ 8
    · rw [if_neg (show ¬ (8 : Int32) < Int32.ofNat w.length from fun z => by have := (i_lt (j := 8) (by decide) (by omega)).mp z; omega), Option.bind_some, if_pos (isK_t hcV rfl), c_chk WV hcV, if_neg (by decide), Option.bind_some, Sum.elim_inl]
      exact fin rfl (by rw [ko]; exact decide_eq_true l9) rfl
    · rw [if_pos (show (8 : Int32) < Int32.ofNat w.length from (i_lt (j := 8) (by decide) (by omega)).mpr (by omega)), Option.bind_some, if_pos (isK_t hcV rfl), c_chk WV hcV, if_pos rfl, Option.bind_some, Sum.elim_inr, Option.bind_some, Sum.elim_inr]
      exact Or.inr ⟨al, fun z => by rw [ko] at z; exact l9 (of_decide_eq_true z.1), _, _, rfl, exWr_o _ _, JE jV (by omega) _⟩
  rw [if_neg l, if_pos rfl]
  have g126 := gdC X (a + 1)
  have n60 : Int32.ofNat c = 60 ↔ c = 60 := i_inj (j := c) (k := 60) (by omega) (by decide)
  have n62 : Int32.ofNat c = 62 ↔ c = 62 := i_inj (j := c) (k := 62) (by omega) (by decide)
  have n61 : Int32.ofNat (x.getD (a + 1) 32) = 61 ↔ x.getD (a + 1) 32 = 61 := i_inj (j := x.getD (a + 1) 32) (k := 61) (by omega) (by decide)
  have hd : (x.drop (a + 1)).head? = some 61 ↔ x.getD (a + 1) 32 = 61 := by
    rw [List.head?_drop, List.getD_eq_getElem?_getD]
    cases e : x[a + 1]? with
    | none => simp
    | some v => simp
  by_cases z : (c = 60 ∨ c = 62) ∧ (x.drop (a + 1)).head? = some 61
  · have wd' : w = [c, 61] := by rw [hw', dr, tkC_c, if_neg d, if_neg l, if_pos z]
    have e1 : (if Int32.ofNat c = 60 then some (.inl ()) else (if Int32.ofNat c = 62 then some (.inl ()) else some (.inr (.inl ()))) : Option (Sum Unit (Sum (Unit) (Sum (Unit) (Sum (CS) (Sum (CS) (Nat × CS))))))) = some (.inl ()) := by
      rcases z.1 with z | z
      · rw [if_pos (n60.mpr z)]
      · rw [if_neg (fun q => by have := n60.mp q; omega), if_pos (n62.mpr z)]
    rw [e1, Option.bind_some, Sum.elim_inl, xI_o hc3 rfl rfl, Option.bind_some, if_pos (isK_t hc3 rfl), c_932g X3 hc3 (by omega), Option.bind_some, if_pos (n61.mpr (hd.mp z.2)), Option.bind_some, rdP4 hc3, Option.bind_some, cupU, Option.bind_some, Sum.elim_inr, Option.bind_some, Sum.elim_inr]
    refine fin ?_ (by rw [wd', tkO_c, if_neg d, if_neg l]; rfl) rfl
    rw [wd', i_suc]; rfl
  · have wd' : w = [c] := by rw [hw', dr, tkC_c, if_neg d, if_neg l, if_neg z]
    have ko : tkO w = sgns.contains c := by rw [wd', tkO_c, if_neg d, if_neg l, if_pos rfl]
    obtain ⟨w65, k65⟩ := h65'
    have ix : (idx (txV sgns) (Int32.ofNat c) 0 < 0 ↔ ¬ c ∈ sgns) := idx_at sgns 0 (by decide) (by omega) (by decide)
    have sx : stIdx (cup s rd (rdCell rl wd (Int32.ofNat a) (Int32.ofNat (a + 1)) (Int32.ofNat n) dp)) 65 (Int32.ofNat c) = some (idx (txV sgns) (Int32.ofNat c) 0) := by
      unfold stIdx
      rw [stC_r k65, Option.bind_some]
    have mid : ∀ {A : Type} (g : Sum (Unit) (Sum (Unit) (Sum (CS) (Sum (CS) (Nat × CS)))) → Option A), Option.bind (Option.bind (if Int32.ofNat c = 60 then some (.inl ()) else (if Int32.ofNat c = 62 then some (.inl ()) else some (.inr (.inl ()))) : Option (Sum Unit (Sum (Unit) (Sum (Unit) (Sum (CS) (Sum (CS) (Nat × CS))))))) (Sum.elim (fun v98 => Option.bind (xI (cup s rd (rdCell rl wd (Int32.ofNat a) (Int32.ofNat (a + 1)) (Int32.ofNat n) dp)) [(68, 4)] rd) (fun x20 => (if isK (cup s rd (rdCell rl wd (Int32.ofNat a) (Int32.ofNat (a + 1)) (Int32.ofNat n) dp)) [68] rd = true then Option.bind (c_932 rd x20 (cup s rd (rdCell rl wd (Int32.ofNat a) (Int32.ofNat (a + 1)) (Int32.ofNat n) dp))) (fun x21 => (if x21 = 61 then Option.bind (xI (cup s rd (rdCell rl wd (Int32.ofNat a) (Int32.ofNat (a + 1)) (Int32.ofNat n) dp)) [(68, 4)] rd) (fun x22 => Option.bind (xP (cup s rd (rdCell rl wd (Int32.ofNat a) (Int32.ofNat (a + 1)) (Int32.ofNat n) dp)) [(68, 4)] rd (.int (x22 + 1))) (fun s23 => some (.inr (.inr (.inl s23))))) else some (.inl ()))) else none))) (fun z => some z))) g = g (.inl ()) := by
      intro A g
      by_cases z6 : c = 60 ∨ c = 62
      · have e1 : (if Int32.ofNat c = 60 then some (.inl ()) else (if Int32.ofNat c = 62 then some (.inl ()) else some (.inr (.inl ()))) : Option (Sum Unit (Sum (Unit) (Sum (Unit) (Sum (CS) (Sum (CS) (Nat × CS))))))) = some (.inl ()) := by
          rcases z6 with z | z
          · rw [if_pos (n60.mpr z)]
          · rw [if_neg (fun q => by have := n60.mp q; omega), if_pos (n62.mpr z)]
        have z61 : ¬ x.getD (a + 1) 32 = 61 := fun q => z ⟨z6, hd.mpr q⟩
        rw [e1, Option.bind_some, Sum.elim_inl, xI_o hc3 rfl rfl, Option.bind_some, if_pos (isK_t hc3 rfl), c_932g X3 hc3 (by omega), Option.bind_some, if_neg (fun q => z61 (n61.mp q)), Option.bind_some]
      · rw [if_neg (fun q => z6 (Or.inl (n60.mp q))), if_neg (fun q => z6 (Or.inr (n62.mp q))), Option.bind_some, Sum.elim_inr, Option.bind_some]
    rw [mid, Sum.elim_inl, if_pos (isK_t k65 rfl), sx, Option.bind_some]
    by_cases cs : sgns.contains c = true
    · rw [if_neg (fun q => (ix.mp q) (by simpa using cs)), Option.bind_some, if_pos (isK_t hc3 rfl), c_chk W3 hc3, if_neg (by decide), Option.bind_some, Sum.elim_inl, Option.bind_some, Sum.elim_inr]
      refine fin ?_ (by rw [ko]; exact cs) rfl
      rw [wd']; rfl
    · rw [if_pos (ix.mpr (fun q => cs (by simpa using q))), Option.bind_some, if_pos (isK_t hc3 rfl), c_chk W3 hc3, if_pos rfl, Option.bind_some, Sum.elim_inr, Option.bind_some, Sum.elim_inr, Option.bind_some, Sum.elim_inr]
      exact Or.inr ⟨al, fun q => cs (by rw [ko] at q; exact q.1), _, _, rfl, exWr_o _ _, JE j3 (by omega) _⟩
end
