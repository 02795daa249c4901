/-! the warden: the twin after something was wrong; maps of what is told -/
def Bd (sz wc w : Nat) (bg en : Nat → Nat) (T0 T : TS) : Prop := TWe sz wc w bg en T ∧ FrU T0 T ∧ T.1 311 = T0.1 311
section
variable {sz wc w : Nat} {bg en : Nat → Nat} {T0 T : TS}
theorem bd_0 (h : TWe sz wc w bg en T) : Bd sz wc w bg en T T := ⟨h, FrU.refl _, rfl⟩
theorem bd_tak (h : Bd sz wc w bg en T0 T) (k : Int32) : Tr (t_781 k T) (Bd sz wc w bg en T0) := by
  rw [te_tak h.1.1 h.1.2]; exact Tr.ok h
theorem bd_stp (h : Bd sz wc w bg en T0 T) : Tr (t_786 T) (Bd sz wc w bg en T0) := by
  rw [te_stp h.1.1 h.1.2]; exact Tr.ok h
theorem bd_num (h : Bd sz wc w bg en T0 T) (a b : Int32) : Tr (t_782 a b T) (fun x => x.1 = -1 ∧ Bd sz wc w bg en T0 x.2) := by
  rw [te_num h.1.1 h.1.2]; exact Tr.ok ⟨rfl, TWe_num h.1, h.2.1.pt (Or.inl rfl) _, h.2.2⟩
theorem bd_st (h : Bd sz wc w bg en T0 T) {c len j : Nat} (v : Int32) (hc : c ≠ 102 ∧ c ≠ 103 ∧ c ≠ 104) (hj : j < len) (hl : len < 2147483648) (hu : upE c j) : Tr (stI T c len (Int32.ofNat j) v) (Bd sz wc w bg en T0) := by
  rw [stI_n hj hl]; exact Tr.ok ⟨TWe_wr h.1 hc, h.2.1.wr hu v, h.2.2⟩
end
theorem bd_neg {sz wc w : Nat} {bg en : Nat → Nat} {T0 T : TS} (h : Bd sz wc w bg en T0 T) : ¬ T.1 311 < 0 := h.1.2
theorem Tr.ifn {A : Type} {p : Prop} [Decidable p] {a b : Option A} {Q : A → Prop} (h : ¬ p) (k : Tr b Q) : Tr (if p then a else b) Q := by rw [if_neg h]; exact k
theorem bd_n {sz wc w : Nat} {bg en : Nat → Nat} {T0 T : TS} (h : Bd sz wc w bg en T0 T) : Bd sz wc w bg en T0 (ptI T 310 (Int32.ofNat w)) := ⟨TWe_num h.1, h.2.1.pt (Or.inl rfl) _, h.2.2⟩
theorem Tr.rw1 {A : Type} {o : Option A} {P : A → Prop} (h : Tr o P) : ∃ x, o = some x ∧ P x := h
section
variable {s0 s : CS} {U0 U : TS} {b0 r mx zm am rl sz wc w np nr : Nat} {bg en Z ZP A RW : Nat → Nat}
theorem OutR.bd {oc : Option (Sum CS (Nat × CS))} {ot : Option TS} {x : Nat} {s1 : CS} {U1 : TS} (hb0 : b0 ≤ s0.2.1) (M : Md s0 U0 b0 r sz wc bg en x s1 U1) (hc : oc = some (.inr (s1.2.1, wwC s1 (Int32.ofNat x)))) (ht : Tr ot (Bd sz wc x bg en (ptI U1 311 (Int32.ofNat x)))) (c1 : s1.2.2.1 ≤ s0.2.2.1 + 2 * wc + 9) (c2 : s1.2.2.2 ≤ s0.2.2.2 + 17 * wc + 93) : OutR s0 U0 b0 r mx zm am rl sz wc np bg en w oc ot := by
  obtain ⟨T, h1, h2, h3, h4⟩ := ht
  exact OutR.er hb0 M hc h1 h3 h4 c1 c2
/-- a cell that isn't below, nor the reader's, is changed -/
theorem Md_cup (M : Md s0 U0 b0 r sz wc bg en w s U) {a : Nat} (c : lCell) (h1 : b0 ≤ a) (h2 : a < s.2.1) (h3 : a ≠ r) : Md s0 U0 b0 r sz wc bg en w (cup s a c) U :=
  ⟨M.1, M.2.1, M.2.2.1, fun q hq => by rw [cup_ne (by omega)]; exact M.2.2.2.1 q hq, wf_cup M.2.2.2.2.1 h2, M.2.2.2.2.2.1, M.2.2.2.2.2.2.1, by rw [cup_ne h3.symm]; exact M.2.2.2.2.2.2.2⟩
theorem Md_nw (B : Bse s0 b0 sz np (U0.2.2.1 102)) (hb0 : b0 ≤ s0.2.1) (M : Md s0 U0 b0 r sz wc bg en w s U) {S : CS} {c : lCell} {k m : Nat} (h : Nw s S c k m) : Md s0 U0 b0 r sz wc bg en w S U := by
  have hr := Md_r B M
  have := M.2.2.2.2.2.1
  exact ⟨M.1, M.2.1, M.2.2.1, fun q hq => by rw [h.2.1 q (by omega)]; exact M.2.2.2.1 q hq, h.2.2.2.1, by rw [h.2.2.1]; omega, M.2.2.2.2.2.2.1, by rw [h.2.1 r (by omega)]; exact M.2.2.2.2.2.2.2⟩
/-- rows beside the words' own change -/
theorem Md_T (M : Md s0 U0 b0 r sz wc bg en w s U) {V : TS} (h1 : V.1 = U.1) (h2 : V.2.1 = U.2.1) (h3 : ∀ c j, ¬ upE c j → V.2.2.1 c j = U.2.2.1 c j) (h4 : V.2.2.2 = U.2.2.2) : Md s0 U0 b0 r sz wc bg en w s V := by
  have hF : FrU U V := ⟨fun c _ _ _ => by rw [h1], h2, h3, h4⟩
  exact ⟨TWd_cg M.1 (by rw [h1]) (by rw [h1]; exact M.1.2.1) M.1.2.2.1 (hF.row (by omega)) (hF.row (by omega)) (hF.row (by omega)), by rw [h1]; exact M.2.1, M.2.2.1.trans hF, M.2.2.2⟩
theorem Md_wr (M : Md s0 U0 b0 r sz wc bg en w s U) {c k : Nat} (hc : upE c k) (v : Int32) : Md s0 U0 b0 r sz wc bg en w s (wrI U c k v) := by
  have := (FrU.refl U).wr hc v
  exact Md_T M rfl this.2.1 this.2.2.1 this.2.2.2
end
theorem mp_add {V V' : TS} {c a n : Nat} {A : Nat → Nat} (ha : a < 20) (h1 : V'.2.2.1 c a = 1) (h2 : ∀ j, j ≠ a → V'.2.2.1 c j = V.2.2.1 c j) : (fun z : Int => if z = (a : Int) then some (Value.ref n) else if 0 ≤ z ∧ z < (20 : Nat) ∧ V.2.2.1 c z.toNat = 1 then some (Value.ref (A z.toNat)) else none) = fun z : Int => if 0 ≤ z ∧ z < (20 : Nat) ∧ V'.2.2.1 c z.toNat = 1 then some (Value.ref ((fun j => if j = a then n else A j) z.toNat)) else none := by
  funext z
  by_cases y : z = (a : Int)
  · rw [if_pos y, y]
    have : (a : Int).toNat = a := rfl
    rw [this, if_pos ⟨by omega, by omega, h1⟩]
    dsimp only
    rw [if_pos rfl]
  · rw [if_neg y]
    by_cases x : 0 ≤ z
    · have hz : z.toNat ≠ a := by omega
      rw [h2 _ hz]
      dsimp only
      rw [if_neg hz]
    · rw [if_neg (fun k => x k.1), if_neg (fun k => x k.1)]
theorem kok_of {s : CS} {es : List (Value × Value)} (hi : ∀ x ∈ es.map Prod.fst, ∃ i, x = .int i) (v : Int32) : KOk s rkI (.int v :: es.map Prod.fst) := KOk_int (fun x hx => by
  rcases List.mem_cons.mp hx with rfl | hx
  · exact ⟨v, rfl⟩
  · exact hi x hx)
theorem mp_20 {V : TS} {c : Nat} {A : Nat → Nat} {es : List (Value × Value)} (hm : Mp rkI es (fun z => if 0 ≤ z ∧ z < (20 : Nat) ∧ V.2.2.1 c z.toNat = 1 then some (.ref (A z.toNat)) else none)) : es.length ≤ 20 := by
  rw [mp_len (n := 20) (P := fun c' => V.2.2.1 c c' = 1) (f := fun z => .ref (A z)) (dP := fun _ => inferInstance) hm]
  exact Nat.le_trans (List.length_filter_le _ _) (by simp)
theorem tol_has {s : CS} {V : TS} {a c k : Nat} {mc : Int32} {es : List (Value × Value)} {A : Nat → Nat} (hk : k < 20) (h : s.1 a = some (true, false, 1042, .int mc :: fl es)) (hm : Mp rkI es (fun z => if 0 ≤ z ∧ z < (20 : Nat) ∧ V.2.2.1 c z.toNat = 1 then some (.ref (A z.toNat)) else none)) (hi : ∀ x ∈ es.map Prod.fst, ∃ i, x = .int i) : tmHas s a (.int (Int32.ofNat k)) = some (if V.2.2.1 c k = 1 then 1 else 0) := by
  rw [tm_has h (kok_of hi _) hm, show rkI (.int (Int32.ofNat k)) = (k : Int) from i_toInt (by omega)]
  have : (k : Int).toNat = k := rfl
  rw [this]
  by_cases y : V.2.2.1 c k = 1
  · rw [if_pos (show 0 ≤ (k : Int) ∧ (k : Int) < (20 : Nat) ∧ V.2.2.1 c k = 1 from ⟨by omega, by omega, y⟩), if_pos y]; rfl
  · rw [if_neg (show ¬ (0 ≤ (k : Int) ∧ (k : Int) < (20 : Nat) ∧ V.2.2.1 c k = 1) from fun z => y z.2.2), if_neg y]; rfl
/-- one is put that wasn't told -/
theorem tol_put {s : CS} {V V' : TS} {a c k n : Nat} {mc : Int32} {es : List (Value × Value)} {A : Nat → Nat} (hk : k < 20) (h : s.1 a = some (true, false, 1042, .int mc :: fl es)) (hm : Mp rkI es (fun z => if 0 ≤ z ∧ z < (20 : Nat) ∧ V.2.2.1 c z.toNat = 1 then some (.ref (A z.toNat)) else none)) (hi : ∀ x ∈ es.map Prod.fst, ∃ i, x = .int i) (h1 : V'.2.2.1 c k = 1) (h2 : ∀ j, j ≠ k → V'.2.2.1 c j = V.2.2.1 c j) : ∃ (o : Value) (es' : List (Value × Value)) (mc' : Int32) (x y : Nat), tmPut s a (.int (Int32.ofNat k)) (.ref n) = some (o, cput s 1042 a x y (.int mc' :: fl es')) ∧ x ≤ 1 ∧ y ≤ 6 ∧ Mp rkI es' (fun z => if 0 ≤ z ∧ z < (20 : Nat) ∧ V'.2.2.1 c z.toNat = 1 then some (.ref ((fun j => if j = k then n else A j) z.toNat)) else none) ∧ ∀ x ∈ es'.map Prod.fst, ∃ i, x = .int i := by
  have hl := mp_20 hm
  obtain ⟨es', mc', x, y, t1, t2, t3, t4, t5, _⟩ := tm_put (v := .ref n) h (kok_of hi (Int32.ofNat k)) hm (by omega)
  refine ⟨_, es', mc', x, y, t1, t2, t3, ?_, fun q hq => ?_⟩
  · rw [show rkI (.int (Int32.ofNat k)) = (k : Int) from i_toInt (by omega)] at t4
    rw [← mp_add (n := n) (A := A) hk h1 h2]
    exact t4
  · rcases t5 q hq with rfl | z
    · exact ⟨_, rfl⟩
    · exact hi q z
