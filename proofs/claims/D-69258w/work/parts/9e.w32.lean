/-! the warden: a sentence being read: what stays -/
def upE (c j : Nat) : Prop := (c = 108 ∧ 240 ≤ j) ∨ (105 ≤ c ∧ c ≤ 113 ∧ c ≠ 108 ∧ 20 ≤ j) ∨ (114 ≤ c ∧ c ≤ 116 ∧ 50 ≤ j)
def FrU (U V : TS) : Prop := (∀ c, c ≠ 310 → c ≠ 311 → c ≠ 322 → V.1 c = U.1 c) ∧ V.2.1 = U.2.1 ∧ (∀ c j, ¬ upE c j → V.2.2.1 c j = U.2.2.1 c j) ∧ V.2.2.2 = U.2.2.2
theorem FrU.refl (U : TS) : FrU U U := ⟨fun _ _ _ _ => rfl, rfl, fun _ _ _ => rfl, rfl⟩
theorem FrU.trans {U V W : TS} (h : FrU U V) (k : FrU V W) : FrU U W := ⟨fun c h1 h2 h3 => (k.1 c h1 h2 h3).trans (h.1 c h1 h2 h3), k.2.1.trans h.2.1, fun c j hc => (k.2.2.1 c j hc).trans (h.2.2.1 c j hc), k.2.2.2.trans h.2.2.2⟩
theorem FrU.pt {U V : TS} (h : FrU U V) {c : Nat} (hc : c = 310 ∨ c = 311 ∨ c = 322) (v : Int32) : FrU U (ptI V c v) :=
  ⟨fun d h1 h2 h3 => by rw [pt_1, if_neg (by omega)]; exact h.1 d h1 h2 h3, h.2.1, h.2.2.1, h.2.2.2⟩
theorem FrU.wr {U V : TS} (h : FrU U V) {c k : Nat} (hc : upE c k) (v : Int32) : FrU U (wrI V c k v) :=
  ⟨h.1, h.2.1, fun d j hd => by rw [wr_at, if_neg (fun z => hd (by rw [z.1, z.2]; exact hc))]; exact h.2.2.1 d j hd, h.2.2.2⟩
theorem FrU.row {U V : TS} (h : FrU U V) {c : Nat} (hc : c < 105 ∨ 116 < c) : V.2.2.1 c = U.2.2.1 c := funext (fun j => h.2.2.1 c j (by unfold upE; omega))
theorem TWd_cg {T T' : TS} {sz wc w w' : Nat} {bg en : Nat → Nat} (h : TWd T sz wc w bg en) (h1 : T'.1 307 = T.1 307) (h2 : T'.1 310 = Int32.ofNat w') (hw : w' ≤ wc) (h3 : T'.2.2.1 102 = T.2.2.1 102) (h4 : T'.2.2.1 103 = T.2.2.1 103) (h5 : T'.2.2.1 104 = T.2.2.1 104) : TWd T' sz wc w' bg en := by
  obtain ⟨t1, t2, t3, t4, t5, t6, t7, t8⟩ := h
  unfold TWd
  rw [h1, h3, h4, h5]
  exact ⟨t1, h2, hw, t4, t5, t6, t7, t8⟩
/-- the base: what lies below the reading -/
def Bse (s : CS) (b0 sz np : Nat) (f : Nat → Int32) : Prop := 179 ≤ b0 ∧ (∃ fs, s.1 151 = some (true, false, 47, .ref 152 :: fs)) ∧ (∃ (mc : Int32) (P : Nat → Value), s.1 152 = some (true, false, 1013, .int mc :: rowC P np)) ∧ s.1 153 = some (true, false, 1035, rowC (fun i => .int (f i)) sz) ∧ (∀ p ∈ sTab7, s.1 p.1 = some (false, false, 1000, txV p.2)) ∧ 0 < np ∧ np ≤ 50
theorem Bse_cg {s s' : CS} {b0 sz np : Nat} {f : Nat → Int32} (h : Bse s b0 sz np f) (k : ∀ q, q < b0 → s'.1 q = s.1 q) : Bse s' b0 sz np f := by
  obtain ⟨h1, ⟨fs, h2⟩, ⟨mc, P, h3⟩, h4, h5, h6⟩ := h
  refine ⟨h1, ⟨fs, by rw [k _ (by omega)]; exact h2⟩, ⟨mc, P, by rw [k _ (by omega)]; exact h3⟩, by rw [k _ (by omega)]; exact h4, fun p hp => ?_, h6⟩
  have : p.1 < 60 := by
    have : ∀ p ∈ sTab7, p.1 < 60 := by decide
    exact this p hp
  rw [k _ (by omega)]; exact h5 p hp
/-- in the midst of a sentence -/
def Md (s0 : CS) (U0 : TS) (b0 r sz wc : Nat) (bg en : Nat → Nat) (w : Nat) (s : CS) (U : TS) : Prop := TWd U sz wc w bg en ∧ U.1 311 < 0 ∧ FrU U0 U ∧ (∀ q, q < b0 → s.1 q = s0.1 q) ∧ wfS s ∧ s0.2.1 ≤ s.2.1 ∧ b0 ≤ r ∧ s.1 r = some (rdW bg en sz wc w)
/-- something was wrong -/
def Er (s0 : CS) (U0 : TS) (b0 wc : Nat) (e : Nat) (s : CS) (U : TS) : Prop := FrU U0 U ∧ (∃ n, n ≤ wc ∧ U.1 311 = Int32.ofNat n ∧ ∃ a b c d e' f, s.1 e = some (true, false, 88, [a, b, c, d, e', f, .int (Int32.ofNat n)])) ∧ (∀ q, q < b0 → s.1 q = s0.1 q) ∧ wfS s ∧ s0.2.1 ≤ s.2.1 ∧ s.2.2.1 ≤ s0.2.2.1 + 2 * wc + 10 ∧ s.2.2.2 ≤ s0.2.2.2 + 17 * wc + 100
theorem wf_ww {s : CS} {v : Int32} (hw : wfS s) : wfS (wwC s v) := by
  intro b hb
  have hb : s.2.1 + 1 ≤ b := hb
  show lUpd s.1 s.2.1 _ b = none
  rw [lUpd_at, if_neg (by omega)]; exact hw b (by omega)
theorem er_mk {s0 s : CS} {U0 U : TS} {b0 wc n : Nat} (hB : ∀ q, q < b0 → s.1 q = s0.1 q) (hw : wfS s) (hb : s0.2.1 ≤ s.2.1) (hb0 : b0 ≤ s0.2.1) (hF : FrU U0 U) (h1 : U.1 311 = Int32.ofNat n) (hn : n ≤ wc) (c1 : s.2.2.1 ≤ s0.2.2.1 + 2 * wc + 9) (c2 : s.2.2.2 ≤ s0.2.2.2 + 17 * wc + 93) : Er s0 U0 b0 wc s.2.1 (wwC s (Int32.ofNat n)) U := by
  refine ⟨hF, ⟨n, hn, h1, _, _, _, _, _, _, show (wwC s (Int32.ofNat n)).1 s.2.1 = _ from if_pos rfl⟩, fun q hq => ?_, wf_ww hw, Nat.le_succ_of_le hb, by show s.2.2.1 + 1 ≤ _; omega, by show s.2.2.2 + 7 ≤ _; omega⟩
  show lUpd s.1 s.2.1 _ q = _
  rw [lUpd_at, if_neg (by omega)]; exact hB q hq
section
variable {s0 s : CS} {U0 U : TS} {b0 r sz wc w np : Nat} {bg en : Nat → Nat}
theorem Md_tx (B : Bse s0 b0 sz np (U0.2.2.1 102)) (M : Md s0 U0 b0 r sz wc bg en w s U) : s.1 153 = some (true, false, 1035, rowC (fun i => .int (U.2.2.1 102 i)) sz) := by
  have := (Bse_cg B M.2.2.2.1).2.2.2.1
  rw [this, M.2.2.1.row (by omega)]
theorem Md_r (B : Bse s0 b0 sz np (U0.2.2.1 102)) (M : Md s0 U0 b0 r sz wc bg en w s U) : r < s.2.1 := wf_lt M.2.2.2.2.1 M.2.2.2.2.2.2.2
/-- the next word -/
def nxC (r sz wc : Nat) (bg en : Nat → Nat) (w : Nat) (s : CS) : CS := cup s r (rdW bg en sz wc (w + 1))
theorem Md_nx (M : Md s0 U0 b0 r sz wc bg en w s U) (hw : w < wc) : Md s0 U0 b0 r sz wc bg en (w + 1) (nxC r sz wc bg en w s) (ptI U 310 (Int32.ofNat (w + 1))) := by
  obtain ⟨m1, m2, m3, m4, m5, m6, m7, m8⟩ := M
  exact ⟨TWd_cg m1 rfl rfl hw rfl rfl rfl, m2, m3.pt (Or.inl rfl) _, fun q hq => by unfold nxC; rw [cup_ne (by omega)]; exact m4 q hq, wf_cup m5 (wf_lt m5 m8), m6, m7, cup_eq ..⟩
theorem c_nxM (B : Bse s0 b0 sz np (U0.2.2.1 102)) (M : Md s0 U0 b0 r sz wc bg en w s U) (hw : w < wc) : c_1009 r s = some (nxC r sz wc bg en w s) :=
  c_nxtW (Md_tx B M) M.1.2.2.2.2.1 M.1.2.2.2.2.2.2.2 hw M.2.2.2.2.2.2.2
/-- a keyword is taken -/
theorem md_tak (B : Bse s0 b0 sz np (U0.2.2.1 102)) (M : Md s0 U0 b0 r sz wc bg en w s U) {q : Nat} {l : List Nat} {k : Int32} (hm : (q, l) ∈ sTab7) (hk : k = Int32.ofNat (enc l)) (hl : ∀ c ∈ l, 97 ≤ c ∧ c ≤ 122) (hn : 0 < l.length) (hn5 : l.length ≤ 5) :
    (w < wc ∧ c_1017 r q s = some (.inl (nxC r sz wc bg en w s)) ∧ t_781 k U = some (ptI U 310 (Int32.ofNat (w + 1)))) ∨ (c_1017 r q s = some (.inr (s.2.1, wwC s (Int32.ofNat w))) ∧ t_781 k U = some (ptI U 311 (Int32.ofNat w))) := by
  have hx := Md_tx B M
  have hq : s.1 q = some (false, false, 1000, txV l) := (Bse_cg B M.2.2.2.1).2.2.2.2.1 (q, l) hm
  have e1 := c_takW M.2.2.2.2.1 M.1 hx M.2.2.2.2.2.2.2 hq (by omega) hn
  have e2 := t_takW M.1 M.2.1 hl hn hn5
  rw [hk]
  by_cases y : wdIs (U.2.2.1 102) bg en wc w l
  · rw [if_pos y] at e1 e2
    exact Or.inl ⟨y.1, e1, e2⟩
  · rw [if_neg y] at e1 e2
    exact Or.inr ⟨e1, e2⟩
/-- the semicolon is taken -/
theorem md_stp (B : Bse s0 b0 sz np (U0.2.2.1 102)) (M : Md s0 U0 b0 r sz wc bg en w s U) :
    (w < wc ∧ c_1017 r 51 s = some (.inl (nxC r sz wc bg en w s)) ∧ t_786 U = some (ptI U 310 (Int32.ofNat (w + 1)))) ∨ (c_1017 r 51 s = some (.inr (s.2.1, wwC s (Int32.ofNat w))) ∧ t_786 U = some (ptI U 311 (Int32.ofNat w))) := by
  have hx := Md_tx B M
  have hq : s.1 51 = some (false, false, 1000, txV [59]) := (Bse_cg B M.2.2.2.1).2.2.2.2.1 (51, [59]) (by decide)
  have e1 := c_takW M.2.2.2.2.1 M.1 hx M.2.2.2.2.2.2.2 hq (by decide) (by decide)
  have e2 := t_stpW M.1 M.2.1
  by_cases y : wdIs (U.2.2.1 102) bg en wc w [59]
  · rw [if_pos y] at e1 e2
    exact Or.inl ⟨y.1, e1, e2⟩
  · rw [if_neg y] at e1 e2
    exact Or.inr ⟨e1, e2⟩
/-- a number is taken -/
theorem md_num (B : Bse s0 b0 sz np (U0.2.2.1 102)) (M : Md s0 U0 b0 r sz wc bg en w s U) (a n : Nat) (ha : a < 2147483648) (hn : n < 2147483648) :
    (w < wc ∧ ∃ v, a ≤ v ∧ v ≤ n ∧ c_1018 r (Int32.ofNat a) (Int32.ofNat n) s = some (.inl (Int32.ofNat v, nxC r sz wc bg en w s)) ∧ t_782 (Int32.ofNat a) (Int32.ofNat n) U = some (Int32.ofNat v, ptI U 310 (Int32.ofNat (w + 1)))) ∨ (c_1018 r (Int32.ofNat a) (Int32.ofNat n) s = some (.inr (s.2.1, wwC s (Int32.ofNat w))) ∧ t_782 (Int32.ofNat a) (Int32.ofNat n) U = some (-1, ptI (ptI U 311 (Int32.ofNat w)) 310 (Int32.ofNat w))) := by
  have hx := Md_tx B M
  have e1 := c_numW M.2.2.2.2.1 M.1 hx M.2.2.2.2.2.2.2 (Int32.ofNat a) (Int32.ofNat n)
  have e2 := t_numW M.1 M.2.1 (Int32.ofNat a) (Int32.ofNat n)
  by_cases y : inN U bg en wc w (Int32.ofNat a) (Int32.ofNat n)
  · rw [if_pos y] at e1 e2
    obtain ⟨v, hv, ev⟩ := nu_in (n := n) hn (fun z => y.2.1 (by
      rw [Int32.lt_iff_toInt_lt] at z ⊢
      rw [i_toInt ha]
      have : (0 : Int32).toInt = 0 := rfl
      omega)) y.2.2
    rw [ev] at e1 e2
    refine Or.inl ⟨y.1.1, v, ?_, hv, e1, e2⟩
    have := y.2.1
    rw [ev, i_lt (by omega) ha] at this
    omega
  · rw [if_neg y] at e1 e2
    exact Or.inr ⟨e1, e2⟩
/-- a number is looked at -/
theorem md_pk (B : Bse s0 b0 sz np (U0.2.2.1 102)) (M : Md s0 U0 b0 r sz wc bg en w s U) (n : Nat) (hn : n < 2147483648) :
    (w < wc ∧ ∃ v, v ≤ n ∧ c_1015 r 0 (Int32.ofNat n) s = some (.inl (Int32.ofNat v, s)) ∧ t_779 0 (Int32.ofNat n) U = some (Int32.ofNat v, U) ∧ nuW U bg en w = Int32.ofNat v ∧ inN U bg en wc w 0 (Int32.ofNat n)) ∨ (c_1015 r 0 (Int32.ofNat n) s = some (.inr (s.2.1, wwC s (Int32.ofNat w))) ∧ t_779 0 (Int32.ofNat n) U = some (-1, ptI U 311 (Int32.ofNat w)) ∧ ¬ inN U bg en wc w 0 (Int32.ofNat n)) := by
  have hx := Md_tx B M
  have e1 := c_peek M.2.2.2.2.1 M.1 hx M.2.2.2.2.2.2.2 0 (Int32.ofNat n)
  have e2 := t_lokW M.1 M.2.1 0 (Int32.ofNat n)
  by_cases y : inN U bg en wc w 0 (Int32.ofNat n)
  · rw [if_pos y] at e1 e2
    obtain ⟨v, hv, ev⟩ := nu_in (n := n) hn y.2.1 y.2.2
    rw [ev] at e1 e2
    exact Or.inl ⟨y.1.1, v, hv, e1, e2, ev, y⟩
  · rw [if_neg y] at e1 e2
    exact Or.inr ⟨e1, e2, y⟩
/-- the twin after something was wrong -/
def TWe (sz wc w : Nat) (bg en : Nat → Nat) (U : TS) : Prop := TWd U sz wc w bg en ∧ ¬ U.1 311 < 0
theorem TWe_mk (M : Md s0 U0 b0 r sz wc bg en w s U) : TWe sz wc w bg en (ptI U 311 (Int32.ofNat w)) ∧ FrU U0 (ptI U 311 (Int32.ofNat w)) ∧ (ptI U 311 (Int32.ofNat w)).1 311 = Int32.ofNat w := by
  obtain ⟨t1, t2, t3, t4, t5, t6⟩ := M.1
  refine ⟨⟨TWd_cg M.1 rfl t2 t3 rfl rfl rfl, ?_⟩, M.2.2.1.pt (Or.inr (Or.inl rfl)) _, rfl⟩
  show ¬ Int32.ofNat w < 0
  exact i_nlt0 (by omega)
theorem TWe_num {T : TS} (h : TWe sz wc w bg en T) : TWe sz wc w bg en (ptI T 310 (Int32.ofNat w)) := ⟨TWd_cg h.1 rfl rfl h.1.2.2.1 rfl rfl rfl, h.2⟩
theorem TWe_wr {T : TS} (h : TWe sz wc w bg en T) {c k : Nat} {v : Int32} (hc : c ≠ 102 ∧ c ≠ 103 ∧ c ≠ 104) : TWe sz wc w bg en (wrI T c k v) := by
  have e : ∀ d, d ≠ c → (wrI T c k v).2.2.1 d = T.2.2.1 d := fun d hd => funext (fun j => by rw [wr_at, if_neg (fun z => hd z.1)])
  exact ⟨TWd_cg h.1 rfl h.1.2.1 h.1.2.2.1 (e _ hc.1.symm) (e _ hc.2.1.symm) (e _ hc.2.2.symm), h.2⟩
end
