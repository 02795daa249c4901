/-! the lifts: the reference finds a car's best row of a set -/
theorem lexP_nd (n : Nat) : ∀ L : List Nat, L.length = n → L.Pairwise (· < ·) → ∀ p ∈ lexP n L, p.Nodup := by
  induction n with
  | zero =>
    intro L h _ p hp
    unfold lexP at hp
    rw [List.mem_singleton.mp hp]
    exact List.nodup_nil
  | succ n ih =>
    intro L hl hp p hm
    unfold lexP at hm
    obtain ⟨x, hx, h⟩ := List.mem_flatMap.mp hm
    obtain ⟨q, hq, rfl⟩ := List.mem_map.mp h
    have hlen : (L.erase x).length = n := by rw [List.length_erase_of_mem hx, hl]; rfl
    have hpw := hp.sublist (List.erase_sublist (a := x) (l := L))
    have i1 := ih (L.erase x) hlen hpw q hq
    have i2 := (lexP_mem n (L.erase x) hlen hpw q hq).2
    have hnd : L.Nodup := hp.imp (fun h => Nat.ne_of_lt h)
    exact List.nodup_cons.mpr ⟨fun hxq => (hnd.mem_erase_iff.mp ((i2 x).mp hxq)).1 rfl, i1⟩
/-- the places of a set -/
def plL (n σ : Nat) : List Nat := (List.range n).filter (fun k => decide (bt σ k = 1))
theorem plL_suc (n σ : Nat) : plL (n + 1) σ = plL n σ ++ (if bt σ n = 1 then [n] else []) := by
  unfold plL
  rw [List.range_succ, List.filter_append]
  by_cases h : bt σ n = 1 <;> simp [h]
theorem plL_mem {n σ k : Nat} : k ∈ plL n σ ↔ k < n ∧ bt σ k = 1 := by
  unfold plL
  rw [List.mem_filter, List.mem_range, decide_eq_true_eq]
theorem plL_pw (n σ : Nat) : (plL n σ).Pairwise (· < ·) := List.pairwise_lt_range.sublist List.filter_sublist
theorem plL_len (n σ : Nat) : (plL n σ).length ≤ n := by
  have := List.length_filter_le (fun k => decide (bt σ k = 1)) (List.range n)
  rw [List.length_range] at this; exact this
theorem fit_sr {t T : TS} (h : Sr t T) (k c : Nat) : fit T k c = fit t k c := by
  unfold fit rch
  rw [h.2.2.1 167 (by omega) (by omega), h.2.2.1 163 (by omega) (by omega), h.2.2.1 164 (by omega) (by omega), h.2.2.1 161 (by omega) (by omega), h.2.2.1 162 (by omega) (by omega)]
theorem cob_fit {t T : TS} {c : Nat} (h : ∀ k, fit T k c = fit t k c) (k : Nat) : cob T c k = cob t c k := by
  induction k with
  | zero => rfl
  | succ k ih => simp only [cob, ih, h]
theorem cob_bit {t : TS} {c k nc : Nat} (hk : k < nc) : bt (cob t c nc) k = if fit t k c = true then 1 else 0 := by
  induction nc with
  | zero => omega
  | succ m ih =>
    have e : cob t c (m + 1) = cob t c m + (if fit t m c = true then 1 else 0) * 2 ^ m := by
      show cob t c m + (if fit t m c = true then 2 ^ m else 0) = _
      split <;> simp
    rw [e]
    by_cases h : k = m
    · subst h
      rw [bt_top (cob_lt t c k) _ (by split <;> omega)]
    · rw [bt_add (by omega), ih (by omega)]
theorem i_bt {a k : Nat} (ha : a < 2147483648) (hk : k < 32) : (Int32.ofNat a >>> (Int32.ofNat k &&& 31)) &&& 1 = Int32.ofNat (bt a k) := by
  rw [i_and31, Nat.mod_eq_of_lt hk, i_shr ha hk, i_andB]; rfl
theorem i_bt1 {a k : Nat} (ha : a < 2147483648) (hk : k < 32) : ((Int32.ofNat a >>> (Int32.ofNat k &&& 31)) &&& 1 = 1) ↔ bt a k = 1 := by
  rw [i_bt ha hk, i_eqL (by have := bt_2 a k; omega) (by omega)]
theorem i_bt0 {a k : Nat} (ha : a < 2147483648) (hk : k < 32) : ((Int32.ofNat a >>> (Int32.ofNat k &&& 31)) &&& 1 = 0) ↔ bt a k = 0 := by
  rw [i_bt ha hk, i_eqL (by have := bt_2 a k; omega) (by omega)]
/-- the row that is tried is p -/
def RwI (U : TS) (f : Nat → Nat) (p : List Nat) : Prop := U.1 616 = Int32.ofNat p.length ∧ ∀ i, i < p.length → U.2.2.1 169 i = Int32.ofNat (f (p.getD i 0))
/-- what was found last -/
def Fnd (U : TS) (f : Nat → Nat) (at' : Nat) (b : Nat × List Nat) : Prop := U.2.2.2 170 at' = Int64.ofNat b.1 ∧ ∀ i, i < b.2.length → U.2.2.1 171 (6 * at' + i) = Int32.ofNat (f (b.2.getD i 0))
def Oth (T U : TS) (at' : Nat) : Prop := (∀ q, q ≠ at' → U.2.2.2 170 q = T.2.2.2 170 q) ∧ ∀ q, ¬ (6 * at' ≤ q ∧ q < 6 * at' + 6) → U.2.2.1 171 q = T.2.2.1 171 q
theorem Oth.trans {T U V : TS} {a : Nat} (h : Oth T U a) (k : Oth U V a) : Oth T V a := ⟨fun q hq => (k.1 q hq).trans (h.1 q hq), fun q hq => (k.2 q hq).trans (h.2 q hq)⟩
theorem Oth.refl (T : TS) (a : Nat) : Oth T T a := ⟨fun _ _ => rfl, fun _ _ => rfl⟩
/-- begun by a car -/
def begB (t : TS) (f : Nat → Nat) (k x : Nat) : Bool := decide (t.2.2.1 167 (f x) = Int32.ofNat k)
theorem t_right {t U : TS} {nc n k : Nat} {f : Nat → Nat} {p : List Nat} (v : Lv t nc n f) (h : Sr t U) (hp : p.length ≤ 6) (hpn : ∀ x ∈ p, x < n) (hr : RwI U f p) : t_859 (Int32.ofNat k) U = some (if p.tail.all (fun x => !begB t f k x) = true then 1 else 0) := by
  suffices q : Tr (t_859 (Int32.ofNat k) U) (fun x => x = if p.tail.all (fun x => !begB t f k x) = true then 1 else 0) by
    obtain ⟨x, h1, h2⟩ := q
    rw [h1, h2]
  unfold t_859
  refine Tr.bd (P := fun x => x = if p.tail.all (fun x => !begB t f k x) = true then 1 else 0) (wh_cnt (p.length - 1) (fun i st => st = ((if (p.tail.take i).all (fun x => !begB t f k x) = true then 1 else 0), Int32.ofNat (i + 1))) ?_ ?_ rfl) ?_
  · rintro i _ hi rfl
    have hl : i < p.tail.length := by rw [List.length_tail]; exact hi
    have hg : p.tail[i] = p.getD (i + 1) 0 := by
      rw [List.getElem_tail, List.getD_eq_getElem?_getD, List.getElem?_eq_getElem (by omega)]; rfl
    have hx : p.getD (i + 1) 0 < n := by
      rw [← hg]; exact hpn _ (List.mem_of_mem_tail (List.getElem_mem hl))
    have hf := (v.2.2.2.2.2.1 _ hx).1
    refine Or.inr ⟨_, ?_, rfl⟩
    dsimp only
    rw [hr.1, if_pos ((i_lt (by omega) (by omega)).mpr (by omega)), rdI_n (by omega) (by omega), hr.2 (i + 1) (by omega), Option.bind_some, rdI_n (by omega) (by omega), Option.bind_some, i_suc, h.2.2.1 167 (by omega) (by omega), List.take_succ, List.getElem?_eq_getElem hl, hg, List.all_append]
    cases (p.tail.take i).all (fun x => !begB t f k x) with
    | false => simp
    | true =>
      rw [if_pos rfl, if_neg (by decide)]
      generalize p.getD (i + 1) 0 = z
      by_cases e : t.2.2.1 167 (f z) = Int32.ofNat k
      · rw [if_pos e, Option.bind_some]; simp [begB, e]
      · rw [if_neg e, Option.bind_some]; simp [begB, e]
  · rintro _ rfl
    refine ⟨_, ?_, rfl⟩
    dsimp only
    rw [hr.1, if_neg (by rw [i_lt (by omega) (by omega)]; omega), List.take_of_length_le (by rw [List.length_tail]; omega)]
  · rintro _ rfl
    refine ⟨_, ?_, rfl⟩
    by_cases e : p.tail.all (fun x => !begB t f k x) = true
    · rw [if_pos e, if_pos (Or.inr rfl)]
    · rw [if_neg e, if_pos (Or.inl rfl)]
theorem at_of {k σ : Nat} : (64 : Int32) * Int32.ofNat k + Int32.ofNat σ = Int32.ofNat (64 * k + σ) := by rw [i_mulL, i_add]
theorem Sr.wrL {t T : TS} {a : Nat} {x : Int64} (h : Sr t T) : Sr t (wrL T 170 a x) := ⟨h.1, h.2.1, h.2.2.1, fun c hc => by
  funext j
  show (if c = 170 ∧ j = a then x else T.2.2.2 c j) = _
  rw [if_neg (fun z => hc z.1), h.2.2.2 c hc]⟩
theorem Sr.wrI {t T : TS} {c a : Nat} {x : Int32} (h : Sr t T) (hc : c = 169 ∨ c = 171) : Sr t (wrI T c a x) := ⟨h.1, h.2.1, fun d h1 h2 => by
  funext j
  rw [wr_ne (by omega), h.2.2.1 d h1 h2], h.2.2.2⟩
theorem Sr.pt {t T : TS} {x : Int32} (h : Sr t T) : Sr t (ptI T 616 x) := ⟨fun c hc => by rw [pt_1, if_neg hc]; exact h.1 c hc, h.2⟩
theorem wrL_at (s : TS) (c k : Nat) (v : Int64) (q j : Nat) : (wrL s c k v).2.2.2 q j = if q = c ∧ j = k then v else s.2.2.2 q j := rfl
/-- one row is looked at -/
theorem t_look {t U : TS} {nc n k σ : Nat} {f : Nat → Nat} {p : List Nat} {b : Nat × List Nat} (v : Lv t nc n f) (h : Sr t U) (hk : k < nc) (hσ : σ < 64) (hp : p.length ≤ 6) (hpn : ∀ x ∈ p, x < n) (hr : RwI U f p) (hb : b.1 ≤ 1152921504606846976) (hF : Fnd U f (64 * k + σ) b) :
    Tr (Option.bind (t_855 (Int32.ofNat k) U) (fun x8 => Option.bind (t_859 (Int32.ofNat k) U) (fun x9 => Option.bind (α := TS) ((if x9 = 0 then some U else Option.bind (α := Int64) (rdL U 170 256 ((64 * Int32.ofNat k) + Int32.ofNat σ)) (fun x10 => (if (lg_cmp x8 x10) < 0 then Option.bind (α := TS) (stL U 170 256 ((64 * Int32.ofNat k) + Int32.ofNat σ) x8) (fun s11 => wh (S := TS × Int32) (X := TS) (fun p82 => (if p82.2 < (p82.1.1 616) then Option.bind (α := Int32) (rdI p82.1 169 6 p82.2) (fun x12 => Option.bind (α := TS) (stI p82.1 171 1536 ((6 * ((64 * Int32.ofNat k) + Int32.ofNat σ)) + p82.2) x12) (fun s13 => some (.inl (s13, p82.2 + 1)))) else some (.inr p82.1))) (s11, 0)) else some U)))) (fun V => some V)))) (fun V => Sr t V ∧ RwI V f p ∧ Oth U V (64 * k + σ) ∧ Fnd V f (64 * k + σ) (if p.tail.all (fun x => !begB t f k x) = true ∧ rwc (cwN t k f) (bgN t k) (bN (t.2.2.1 159 k)) p < b.1 then (rwc (cwN t k f) (bgN t k) (bN (t.2.2.1 159 k)) p, p) else b)) := by
  have hn := v.2.1
  have hbl := lv_rw v hk p (bgN t k) (bN (t.2.2.1 159 k)) hpn (v.2.2.2.2.1 k hk).2.1.2 (by have := lv_bg v hk; omega)
  rw [t_cost v h hk hp hpn hr.1 hr.2, Option.bind_some, t_right v h hp hpn hr, Option.bind_some, at_of]
  generalize hC : rwc (cwN t k f) (bgN t k) (bN (t.2.2.1 159 k)) p = C at hbl ⊢
  have hC2 : C ≤ 6 * 21100000 := Nat.le_trans hbl (Nat.mul_le_mul_right _ hp)
  by_cases c1 : p.tail.all (fun x => !begB t f k x) = true
  · rw [if_pos c1, if_neg (by decide), rdL_n (by omega) (by omega), hF.1, Option.bind_some]
    by_cases c2 : C < b.1
    · rw [if_pos ((l_cmp (by omega) (by omega)).mpr c2), stL_n (by omega) (by omega), Option.bind_some, if_pos ⟨c1, c2⟩]
      refine Tr.bd (P := fun V => Sr t V ∧ RwI V f p ∧ Oth U V (64 * k + σ) ∧ Fnd V f (64 * k + σ) (C, p)) (wh_cnt p.length (fun i a => a.2 = Int32.ofNat i ∧ Sr t a.1 ∧ RwI a.1 f p ∧ Oth U a.1 (64 * k + σ) ∧ a.1.2.2.2 170 (64 * k + σ) = Int64.ofNat C ∧ ∀ j, j < i → a.1.2.2.1 171 (6 * (64 * k + σ) + j) = Int32.ofNat (f (p.getD j 0))) ?_ ?_ ⟨rfl, h.wrL, hr, ⟨fun q hq => by rw [wrL_at, if_neg (fun z => hq z.2)], fun _ _ => rfl⟩, by rw [wrL_at, if_pos ⟨rfl, rfl⟩], fun j hj => by omega⟩) ?_
      · rintro i ⟨V, a⟩ hi ⟨ha, g1, g2, g3, g4, g5⟩
        dsimp only at ha g1 g2 g3 g4 g5 ⊢
        subst ha
        refine Or.inr ⟨(wrI V 171 (6 * (64 * k + σ) + i) (Int32.ofNat (f (p.getD i 0))), Int32.ofNat (i + 1)), ?_, rfl, g1.wrI (Or.inr rfl), ⟨g2.1, fun j hj => (wr_ne (by omega) _).trans (g2.2 j hj)⟩, ⟨g3.1, fun q hq => ?_⟩, g4, fun j hj => ?_⟩
        · rw [g2.1, if_pos ((i_lt (by omega) (by omega)).mpr hi), rdI_n (by omega) (by omega), g2.2 i hi, Option.bind_some, i_mulL, i_add, stI_n (by omega) (by omega), Option.bind_some, i_suc]
        · rw [wr_at, if_neg (by omega)]; exact g3.2 q hq
        · rw [wr_at]
          by_cases e : j = i
          · rw [if_pos ⟨rfl, by omega⟩, e]
          · rw [if_neg (by omega)]; exact g5 j (by omega)
      · rintro ⟨V, a⟩ ⟨ha, g1, g2, g3, g4, g5⟩
        dsimp only at ha g1 g2 g3 g4 g5 ⊢
        subst ha
        exact ⟨V, by rw [g2.1, if_neg (by rw [i_lt (by omega) (by omega)]; omega)], g1, g2, g3, g4, g5⟩
      · intro V hV
        exact ⟨V, rfl, hV⟩
    · rw [if_neg (fun z => c2 ((l_cmp (by omega) (by omega)).mp z)), Option.bind_some, if_neg (fun z => c2 z.2)]
      exact ⟨U, rfl, h, hr, Oth.refl .., hF⟩
  · rw [if_neg c1, if_pos rfl, Option.bind_some, if_neg (fun z => c1 z.1)]
    exact ⟨U, rfl, h, hr, Oth.refl .., hF⟩
noncomputable def frF (v1 v2 : Int32) (p58 : TS × Int32) : Option (Sum (TS × Int32) TS) := (if p58.2 = 0 then some (.inr p58.1) else Option.bind (α := Int64) (t_855 v1 p58.1) (fun x8 => Option.bind (α := Int32) (t_859 v1 p58.1) (fun x9 => Option.bind (α := TS) ((if x9 = 0 then some p58.1 else Option.bind (α := Int64) (rdL p58.1 170 256 ((64 * v1) + v2)) (fun x10 => (if (lg_cmp x8 x10) < 0 then Option.bind (α := TS) (stL p58.1 170 256 ((64 * v1) + v2) x8) (fun s11 => wh (S := TS × Int32) (X := TS) (fun p82 => (if p82.2 < (p82.1.1 616) then Option.bind (α := Int32) (rdI p82.1 169 6 p82.2) (fun x12 => Option.bind (α := TS) (stI p82.1 171 1536 ((6 * ((64 * v1) + v2)) + p82.2) x12) (fun s13 => some (.inl (s13, p82.2 + 1)))) else some (.inr p82.1))) (s11, 0)) else some p58.1)))) (fun v100 => Option.bind (α := Int32 × TS) (t_860 v100) (fun x14 => some (.inl (x14.2, x14.1)))))))
theorem bind3 {A B C D : Type} {a : Option A} {b : A → Option B} {c : A → B → Option C} {g : C → Option D} {w : C} (h : Option.bind a (fun x => Option.bind (b x) (fun y => Option.bind (c x y) (fun z => some z))) = some w) : Option.bind a (fun x => Option.bind (b x) (fun y => Option.bind (c x y) g)) = g w := by
  cases a with
  | none => cases h
  | some x =>
    rw [Option.bind_some] at h ⊢
    cases hb : b x with
    | none => rw [hb] at h; cases h
    | some y =>
      rw [hb, Option.bind_some] at h
      rw [Option.bind_some]
      cases hc : c x y with
      | none => rw [hc] at h; cases h
      | some z =>
        rw [hc, Option.bind_some] at h
        rw [Option.bind_some, Option.some.inj h]
def updR (t : TS) (f : Nat → Nat) (k : Nat) (b : Nat × List Nat) (p : List Nat) : Nat × List Nat := if p.tail.all (fun x => !begB t f k x) = true ∧ rwc (cwN t k f) (bgN t k) (bN (t.2.2.1 159 k)) p < b.1 then (rwc (cwN t k f) (bgN t k) (bN (t.2.2.1 159 k)) p, p) else b
theorem t_rows {t : TS} {nc n k σ : Nat} {f : Nat → Nat} (v : Lv t nc n f) (hk : k < nc) (hσ : σ < 64) : ∀ (K : List (List Nat)) (p : List Nat) (b : Nat × List Nat) (U : TS), Sr t U → (∀ q ∈ p :: K, q.length ≤ 6 ∧ (∀ x ∈ q, x < n) ∧ q.Nodup) → Chn (p :: K) → (∀ z, (p :: K).getLast? = some z → Dsc z) → RwI U f p → b.1 ≤ 1152921504606846976 → Fnd U f (64 * k + σ) b → Tr (wh (frF (Int32.ofNat k) (Int32.ofNat σ)) (U, 1)) (fun V => Sr t V ∧ Oth U V (64 * k + σ) ∧ Fnd V f (64 * k + σ) ((p :: K).foldl (updR t f k) b)) := by
  intro K
  induction K with
  | nil =>
    intro p b U h hq hch hl hr hb hF
    obtain ⟨q1, q2, q3⟩ := hq p (by simp)
    obtain ⟨V, e, g1, g2, g3, g4⟩ := t_look v h hk hσ q1 q2 hr hb hF
    have st : frF (Int32.ofNat k) (Int32.ofNat σ) (U, 1) = Option.bind (t_860 V) (fun x14 => some (.inl (x14.2, x14.1))) := by
      unfold frF
      rw [if_neg (show ¬ (1 : Int32) = 0 by decide)]
      exact bind3 e
    have hd := hl p rfl
    have hnx := t_next (T := V) (f := f) v.2.2.1 (fun i hi => (v.2.2.2.2.2.1 i hi).1) v.2.2.2.2.2.2.1 q1 q2 q3 g2.1 g2.2
    rcases hnx with ⟨_, e2⟩ | ⟨q, _, hn, _⟩
    · rw [e2, Option.bind_some] at st
      refine ⟨V, ?_, g1, g3, g4⟩
      rw [wh_inl st]
      exact wh_inr (if_pos rfl)
    · exact absurd hn (dsc_no hd)
  | cons p2 K ih =>
    intro p b U h hq hch hl hr hb hF
    obtain ⟨q1, q2, q3⟩ := hq p (by simp)
    obtain ⟨V, e, g1, g2, g3, g4⟩ := t_look v h hk hσ q1 q2 hr hb hF
    have st : frF (Int32.ofNat k) (Int32.ofNat σ) (U, 1) = Option.bind (t_860 V) (fun x14 => some (.inl (x14.2, x14.1))) := by
      unfold frF
      rw [if_neg (show ¬ (1 : Int32) = 0 by decide)]
      exact bind3 e
    have hnx := t_next (T := V) (f := f) v.2.2.1 (fun i hi => (v.2.2.2.2.2.1 i hi).1) v.2.2.2.2.2.2.1 q1 q2 q3 g2.1 g2.2
    rcases hnx with ⟨hd, _⟩ | ⟨q, W, hn, hql, hW, hWr, e2⟩
    · exact absurd hch.1 (dsc_no hd)
    · obtain rfl := nx_det hn hch.1
      rw [e2, Option.bind_some] at st
      have hS : Sr t W := ⟨fun c hc => by rw [hW.1]; exact g1.1 c hc, hW.2.1.trans g1.2.1, fun c h1 h2 => (hW.2.2.1 c h1).trans (g1.2.2.1 c h1 h2), fun c hc => by rw [hW.2.2.2]; exact g1.2.2.2 c hc⟩
      have hO : Oth V W (64 * k + σ) := ⟨fun q _ => by rw [hW.2.2.2], fun q _ => by rw [hW.2.2.1 171 (by omega)]⟩
      obtain ⟨X, e3, x1, x2, x3⟩ := ih q (updR t f k b p) W hS (fun z hz => hq z (List.mem_cons_of_mem _ hz)) hch.2 (fun z hz => hl z (by rw [List.getLast?_cons_cons]; exact hz)) ⟨by rw [hW.1, hql]; exact g2.1, hWr⟩ (by
        show (if _ then _ else b).1 ≤ _
        split
        · rename_i hc
          exact Nat.le_trans (Nat.le_of_lt hc.2) hb
        · exact hb) ⟨by rw [hW.2.2.2]; exact g4.1, fun i hi => by rw [hW.2.2.1 171 (by omega)]; exact g4.2 i hi⟩
      refine ⟨X, ?_, x1, (g3.trans hO).trans x2, x3⟩
      rw [wh_inl st]
      exact e3
/-- the best row that a car has for a set; none (2^60) if it can't take it -/
noncomputable def bstR (t : TS) (n : Nat) (f : Nat → Nat) (k σ : Nat) : Nat × List Nat := @ite _ (feas (fun k i => fit t k (f i)) n k σ) (Classical.propDecidable _) (bsr (cwN t k f) (begB t f k) (bgN t k) (bN (t.2.2.1 159 k)) (plL n σ) (1152921504606846976, [])) (1152921504606846976, [])
theorem t_find {t T : TS} {nc n k σ : Nat} {f : Nat → Nat} (v : Lv t nc n f) (h0 : 0 < n → t.1 613 = 0) (h : Sr t T) (hk : k < nc) (hσ : σ < 64) : Tr (t_854 (Int32.ofNat k) (Int32.ofNat σ) T) (fun V => Sr t V ∧ Oth T V (64 * k + σ) ∧ Fnd V f (64 * k + σ) (bstR t n f k σ)) := by
  have hn := v.2.1
  have hn6 := v.2.2.1
  unfold t_854
  have e0 : stL T 170 256 (64 * Int32.ofNat k + Int32.ofNat σ) 1152921504606846976 = some (wrL T 170 (64 * k + σ) 1152921504606846976) := by
    rw [at_of]; exact stL_n (by omega) (by omega)
  rw [e0, Option.bind_some, Option.bind_some]
  generalize hT1 : ptI (wrL T 170 (64 * k + σ) 1152921504606846976) 616 0 = T1
  have s1 : Sr t T1 := by rw [← hT1]; exact (h.wrL).pt
  have o1 : Oth T T1 (64 * k + σ) := by
    rw [← hT1]
    exact ⟨fun q hq => by
      show (wrL T 170 (64 * k + σ) 1152921504606846976).2.2.2 170 q = _
      rw [wrL_at, if_neg (fun z => hq z.2)], fun _ _ => rfl⟩
  have c1 : T1.2.2.2 170 (64 * k + σ) = Int64.ofNat 1152921504606846976 := by
    rw [← hT1]
    show (wrL T 170 (64 * k + σ) 1152921504606846976).2.2.2 170 _ = _
    rw [wrL_at, if_pos ⟨rfl, rfl⟩]; rfl
  have z1 : T1.1 616 = 0 := by rw [← hT1]; rfl
  refine Tr.bd (P := fun (x : Sum TS TS) => (∃ V, x = .inr V ∧ Sr t V ∧ Oth T V (64 * k + σ) ∧ V.2.2.2 170 (64 * k + σ) = Int64.ofNat 1152921504606846976 ∧ ¬ feas (fun k i => fit t k (f i)) n k σ) ∨ ∃ V, x = .inl V ∧ Sr t V ∧ Oth T V (64 * k + σ) ∧ V.2.2.2 170 (64 * k + σ) = Int64.ofNat 1152921504606846976 ∧ feas (fun k i => fit t k (f i)) n k σ ∧ RwI V f (plL n σ)) ?_ ?_
  · refine Tr.bd (P := fun (x : Sum TS (Sum TS TS)) => (∃ V, x = .inl V ∧ Sr t V ∧ Oth T V (64 * k + σ) ∧ V.2.2.2 170 (64 * k + σ) = Int64.ofNat 1152921504606846976 ∧ ¬ feas (fun k i => fit t k (f i)) n k σ) ∨ ∃ V, x = .inr (.inl V) ∧ Sr t V ∧ Oth T V (64 * k + σ) ∧ V.2.2.2 170 (64 * k + σ) = Int64.ofNat 1152921504606846976 ∧ feas (fun k i => fit t k (f i)) n k σ ∧ RwI V f (plL n σ)) (wh_cnt n (fun i a => a.2 = Int32.ofNat i ∧ Sr t a.1 ∧ Oth T a.1 (64 * k + σ) ∧ a.1.2.2.2 170 (64 * k + σ) = Int64.ofNat 1152921504606846976 ∧ feas (fun k i => fit t k (f i)) i k σ ∧ RwI a.1 f (plL i σ)) ?_ ?_ ⟨rfl, s1, o1, c1, fun j hj => by omega, z1, fun j hj => by simp [plL] at hj⟩) ?_
    · rintro i ⟨V, a⟩ hi ⟨ha, g1, g2, g3, g4, g5⟩
      dsimp only at ha g1 g2 g3 g4 g5 ⊢
      subst ha
      have hpl := plL_len i σ
      obtain ⟨w1, w2, w3⟩ := v.2.2.2.2.2.1 i hi
      rw [g1.1 614 (by omega), v.2.2.2.2.2.2.2.1, if_pos ((i_lt (by omega) (by omega)).mpr hi), rdI_n (by omega) (by omega), g1.2.2.1 168 (by omega) (by omega), v.2.2.2.2.2.2.2.2 i hi]
      by_cases hb : bt σ i = 1
      · rw [if_pos ((i_bt1 (by omega) (by omega)).mpr hb), Option.bind_some, g5.1, stI_n (by omega) (by omega), Option.bind_some, Option.bind_some, wr_1, g5.1, i_suc]
        generalize hV2 : ptI (wrI V 169 (plL i σ).length (Int32.ofNat (f i))) 616 (Int32.ofNat ((plL i σ).length + 1)) = V2
        have k1 : Sr t V2 := by rw [← hV2]; exact (g1.wrI (Or.inl rfl)).pt
        have k2 : Oth T V2 (64 * k + σ) := by
          rw [← hV2]
          exact ⟨g2.1, fun q hq => (wr_ne (s := V) (by omega) q).trans (g2.2 q hq)⟩
        have k3 : V2.2.2.2 170 (64 * k + σ) = Int64.ofNat 1152921504606846976 := by rw [← hV2]; exact g3
        have k5 : RwI V2 f (plL (i + 1) σ) := by
          rw [plL_suc, if_pos hb]
          refine ⟨by rw [← hV2]; simp [pt_1], fun j hj => ?_⟩
          simp only [List.length_append, List.length_cons, List.length_nil] at hj
          rw [← hV2]
          show (wrI V 169 (plL i σ).length (Int32.ofNat (f i))).2.2.1 169 j = _
          rw [wr_at]
          by_cases e : j = (plL i σ).length
          · rw [if_pos ⟨rfl, e⟩, e]; simp
          · rw [if_neg (fun z => e z.2), g5.2 j (by omega), getD_app (by omega)]
        have r2 : rdI V2 168 6 (Int32.ofNat i) = some (Int32.ofNat (f i)) := by
          rw [rdI_n (by omega) (by omega), k1.2.2.1 168 (by omega) (by omega), v.2.2.2.2.2.2.2.2 i hi]
        have hcars := t_cars (t := V2) (nc := nc) (nk := 0) (c := f i) ((k1.1 600 (by omega)).trans v.1) hn w1 (by rw [k1.2.2.1 167 (by omega) (by omega)]; exact w3)
        rw [k1.1 613 (by omega), if_pos (h0 (by omega)), cob_fit (t := t) (fun q => fit_sr k1 q (f i))] at hcars
        have hlt := cob_lt t (f i) nc
        have h16 : 2 ^ nc ≤ 16 := Nat.pow_le_pow_right (n := 2) (by omega) hn
        rw [r2, Option.bind_some, hcars, Option.bind_some]
        by_cases hf : fit t k (f i) = true
        · have hb2 : bt (cob t (f i) nc) k = 1 := by rw [cob_bit hk, if_pos hf]
          rw [if_neg (by rw [i_bt0 (by omega) (by omega), hb2]; decide), Option.bind_some, Sum.elim_inl]
          refine Or.inr ⟨(V2, Int32.ofNat (i + 1)), by rw [i_suc], rfl, k1, k2, k3, fun j hj hbj => ?_, k5⟩
          by_cases e : j = i
          · rw [e]; exact hf
          · exact g4 j (by omega) hbj
        · have hb2 : bt (cob t (f i) nc) k = 0 := by rw [cob_bit hk, if_neg hf]
          rw [if_pos ((i_bt0 (by omega) (by omega)).mpr hb2), Option.bind_some, Sum.elim_inr]
          exact Or.inl ⟨_, rfl, Or.inl ⟨V2, rfl, k1, k2, k3, fun z => hf (z i hi hb)⟩⟩
      · rw [if_neg (fun z => hb ((i_bt1 (by omega) (by omega)).mp z)), Option.bind_some, Sum.elim_inl, i_suc]
        refine Or.inr ⟨(V, Int32.ofNat (i + 1)), rfl, rfl, g1, g2, g3, fun j hj hbj => ?_, by rw [plL_suc, if_neg hb, List.append_nil]; exact g5⟩
        by_cases e : j = i
        · rw [e] at hbj; exact absurd hbj hb
        · exact g4 j (by omega) hbj
    · rintro ⟨V, a⟩ ⟨ha, g1, g2, g3, g4, g5⟩
      dsimp only at ha g1 g2 g3 g4 g5 ⊢
      subst ha
      refine ⟨_, ?_, Or.inr ⟨V, rfl, g1, g2, g3, g4, g5⟩⟩
      rw [g1.1 614 (by omega), v.2.2.2.2.2.2.2.1, if_neg (by rw [i_lt (by omega) (by omega)]; omega)]
    · rintro _ (⟨V, rfl, hV⟩ | ⟨V, rfl, hV⟩)
      · exact ⟨_, rfl, Or.inl ⟨V, rfl, hV⟩⟩
      · exact ⟨_, rfl, Or.inr ⟨V, rfl, hV⟩⟩
  · rintro _ (⟨V, rfl, g1, g2, g3, g4⟩ | ⟨V, rfl, g1, g2, g3, g4, g5⟩)
    · refine ⟨V, rfl, g1, g2, ?_⟩
      unfold bstR
      rw [if_neg g4]
      exact ⟨g3, fun i hi => by simp at hi⟩
    · have hok := lexP_ok (plL n σ).length (plL n σ) rfl (plL_pw n σ)
      have hmem := lexP_mem (plL n σ).length (plL n σ) rfl (plL_pw n σ)
      have hnd := lexP_nd (plL n σ).length (plL n σ) rfl (plL_pw n σ)
      have hpl := plL_len n σ
      cases hK : lexP (plL n σ).length (plL n σ) with
      | nil => rw [hK] at hok; exact absurd hok.1 (by simp)
      | cons p K =>
        rw [hK] at hok hmem hnd
        obtain rfl : p = plL n σ := Option.some.inj hok.1
        have hrun := t_rows v hk hσ K (plL n σ) (1152921504606846976, []) V g1 (fun q hq => ⟨by rw [(hmem q hq).1]; omega, fun x hx => (plL_mem.mp (((hmem q hq).2 x).mp hx)).1, hnd q hq⟩) hok.2.2 (fun z hz => by
          rw [hok.2.1] at hz
          obtain rfl := Option.some.inj hz
          unfold Dsc
          rw [List.pairwise_reverse]
          exact plL_pw n σ) g5 (Nat.le_refl _) ⟨g3, fun i hi => by simp at hi⟩
        refine Tr.bd hrun (fun W hW => ⟨W, rfl, hW.1, g2.trans hW.2.1, ?_⟩)
        unfold bstR
        rw [if_pos g4]
        unfold bsr
        rw [hK]
        exact hW.2.2
