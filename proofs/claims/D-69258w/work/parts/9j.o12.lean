/-! building: edges, one place -/
section
variable {s S B U : CS} {t : TS} {L : PLn} {nl : Nat} {LC LD : Nat → Nat} {DC : Nat → Nat → Nat} {nd : Nat → Nat} {d x y A : Nat} {e q : Nat → Int32} {W : Nat → Nat} {ne J : Nat}
theorem lnb_cv (r : rwP t L nl nd) (hd : d < 4) (hx : x < 24) (hy : y < 24) : (lnb t d (Int32.ofNat x) (Int32.ofNat y) nl = -1 ∧ ∀ l, l < nl → ¬ cvP L d x y l) ∨ ∃ l, l < nl ∧ lnb t d (Int32.ofNat x) (Int32.ofNat y) nl = Int32.ofNat l ∧ cvP L d x y l := by
  classical
  have key : ∀ n, n ≤ nl → (lnb t d (Int32.ofNat x) (Int32.ofNat y) n = -1 ∧ ∀ l, l < n → ¬ cvP L d x y l) ∨ ∃ l, l < n ∧ lnb t d (Int32.ofNat x) (Int32.ofNat y) n = Int32.ofNat l ∧ cvP L d x y l := by
    intro n
    induction n with
    | zero => intro _; exact Or.inl ⟨rfl, fun l hl => absurd hl (Nat.not_lt_zero _)⟩
    | succ n ih =>
      intro hn
      have iff := lnC_cv r hd hx hy (show n < nl by omega)
      rw [show lnb t d (Int32.ofNat x) (Int32.ofNat y) (n + 1) = if lnC t d (Int32.ofNat x) (Int32.ofNat y) n then Int32.ofNat n else lnb t d (Int32.ofNat x) (Int32.ofNat y) n from rfl]
      by_cases z : lnC t d (Int32.ofNat x) (Int32.ofNat y) n
      · rw [if_pos z]
        exact Or.inr ⟨n, by omega, rfl, iff.mp z⟩
      · rw [if_neg z]
        rcases ih (by omega) with ⟨h1, h2⟩ | ⟨l, h1, h2, h3⟩
        · refine Or.inl ⟨h1, fun l hl => ?_⟩
          by_cases w : l = n
          · rw [w]; exact fun v => z (iff.mpr v)
          · exact h2 l (by omega)
        · exact Or.inr ⟨l, by omega, h2, h3⟩
  exact key nl (Nat.le_refl _)
theorem map_row {l : List Nat} {f : Nat → Value} : l.map f = rowC (fun i => f (l.getD i 0)) l.length := by
  refine rowC_ext (List.length_map ..) (fun k hk => ?_)
  rw [List.getElem?_map, List.getElem?_eq_getElem hk, getD_lt hk]
  rfl
/-- a door's rate -/
theorem c_rate (r : rwP t L nl nd) {f : List Value} {ml : Int32} (g : s.1 102 = some (true, false, 67, .ref 103 :: f)) (g3 : s.1 103 = some (true, false, 1013, .int ml :: rowC (fun l => .ref (LC l)) nl)) (H : DrH s t L nl LC LD DC nd) (hD : ∀ l i, l < nl → i < nd l → s.1 (DC l i) = some (dcC t l i)) {l k : Nat} (hl : l < nl) (hk : k < nd l) : c_922 102 (Int32.ofNat (6 * l + k)) s = some (t.2.2.1 57 (6 * l + k)) := by
  have n20 := r.1.1
  obtain ⟨h1, h2, ⟨m, h3⟩, _⟩ := H l hl
  have d1 := hD l k hl hk
  unfold c_922
  rw [xN_o (b := 103) g rfl rfl, Option.bind_some, if_pos (isK_t g3 rfl), i_divL (by omega) (by omega), show (6 * l + k) / 6 = l by omega, alGet_r g3 hl (by omega), Option.bind_some, toN_o h1 rfl, Option.bind_some, xN_o (b := LD l) h1 rfl rfl, Option.bind_some, if_pos (isK_t h3 rfl)]
  rw [show Int32.ofNat (6 * l + k) - Int32.ofNat l * 6 = Int32.ofNat k from ?_, alGet_r h3 hk (by omega), Option.bind_some, toN_o d1 rfl, Option.bind_some, xI_o (x := t.2.2.1 57 (6 * l + k)) d1 rfl rfl, Option.bind_some]
  rw [show (6 : Int32) = Int32.ofNat 6 from rfl, i_mul, i_sub (by omega), show 6 * l + k - l * 6 = k by omega]
/-- edges so far -/
def EdS (B U : CS) (t : TS) (L : PLn) (nl : Nat) (e q : Nat → Int32) (W : Nat → Nat) (ne J : Nat) : Prop := wfS U ∧ B.2.1 ≤ U.2.1 ∧ (∀ p, p < B.2.1 → p ≠ 172 → p ≠ 173 → p ≠ 174 → U.1 p = B.1 p) ∧ U.1 172 = some (true, true, 0, rowC (fun j => .int (e j)) 2304) ∧ (∃ mc : Int32, U.1 173 = some (true, false, 1013, .int mc :: rowC (fun k => .ref (W k)) ne)) ∧ U.1 174 = some (true, true, 0, rowC (fun j => .int (q j)) 120) ∧ ne ≤ J ∧ (∀ k, k < ne → B.2.1 ≤ W k) ∧ (∀ j, j < J → edgR U.1 t nl ne W q (e j) (j / 4) (j % 4)) ∧ U.2.2.1 ≤ B.2.2.1 + J + 16 * ctN L nl J ∧ U.2.2.2 ≤ B.2.2.2 + 4 * J + 129 * ctN L nl J
/-- rates of the doors of a list -/
def EdL (V W : CS) (t : TS) (q q' : Nat → Int32) (xs : List Nat) : Prop := wfS W ∧ W.2 = V.2 ∧ (∀ p, p ≠ 174 → W.1 p = V.1 p) ∧ W.1 174 = some (true, true, 0, rowC (fun j => .int (q' j)) 120) ∧ (∀ i ∈ xs, q' i = t.2.2.1 57 i) ∧ ∀ i, q' i = q i ∨ q' i = t.2.2.1 57 i
theorem ed_rates {V : CS} (hwV : wfS V) (r : rwP t L nl nd) {f : List Value} {ml : Int32} (g : V.1 102 = some (true, false, 67, .ref 103 :: f)) (g3 : V.1 103 = some (true, false, 1013, .int ml :: rowC (fun l => .ref (LC l)) nl)) (H : DrH V t L nl LC LD DC nd) (hD : ∀ l i, l < nl → i < nd l → V.1 (DC l i) = some (dcC t l i)) (hb : ∀ l, l < nl → LC l ≠ 174 ∧ LD l ≠ 174 ∧ ∀ i, i < nd l → DC l i ≠ 174) {v5 : List Value} (g170 : V.1 170 = some (true, false, 50, v5)) (h5 : v5[5]? = some (.ref 174)) (g174 : V.1 174 = some (true, true, 0, rowC (fun j => .int (q j)) 120)) {xs : List Nat} {mc : Int32} (hA : V.1 A = some (true, false, 1013, .int mc :: xs.map (fun q => .int (Int32.ofNat q)))) (hA4 : A ≠ 174) (hxl : xs.length ≤ 100) (hx : ∀ i ∈ xs, ∃ l k, l < nl ∧ k < nd l ∧ k < 6 ∧ i = 6 * l + k) : Tr (wh (S := CS × Int32) (X := CS) (fun p51 => Option.bind (alHas p51.1 A p51.2) (fun x7 => (if x7 = 0 then some (.inr p51.1) else Option.bind (alNext p51.1 A mc p51.2) (fun e8 => Option.bind (toB e8) (fun b9 => Option.bind (xN p51.1 [(50, 5)] 170) (fun a10 => (if isK p51.1 [67] 102 = true then Option.bind (c_922 102 b9 p51.1) (fun x11 => Option.bind (aPut p51.1 0 a10 b9 (.int x11)) (fun s12 => some (.inl (s12, p51.2 + 1)))) else none))))))) (V, 0)) (fun W => ∃ q', EdL V W t q q' xs) := by
  have n20 := r.1.1
  refine wh_cnt xs.length (fun k (a : CS × Int32) => a.2 = Int32.ofNat k ∧ ∃ q', EdL V a.1 t q q' (xs.take k)) ?_ ?_ ⟨rfl, q, hwV, rfl, fun _ _ => rfl, g174, fun i hi => (by rw [List.take_zero] at hi; cases hi), fun i => Or.inl rfl⟩
  · rintro k ⟨W, _⟩ hk ⟨rfl, q', w1, w2, w3, w4, w5, w6⟩
    right
    dsimp only at w1 w2 w3 w4 w5 w6 ⊢
    have kA : W.1 A = _ := (w3 A hA4).trans hA
    have k2 : W.1 102 = _ := (w3 102 (by decide)).trans g
    have k3 : W.1 103 = _ := (w3 103 (by decide)).trans g3
    have k7 : W.1 170 = _ := (w3 170 (by decide)).trans g170
    have HW : DrH W t L nl LC LD DC nd := fun l hl => by
      obtain ⟨h1, h2, ⟨m, h3⟩, h4⟩ := H l hl
      obtain ⟨b1, b2, b3⟩ := hb l hl
      refine ⟨(w3 _ b1).trans h1, h2, ⟨m, (w3 _ b2).trans h3⟩, fun i hi => ?_⟩
      obtain ⟨da, db, dr, d1, d2⟩ := h4 i hi
      exact ⟨da, db, dr, (w3 _ (b3 i hi)).trans d1, d2⟩
    have hDW : ∀ l i, l < nl → i < nd l → W.1 (DC l i) = some (dcC t l i) := fun l i h1 h2 => (w3 _ ((hb l h1).2.2 i h2)).trans (hD l i h1 h2)
    obtain ⟨l, j, h1, h2, h3, h4⟩ := hx (xs.getD k 0) (by rw [getD_lt hk]; exact List.getElem_mem hk)
    have ek : (xs.map (fun q => Value.int (Int32.ofNat q)))[k]? = some (.int (Int32.ofNat (xs.getD k 0))) := by
      rw [List.getElem?_map, List.getElem?_eq_getElem hk, getD_lt hk]; rfl
    have ll : (xs.map (fun q => Value.int (Int32.ofNat q))).length = xs.length := List.length_map ..
    rw [alHas_l kA (by omega) (by omega), if_neg (by omega), Option.bind_some, if_neg (by decide), alNext_l kA ek (by omega), Option.bind_some]
    rw [show toB (Value.int (Int32.ofNat (xs.getD k 0))) = some (Int32.ofNat (xs.getD k 0)) from rfl, Option.bind_some, xN_o (b := 174) k7 rfl h5, Option.bind_some, if_pos (isK_t k2 rfl), h4, c_rate r k2 k3 HW hDW h1 h2, Option.bind_some, aPut_r w4 (by omega) (by omega), Option.bind_some, i_suc]
    have l4 := wf_lt w1 w4
    refine ⟨_, rfl, rfl, fun i => if i = 6 * l + j then t.2.2.1 57 (6 * l + j) else q' i, wf_cup w1 l4, w2, fun p hp => ?_, ?_, fun i hi => ?_, fun i => ?_⟩
    · show (cup W 174 _).1 p = _
      rw [cup_ne hp]; exact w3 p hp
    · show (cup W 174 _).1 174 = _
      rw [cup_eq]
      refine congrArg (fun l => some (true, true, 0, l)) (rowC_congr (fun i _ => ?_))
      dsimp only
      by_cases z : i = 6 * l + j
      · rw [if_pos z, if_pos z]
      · rw [if_neg z, if_neg z]
    · dsimp only
      by_cases z : i = 6 * l + j
      · rw [if_pos z, z]
      · rw [if_neg z]
        rw [take_s hk] at hi
        rcases List.mem_append.mp hi with a | a
        · exact w5 i a
        · rw [List.mem_singleton, h4] at a; exact absurd a z
    · dsimp only
      by_cases z : i = 6 * l + j
      · rw [if_pos z, z]; exact Or.inr rfl
      · rw [if_neg z]; exact w6 i
  · rintro ⟨W, _⟩ ⟨rfl, q', w1, w2, w3, w4, w5, w6⟩
    dsimp only at w1 w2 w3 w4 w5 w6 ⊢
    have kA : W.1 A = _ := (w3 A hA4).trans hA
    have ll : (xs.map (fun q => Value.int (Int32.ofNat q))).length = xs.length := List.length_map ..
    rw [alHas_l kA (by omega) (by omega), if_pos (by rw [ll]), Option.bind_some, if_pos rfl]
    rw [List.take_length] at w5
    exact ⟨_, rfl, q', w1, w2, w3, w4, w5, w6⟩
end
