/-! the plan's readers: ways, the component: one door -/
section
variable {s S : CS} {t T : TS} {L : PLn} {nl nr : Nat} {st ln : Nat → Nat} {lab : Int → Int → Int} {LC LD : Nat → Nat} {fd fL ou ol mp : Nat} {pid nid aid : Nat → Nat → Nat} {si rc rl sp sl : Nat → Nat} {nd : Nat → Nat} {f : Nat → Nat} {Lq dl : List Nat} {N x y : Nat}
/-- the map of numbers -/
def mpW (f : Nat → Nat) (z : Int) : Option Value := if -1 ≤ z ∧ f (z + 1).toNat ≠ 0 then some (.int (Int32.ofNat (f (z + 1).toNat - 1))) else none
theorem mpW_n (f : Nat → Nat) (c : Nat) : mpW f ((c : Int) - 1) = if f c ≠ 0 then some (.int (Int32.ofNat (f c - 1))) else none := by
  unfold mpW
  rw [show ((c : Int) - 1 + 1).toNat = c by omega]
  by_cases z : f c ≠ 0
  · rw [if_pos ⟨by omega, z⟩, if_pos z]
  · rw [if_neg (fun w => z w.2), if_neg z]
theorem mpW_cg {f g : Nat → Nat} {z : Int} (h : f (z + 1).toNat = g (z + 1).toNat) : mpW f z = mpW g z := by
  unfold mpW
  rw [h]
/-- ways being looked for: map and queue -/
def WyS (s S : CS) (N ou : Nat) (sp : Nat → Nat) (f : Nat → Nat) (Lq dl : List Nat) (x y : Nat) : Prop :=
  wfS S ∧ S.2.1 = s.2.1 + 2 ∧ (∀ q, q < s.2.1 → S.1 q = s.1 q) ∧ (∃ (mc : Int32) (es : List (Value × Value)), S.1 s.2.1 = some (true, false, 1042, .int mc :: fl es) ∧ es.length ≤ (dl ++ Lq).length ∧ (∀ v ∈ es.map Prod.fst, ∃ i, v = .int i) ∧ Mp rkI es (mpW f))
  ∧ S.1 (s.2.1 + 1) = some (true, false, 1004, rowC (fun j => .ref (ndC ou sp (Lq.getD j 0))) Lq.length) ∧ (∀ i, f i ≠ 0 → i ≤ N) ∧ (dl ++ Lq).Nodup ∧ (∀ i ∈ dl ++ Lq, f i ≠ 0) ∧ S.2.2.1 ≤ s.2.2.1 + x + 5 * (dl ++ Lq).length ∧ S.2.2.2 ≤ s.2.2.2 + y + 300 * (dl ++ Lq).length
theorem Wy_len (r : WyS s S N ou sp f Lq dl x y) : (dl ++ Lq).length ≤ N + 1 := by
  obtain ⟨_, _, _, _, _, h6, h7, h8, _⟩ := r
  have := List.Nodup.length_le_of_subset h7 (l₂ := List.range (N + 1)) (fun i hi => List.mem_range.mpr (show i < N + 1 by have := h6 i (h8 i hi); omega))
  rwa [List.length_range] at this
theorem Wy_chg (r : WyS s S N ou sp f Lq dl x y) (a b : Nat) : WyS s (chg S a b) N ou sp f Lq dl (x + a) (y + b) := by
  obtain ⟨h1, h2, h3, h4, h5, h6, h7, h8, h9, h10⟩ := r
  exact ⟨wf_chg h1, h2, h3, h4, h5, h6, h7, h8, by show S.2.2.1 + a ≤ _; omega, by show S.2.2.2 + b ≤ _; omega⟩
theorem Wy_has (r : WyS s S N ou sp f Lq dl x y) (c : Nat) (hc : c < 100000) : tmHas S s.2.1 (.int (Int32.ofInt ((c : Int) - 1))) = some (if f c = 0 then 0 else 1) ∧ tmGet S s.2.1 (.int (Int32.ofInt ((c : Int) - 1))) = some ((if f c ≠ 0 then some (.int (Int32.ofNat (f c - 1))) else none : Option Value).getD .null) := by
  obtain ⟨_, _, _, ⟨mc, es, e1, e2, e3, e4⟩, _⟩ := r
  have hk : KOk S rkI (.int (Int32.ofInt ((c : Int) - 1)) :: es.map Prod.fst) := KOk_int (fun x hx => by
    rcases List.mem_cons.mp hx with rfl | hx
    · exact ⟨_, rfl⟩
    · exact e3 x hx)
  have er : rkI (.int (Int32.ofInt ((c : Int) - 1))) = (c : Int) - 1 := Int32.toInt_ofInt_of_le (by omega) (by omega)
  rw [tm_has e1 hk e4, tm_get e1 hk e4, er, mpW_n]
  refine ⟨?_, rfl⟩
  by_cases z : f c = 0
  · rw [show (if f c ≠ 0 then some (Value.int (Int32.ofNat (f c - 1))) else none) = none from if_neg (fun w => w z), if_pos z]; rfl
  · rw [show (if f c ≠ 0 then some (Value.int (Int32.ofNat (f c - 1))) else none) = some (Value.int (Int32.ofNat (f c - 1))) from if_pos z, if_neg z]; rfl
theorem wy_door (hw : wfS s) (F : FNx s t L nl nr st ln lab LC fd fL ou ol mp pid nid aid si rc rl sp sl) (r : WyS s S (spn L nl st ln nr) ou sp f Lq dl x y) {q a b c da db : Nat} {dr : Value} (hq : q < 2 * nP L nl) (hb : b ≤ spn L nl st ln nr) (hb0 : f b ≠ 0) (hc : c ≤ spn L nl st ln nr) (hl : s.1 (LC (kL L nl (q / 2))) = some (lcC L LD (kL L nl (q / 2)))) (hd : s.1 a = some (true, false, 60, [.int (Int32.ofNat da), .int (Int32.ofNat db), dr])) (h1 : da < 100) (h2 : db < 100) {A : Type} (g : CS → Option A) : ∃ S' f' Lq', Option.bind (some (ndC ou sp c)) (fun a19 => Option.bind (xI S [(62, 0)] a19) (fun x20 => Option.bind (some (chg S 1 1)) (fun s21 => (if isK s21 [42] s.2.1 = true then Option.bind (tmHas s21 s.2.1 (.int x20)) (fun x22 => Option.bind ((if x22 = 0 then Option.bind (c_916 a (si q) s21) (fun x23 => (if x23 = 0 then some s21 else Option.bind (xI s21 [(62, 0)] a19) (fun x24 => Option.bind (some (chg s21 1 1)) (fun s25 => Option.bind (xI s25 [(62, 0)] (ndC ou sp b)) (fun x26 => Option.bind (some (chg s25 1 1)) (fun s27 => (if isK s27 [42] s.2.1 = true then Option.bind (tmGet s27 s.2.1 (.int x26)) (fun e28 => Option.bind (toOB e28) (fun b29 => Option.bind (b29) (fun x30 => Option.bind (some (chg s27 1 1)) (fun s31 => (if isK s31 [42] s.2.1 = true then Option.bind (tmPut s31 s.2.1 (.int x24) (.int (x30 + 1))) (fun x32 => (if isK x32.2 [4] (s.2.1 + 1) = true then Option.bind (adAdd x32.2 (s.2.1 + 1) (.ref a19)) (fun s33 => some s33) else none)) else none))))) else none))))))) else some s21)) (fun v72 => g v72)) else none)))) = g S' ∧ WyS s S' (spn L nl st ln nr) ou sp f' Lq' dl (x + 1) (y + 1) ∧ ((f' = f ∧ Lq' = Lq ∧ (f c ≠ 0 ∨ ¬ max (kAn L nl (q / 2)) da < min (kB L nl (q / 2)) db)) ∨ (f c = 0 ∧ max (kAn L nl (q / 2)) da < min (kB L nl (q / 2)) db ∧ f' = (fun j => if j = c then f b + 1 else f j) ∧ Lq' = Lq ++ [c])) := by
  have hle := FN_le F
  have s100 := spn_100 F.1.1 F.1.2.1 F.1.2.2.2.1.1
  have old : ∀ {V : CS}, (∀ q, q < s.2.1 → V.1 q = s.1 q) → ∀ a c, s.1 a = some c → V.1 a = some c := fun {V} h a c e => by rw [h a (wf_lt hw e)]; exact e
  have ex := old r.2.2.1
  obtain ⟨c1, c2, c3, ec⟩ := FN_nd F hc
  obtain ⟨b1, b2, b3, eb⟩ := FN_nd F hb
  have r1 := Wy_chg r 1 1
  have r1' := r1
  obtain ⟨w1, w2, w3, ⟨mc, es, e1, e2, e3, e4⟩, w5, w6, w7, w8, w9, w10⟩ := r1
  obtain ⟨hh, _⟩ := Wy_has r1' c (by omega)
  rw [Option.bind_some, xI_o (x := Int32.ofInt ((c : Int) - 1)) (ex _ _ ec) rfl rfl, Option.bind_some, Option.bind_some, if_pos (isK_t e1 rfl), hh, Option.bind_some]
  by_cases z : f c = 0
  rotate_left
  · rw [if_neg z, if_neg (by decide), Option.bind_some]
    exact ⟨_, f, Lq, rfl, r1', Or.inl ⟨rfl, rfl, Or.inl z⟩⟩
  rw [if_pos z, if_pos rfl]
  have F1 : FNx (chg S 1 1) t L nl nr st ln lab LC fd fL ou ol mp pid nid aid si rc rl sp sl := FN_ext F ex
  rw [c_isIn (LD := LD) F1 hq (ex _ _ hl) (ex _ _ hd) h1 h2, Option.bind_some]
  by_cases u : max (kAn L nl (q / 2)) da < min (kB L nl (q / 2)) db
  rotate_left
  · rw [if_neg u, if_pos rfl, Option.bind_some]
    exact ⟨_, f, Lq, rfl, r1', Or.inl ⟨rfl, rfl, Or.inr u⟩⟩
  have r3 := Wy_chg (Wy_chg r1' 1 1) 1 1
  obtain ⟨_, hg⟩ := Wy_has r3 b (by omega)
  rw [if_pos u, if_neg (by decide), xI_o (x := Int32.ofInt ((c : Int) - 1)) (show (chg S 1 1).1 (ndC ou sp c) = _ from ex _ _ ec) rfl rfl, Option.bind_some, Option.bind_some, xI_o (x := Int32.ofInt ((b : Int) - 1)) (show (chg (chg S 1 1) 1 1).1 (ndC ou sp b) = _ from ex _ _ eb) rfl rfl, Option.bind_some, Option.bind_some, if_pos (isK_t (show (chg (chg (chg S 1 1) 1 1) 1 1).1 s.2.1 = _ from e1) rfl), hg, if_pos hb0, Option.bind_some]
  rw [show toOB ((some (Value.int (Int32.ofNat (f b - 1)))).getD .null) = some (some (Int32.ofNat (f b - 1))) from rfl, Option.bind_some, Option.bind_some, Option.bind_some, if_pos (isK_t (show (chg (chg (chg (chg S 1 1) 1 1) 1 1) 1 1).1 s.2.1 = _ from e1) rfl), i_suc, show f b - 1 + 1 = f b by omega]
  obtain ⟨V, hV⟩ : ∃ V, V = chg (chg (chg (chg S 1 1) 1 1) 1 1) 1 1 := ⟨_, rfl⟩
  rw [← hV]
  have v1 : V.1 = S.1 := by rw [hV]; rfl
  have v2 : V.2.1 = s.2.1 + 2 := by rw [hV]; exact w2
  have v3 : V.2.2.1 = S.2.2.1 + 4 := by rw [hV]; rfl
  have v4 : V.2.2.2 = S.2.2.2 + 4 := by rw [hV]; rfl
  have e1V : V.1 s.2.1 = some (true, false, 1042, .int mc :: fl es) := by rw [v1]; exact e1
  have hk : KOk V rkI (.int (Int32.ofInt ((c : Int) - 1)) :: es.map Prod.fst) := KOk_int (fun x hx => by
    rcases List.mem_cons.mp hx with rfl | hx
    · exact ⟨_, rfl⟩
    · exact e3 x hx)
  have er : rkI (.int (Int32.ofInt ((c : Int) - 1))) = (c : Int) - 1 := Int32.toInt_ofInt_of_le (by omega) (by omega)
  have len := Wy_len r1'
  obtain ⟨es', mc', n, j, t1, t2, t3, t4, t5, t6, _⟩ := tm_put (v := .int (Int32.ofNat (f b))) e1V hk e4 (by omega)
  rw [t1, Option.bind_some]
  dsimp only
  rw [er] at t4 t6
  rw [mpW_n, show (if f c ≠ 0 then some (Value.int (Int32.ofNat (f c - 1))) else none) = none from if_neg (fun w => w z)] at t6
  have t6 : es'.length = es.length + 1 := t6
  obtain ⟨W, hW⟩ : ∃ W, W = cput V 1042 s.2.1 n j (.int mc' :: fl es') := ⟨_, rfl⟩
  rw [← hW]
  have q1 : W.1 s.2.1 = some (true, false, 1042, .int mc' :: fl es') := by rw [hW]; exact cput_eq ..
  have q2 : ∀ p, p ≠ s.2.1 → W.1 p = S.1 p := fun p hp => by rw [hW, cput_ne hp, v1]
  have q3 : W.1 (s.2.1 + 1) = some (true, false, 1004, rowC (fun j => .ref (ndC ou sp (Lq.getD j 0))) Lq.length) := by rw [q2 _ (by omega)]; exact w5
  have q4 : W.2.1 = s.2.1 + 2 := by rw [hW]; exact v2
  have q5 : W.2.2.1 ≤ S.2.2.1 + 5 := by rw [hW]; show V.2.2.1 + n ≤ _; omega
  have q6 : W.2.2.2 ≤ S.2.2.2 + 10 := by rw [hW]; show V.2.2.2 + j ≤ _; omega
  have ll : Lq.length ≤ (dl ++ Lq).length := by rw [List.length_append]; omega
  rw [if_pos (isK_t q3 rfl), adAdd_r q3 (by omega) (by simp) (elO_o ((q2 _ (Nat.ne_of_lt (wf_lt hw ec))).trans (ex _ _ ec))), Option.bind_some, Option.bind_some]
  have cni : c ∉ dl ++ Lq := fun w => w8 c w z
  have app : dl ++ (Lq ++ [c]) = (dl ++ Lq) ++ [c] := (List.append_assoc ..).symm
  refine ⟨_, fun j => if j = c then f b + 1 else f j, Lq ++ [c], rfl, ⟨?_, q4, fun p hp => ?_, ⟨mc', es', ?_, ?_, fun v hv => ?_, Mp_cg t4 (fun z => ?_)⟩, ?_, fun i hi => ?_, ?_, fun i hi => ?_, ?_, ?_⟩, Or.inr ⟨z, u, rfl, rfl⟩⟩
  · intro p hp
    have hp : W.2.1 ≤ p := hp
    rw [q4] at hp
    rw [cput_ne (by omega), q2 p (by omega)]
    exact r.1 p (by have := r.2.1; omega)
  · rw [cput_ne (by omega), q2 p (by omega)]; exact r.2.2.1 p hp
  · rw [cput_ne (by omega)]; exact q1
  · rw [app, List.length_append]
    show _ ≤ _ + 1
    omega
  · rcases t5 v hv with w | w
    · exact ⟨_, w⟩
    · exact e3 v w
  · by_cases w : z = (c : Int) - 1
    · rw [if_pos w, w, mpW_n, if_pos (by rw [if_pos rfl]; omega), if_pos rfl, Nat.add_sub_cancel]
    · rw [if_neg w]
      by_cases v : (z + 1).toNat = c
      · have : ¬ -1 ≤ z := by omega
        unfold mpW
        rw [if_neg (fun k => this k.1), if_neg (fun k => this k.1)]
      · exact mpW_cg (by rw [if_neg v])
  · rw [cput_eq, List.length_append]
    refine congrArg (fun l => some (true, false, 1004, l)) (rowC_congr (fun j hj => ?_))
    by_cases w : j = Lq.length
    · rw [if_pos w, w]
      simp [List.getD]
    · have : j < Lq.length := by
        have hj : j < Lq.length + 1 := hj
        omega
      rw [if_neg w]
      simp [List.getD, List.getElem?_append_left this]
  · dsimp only at hi
    by_cases w : i = c
    · rw [w]; exact hc
    · rw [if_neg w] at hi; exact w6 i hi
  · rw [app]
    exact List.nodup_append.mpr ⟨w7, by simp, fun a ha b hb e => cni (by rw [List.mem_singleton] at hb; rw [← hb, ← e]; exact ha)⟩
  · rw [app] at hi
    dsimp only
    by_cases w : i = c
    · rw [if_pos w]; omega
    · rw [if_neg w]
      rcases List.mem_append.mp hi with h | h
      · exact w8 i h
      · exact absurd (List.mem_singleton.mp h) w
  · rw [app, List.length_append]
    show W.2.2.1 + adG Lq.length ≤ _
    have := adG_le Lq.length
    have := r.2.2.2.2.2.2.2.2.1
    simp only [List.length_singleton]
    omega
  · rw [app, List.length_append]
    show W.2.2.2 + adG Lq.length * (2 * Lq.length + 40) ≤ _
    have := adG_le Lq.length
    have := r.2.2.2.2.2.2.2.2.2
    simp only [List.length_singleton]
    omega
end
