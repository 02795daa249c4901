/-! the plan: what the component finds, as it is made -/
def poC (x y : Nat) : lCell := (true, false, 63, [.int (Int32.ofNat x), .int (Int32.ofNat y)])
def rkC (c : lCell) : Int := match c.2.2.2 with
  | [.int x, .int y] => 25 * x.toInt + y.toInt
  | _ => 0
def rkP (h : lHeap) (v : Value) : Int := match v with
  | .ref a => match h a with
    | some c => rkC c
    | none => 0
  | _ => 0
theorem rkP_pt {h : lHeap} {a x y : Nat} (e : h a = some (poC x y)) (hx : x < 25) (hy : y < 25) : rkP h (.ref a) = 25 * x + y := by
  show (match h a with | some c => rkC c | none => 0) = _
  rw [e]
  show 25 * (Int32.ofNat x).toInt + (Int32.ofNat y).toInt = _
  rw [i_toInt (by omega), i_toInt (by omega)]
theorem KOk_pt {s : CS} {ks : List Value} (h : ∀ v ∈ ks, ∃ a x y, v = .ref a ∧ x < 25 ∧ y < 25 ∧ s.1 a = some (poC x y)) : KOk s (rkP s.1) ks := by
  intro v hv w hw
  obtain ⟨a, x, y, rfl, hx, hy, ha⟩ := h v hv
  obtain ⟨b, u, z, rfl, hu, hz, hb⟩ := h w hw
  rw [rkP_pt ha hx hy, rkP_pt hb hu hz]
  show (if isK s [63] a = true ∧ isK s [63] b = true then _ else _) = _
  rw [if_pos ⟨isK_t ha rfl, isK_t hb rfl⟩, xI_o (x := Int32.ofNat x) ha rfl rfl, Option.bind_some, xI_o (x := Int32.ofNat u) hb rfl rfl, Option.bind_some, xI_o (x := Int32.ofNat y) ha rfl rfl, Option.bind_some, xI_o (x := Int32.ofNat z) hb rfl rfl, Option.bind_some]
  by_cases e : x = u
  · rw [if_pos (by rw [e]), cmpI_Z, i_toInt (by omega), i_toInt (by omega)]
    congr 1
    unfold cmpZ
    repeat' split
    all_goals first | rfl | (exfalso; omega)
  · rw [if_neg (fun q => e ((i_inj (by omega) (by omega)).mp q)), cmpI_Z, i_toInt (by omega), i_toInt (by omega)]
    congr 1
    unfold cmpZ
    repeat' split
    all_goals first | rfl | (exfalso; omega)
theorem Mp_rk {rk rk' : Value → Int} {es : List (Value × Value)} {m : Int → Option Value} (h : Mp rk es m) (e : ∀ v ∈ es.map Prod.fst, rk' v = rk v) : Mp rk' es m := by
  have e' : ∀ q ∈ es, rk' q.1 = rk q.1 := fun q hq => e q.1 (List.mem_map.mpr ⟨q, hq, rfl⟩)
  refine ⟨?_, fun q hq => by rw [e' q hq]; exact h.2.1 q hq, fun z v hz => ?_⟩
  · exact h.1.imp_of_mem (fun {a b} ha hb hab => by rw [e' a ha, e' b hb]; exact hab)
  · obtain ⟨q, hq, hr⟩ := h.2.2 z v hz
    exact ⟨q, hq, by rw [e' q hq]; exact hr⟩
/-- the side that leaves, among the first c pieces' sides -/
noncomputable def lvC (L : PLn) (nl c : Nat) (x y : Int) (e : Nat) : Option Nat := (lvF L nl x y e).filter (fun s => decide (s < 2 * c))
noncomputable def sX (L : PLn) (nl s : Nat) : Nat := (gx0 (gS L nl) s).toNat
noncomputable def sY (L : PLn) (nl s : Nat) : Nat := (gy0 (gS L nl) s).toNat
noncomputable def eX (L : PLn) (nl s : Nat) : Nat := (gx1 (gS L nl) s).toNat
noncomputable def eY (L : PLn) (nl s : Nat) : Nat := (gy1 (gS L nl) s).toNat
noncomputable def sdC (L : PLn) (nl : Nat) (LC : Nat → Nat) (nid : Nat → Nat → Nat) (si : Nat → Nat) (r : Value) (s : Nat) : lCell := (true, false, 65, [.ref (LC (kL L nl (s / 2))), .ref (nid (sX L nl s) (sY L nl s)), .ref (nid (eX L nl s) (eY L nl s)), .int (Int32.ofNat (gdr (gS L nl) s)), .ref (si (bkS s)), r])
/-- points with their nodes, in the map mp -/
def NDs (b0 : Nat) (h : lHeap) (L : PLn) (nl mp c : Nat) (V : Nat → Nat → Prop) (pid nid aid : Nat → Nat → Nat) (si : Nat → Nat) : Prop :=
  (∃ (mc : Int32) (es : List (Value × Value)), h mp = some (true, false, 1042, .int mc :: fl es) ∧ (∃ m, Mp (rkP h) es m ∧ (∀ x y : Nat, x < 25 → y < 25 → V x y → m (25 * x + y) = some (.ref (nid x y))) ∧ (∀ x y : Nat, x < 25 → y < 25 → ¬ V x y → m (25 * x + y) = none)) ∧ ∀ v ∈ es.map Prod.fst, ∃ x y, V x y ∧ v = .ref (pid x y))
  ∧ (∀ x y, V x y → x < 25 ∧ y < 25 ∧ b0 ≤ pid x y ∧ b0 ≤ nid x y ∧ b0 ≤ aid x y ∧ h (pid x y) = some (poC x y) ∧ h (nid x y) = some (true, false, 64, [.ref (pid x y), .ref (aid x y)]) ∧ h (aid x y) = some (true, true, 7, rowC (fun e => vR ((lvC L nl c x y e).map si)) 4))
  ∧ (∀ x y u v, V x y → V u v → aid x y = aid u v → x = u ∧ y = v) ∧ b0 ≤ mp
section
variable {L : PLn} {nl mp c b0 : Nat} {V : Nat → Nat → Prop} {pid nid aid : Nat → Nat → Nat} {si : Nat → Nat} {h h' : lHeap} {s : CS}
/-- cells may be added -/
theorem NDs_ext (r : NDs b0 h L nl mp c V pid nid aid si) (e : ∀ q d, h q = some d → h' q = some d) : NDs b0 h' L nl mp c V pid nid aid si := by
  obtain ⟨⟨mc, es, r1, ⟨m, r2, r2b, r2c⟩, r3⟩, r4, r5, r6⟩ := r
  refine ⟨⟨mc, es, e _ _ r1, ⟨m, Mp_rk r2 (fun v hv => ?_), r2b, r2c⟩, r3⟩, fun x y hv => ?_, r5, r6⟩
  · obtain ⟨x, y, hV, rfl⟩ := r3 v hv
    obtain ⟨a1, a2, _, _, _, a3, _⟩ := r4 x y hV
    rw [rkP_pt (e _ _ a3) a1 a2, rkP_pt a3 a1 a2]
  · obtain ⟨a1, a2, a3, a4, a5, a6, a7, a8⟩ := r4 x y hv
    exact ⟨a1, a2, a3, a4, a5, e _ _ a6, e _ _ a7, e _ _ a8⟩
theorem Nw_ext {S : CS} {d : lCell} {k m : Nat} (hw : wfS s) (w : Nw s S d k m) : ∀ q d', s.1 q = some d' → S.1 q = some d' := fun q d' hq => by
  rw [w.2.1 q (fun z => by have := wf_lt hw hq; omega)]; exact hq
/-- a map over points: reading -/
theorem NDs_get (r : NDs b0 s.1 L nl mp c V pid nid aid si) {P x y : Nat} (hP : s.1 P = some (poC x y)) (hx : x < 25) (hy : y < 25) : (V x y → tmGet s mp (.ref P) = some (.ref (nid x y))) ∧ (¬ V x y → tmGet s mp (.ref P) = some .null) := by
  obtain ⟨⟨mc, es, r1, ⟨m, r2, r2b, r2c⟩, r3⟩, r4, r5, r6⟩ := r
  have hk : KOk s (rkP s.1) (.ref P :: es.map Prod.fst) := by
    refine KOk_pt (fun v hv => ?_)
    rcases List.mem_cons.mp hv with rfl | hv
    · exact ⟨P, x, y, rfl, hx, hy, hP⟩
    · obtain ⟨u, w, hV, rfl⟩ := r3 v hv
      obtain ⟨a1, a2, _, _, _, a3, _⟩ := r4 u w hV
      exact ⟨_, u, w, rfl, a1, a2, a3⟩
  have := tm_get r1 hk r2
  rw [rkP_pt hP hx hy] at this
  exact ⟨fun hv => by rw [this, r2b x y hx hy hv]; rfl, fun hv => by rw [this, r2c x y hx hy hv]; rfl⟩
theorem NDs_len (r : NDs b0 s.1 L nl mp c V pid nid aid si) {mc : Int32} {es : List (Value × Value)} (e : s.1 mp = some (true, false, 1042, .int mc :: fl es)) : es.length ≤ 625 := by
  obtain ⟨⟨mc', es', r1, ⟨m, r2, r2b, r2c⟩, r3⟩, r4, r5, r6⟩ := r
  have ee : es' = es := by
    rw [r1] at e
    have e := Option.some.inj e
    simp only [Prod.mk.injEq, List.cons.injEq, true_and] at e
    have := congrArg prs e.2
    rwa [prs_fl, prs_fl] at this
  subst ee
  have hb : ∀ q ∈ es', 0 ≤ rkP s.1 q.1 ∧ rkP s.1 q.1 < 625 := by
    intro q hq
    obtain ⟨x, y, hV, e2⟩ := r3 q.1 (List.mem_map.mpr ⟨q, hq, rfl⟩)
    obtain ⟨a1, a2, _, _, _, a3, _⟩ := r4 x y hV
    rw [e2, rkP_pt a3 a1 a2]
    omega
  have hp : (es'.map (fun q => (rkP s.1 q.1).toNat)).Pairwise (· < ·) := by
    rw [List.pairwise_map]
    refine r2.1.imp_of_mem (fun {a b} ha hb' hab => ?_)
    have := hb a ha; have := hb b hb'
    omega
  have := pw_len hp (m := 625) (fun x hx => by
    obtain ⟨q, hq, rfl⟩ := List.mem_map.mp hx
    have := hb q hq
    omega)
  rwa [List.length_map] at this
end
