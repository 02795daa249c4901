/-! the lifts: a new call -/
def opn (t : TS) (nk : Nat) : Nat := ((List.range nk).filter (fun c => decide (t.2.2.1 166 c = 1))).length
theorem t_many {t : TS} {nk : Nat} (h : t.1 606 = Int32.ofNat nk) (hn : nk ≤ 400) (hv : ∀ c, c < nk → v01 (t.2.2.1 166 c)) : t_846 t = some (Int32.ofNat (opn t nk)) := by
  suffices h : Tr (t_846 t) (fun v => v = Int32.ofNat (opn t nk)) by
    obtain ⟨x, h1, h2⟩ := h
    rw [h1, h2]
  unfold t_846
  refine Tr.bd (P := fun v => v = Int32.ofNat (opn t nk)) (wh_cnt nk (fun k a => a = (Int32.ofNat (opn t k), Int32.ofNat k)) ?_ ?_ rfl) ?_
  · rintro k _ hk rfl
    refine Or.inr ⟨_, ?_, rfl⟩
    dsimp only
    rw [h, if_pos ((i_lt (by omega) (by omega)).mpr hk), rdI_n (by omega) (by omega), Option.bind_some, i_suc]
    unfold opn
    rw [flen_suc]
    rcases hv k hk with z | z
    · rw [z]; simp
    · rw [z, if_neg (by decide), Option.bind_some, i_suc]; rfl
  · rintro _ rfl
    refine ⟨_, ?_, rfl⟩
    dsimp only
    rw [h, if_neg (by rw [i_lt (by omega) (by omega)]; omega)]
  · rintro _ rfl
    exact ⟨_, rfl, rfl⟩
theorem li_len {h : lHeap} {t : TS} {nc nk : Nat} {C D M : Nat → Nat} {b : Nat → Option Nat} (r : R8x h t nc nk C D M b) : ∃ (mc : Int32) (es : List (Value × Value)), h 164 = some (true, false, 1042, .int mc :: fl es) ∧ Mp rkI es (fun z => if 0 ≤ z ∧ z < (nk : Int) ∧ t.2.2.1 166 z.toNat = 1 then some (.ref (D z.toNat)) else none) ∧ (∀ x ∈ es.map Prod.fst, ∃ i, x = .int i) ∧ es.length = opn t nk ∧ opn t nk ≤ 6 := by
  obtain ⟨_, _, _, _, _, _, _, _, _, _, _, _, _, _, _, _, _, _, ⟨mo, eo, o1, o2, o3, o4⟩, _⟩ := r
  have := mp_len (P := fun c => t.2.2.1 166 c = 1) (f := fun c => .ref (D c)) o2
  exact ⟨mo, eo, o1, o2, o3, this, by unfold opn; omega⟩
def calT (t : TS) (nk : Nat) (v1 v2 : Int32) : TS := ptI (wrI (wrI (wrI (wrI (wrI (ptI t 0 0) 163 nk v1) 164 nk v2) 165 nk (t.1 612)) 166 nk 1) 167 nk (-1)) 606 (Int32.ofNat (nk + 1))
theorem calT_at {t : TS} {nk : Nat} {v1 v2 : Int32} (c j : Nat) (h : ¬ (163 ≤ c ∧ c ≤ 167 ∧ j = nk)) : (calT t nk v1 v2).2.2.1 c j = t.2.2.1 c j := by
  show (wrI (wrI (wrI (wrI (wrI (ptI t 0 0) 163 nk v1) 164 nk v2) 165 nk _) 166 nk 1) 167 nk (-1)).2.2.1 c j = _
  rw [wr_at, if_neg (by omega), wr_at, if_neg (by omega), wr_at, if_neg (by omega), wr_at, if_neg (by omega), wr_at, if_neg (by omega)]; rfl
theorem calT_n {t : TS} {nk : Nat} {v1 v2 : Int32} (c : Nat) : (calT t nk v1 v2).2.2.1 c nk = if c = 167 then -1 else if c = 166 then 1 else if c = 165 then t.1 612 else if c = 164 then v2 else if c = 163 then v1 else t.2.2.1 c nk := by
  show (wrI (wrI (wrI (wrI (wrI (ptI t 0 0) 163 nk v1) 164 nk v2) 165 nk (t.1 612)) 166 nk 1) 167 nk (-1)).2.2.1 c nk = _
  simp only [wr_at, and_true]; rfl
theorem R8_call {s S : CS} {own : Nat → Nat} {t : TS} {nc nk : Nat} {C D M : Nat → Nat} {b : Nat → Option Nat} {v1 v2 nw hm m1 : Int32} {lst : Int64} {es' : List (Value × Value)} (hw : wfS s) (hs : 179 ≤ s.2.1) (r : R8x (rs s.1 own 8) t nc nk C D M b) (hnk : nk < 400) (hb : t.1 1 ≠ 0) (hv1 : flr v1) (hv2 : flr v2) (ho : opn t nk < 6)
    (g0 : S.1 162 = some (true, false, 49, [.ref 163, .ref 164, .int (Int32.ofNat (nk + 1)), .int nw, .int hm, .int (t.1 1), .ref 165, .ref 166, .ref 167, .ref 168, .long lst, .ref 169]))
    (g1 : S.1 s.2.1 = some (true, false, 96, [.int (Int32.ofNat nk), .int v1, .int v2, .int (t.1 612), .null])) (g2 : S.1 164 = some (true, false, 1042, .int m1 :: fl es')) (g3 : ∀ q, q < s.2.1 → q ≠ 162 → q ≠ 164 → S.1 q = s.1 q)
    (hm1 : Mp rkI es' (fun z => if z = (nk : Int) then some (.ref s.2.1) else if 0 ≤ z ∧ z < (nk : Int) ∧ t.2.2.1 166 z.toNat = 1 then some (.ref (D z.toNat)) else none)) (hm2 : ∀ x ∈ es'.map Prod.fst, ∃ i, x = .int i) (hm3 : es'.length ≤ 6) : R8x (rs S.1 (givs own s.2.1 1 8) 8) (calT t nk v1 v2) nc (nk + 1) C (nxt1 nk s.2.1 D) M b := by
  obtain ⟨⟨nw0, hm0, lst0, p1⟩, ⟨mm1, p2⟩, ⟨m2, e2, p3⟩, ⟨m3, e3, p4⟩, ⟨f5, p5⟩, ⟨f6, p6⟩, p7, p8, p9, p10, p11, p12, p13, p14, p15, p16, p17, p18, ⟨mo, eo, o1, o2, o3, o4⟩, ⟨mm, em, q1, q2, q3, q4, q5, q6⟩⟩ := r
  have hown : ∀ q, q < s.2.1 → givs own s.2.1 1 8 q = own q := fun q hq => if_neg (by omega)
  have key : ∀ q c, q ≠ 162 → q ≠ 164 → rs s.1 own 8 q = some c → rs S.1 (givs own s.2.1 1 8) 8 q = some c := by
    intro q c hq hq2 e
    obtain ⟨z1, z2⟩ := rs_some.mp e
    have hl := wf_lt hw z2
    exact rs_some.mpr ⟨by rw [hown q hl]; exact z1, by rw [g3 q hl hq hq2]; exact z2⟩
  have e := fun c j (h : ¬ (163 ≤ c ∧ c ≤ 167 ∧ j = nk)) => calT_at (t := t) (nk := nk) (v1 := v1) (v2 := v2) c j h
  have w := fun c => calT_n (t := t) (nk := nk) (v1 := v1) (v2 := v2) c
  have h162 := rs_in p1
  have h164 := rs_in o1
  have dO : ∀ c, c ≠ nk → nxt1 nk s.2.1 D c = D c := fun c hc => if_neg hc
  have dN : nxt1 nk s.2.1 D nk = s.2.1 := if_pos rfl
  have lD : ∀ c, c < nk → isO t c → D c < s.2.1 := fun c h1 h2 => wf_lt hw (rs_in ((p16 c h1).2.2 h2).1).1
  refine ⟨⟨nw, hm, lst, rs_some.mpr ⟨by rw [hown _ (wf_lt hw h162.1)]; exact h162.2, g0⟩⟩, ⟨mm1, key _ _ (by omega) (by omega) p2⟩, ⟨m2, e2, key _ _ (by omega) (by omega) p3⟩, ⟨m3, e3, key _ _ (by omega) (by omega) p4⟩, ⟨f5, key _ _ (by omega) (by omega) p5⟩, ⟨f6, key _ _ (by omega) (by omega) p6⟩, p7, p8, rfl, by omega, p11, fun _ => hb, p13, ?_, p15, ?_, ?_, ?_, ⟨m1, es', rs_some.mpr ⟨by rw [hown _ (wf_lt hw h164.1)]; exact h164.2, g2⟩, ?_, hm2, hm3⟩, ⟨mm, em, key _ _ (by omega) (by omega) q1, ?_, q3, q4, fun c h1 h2 => ?_, fun c h1 h2 => by rw [e 172 c (by omega)]; exact q6 c (by omega) h2⟩⟩
  · intro k hk
    obtain ⟨y1, y2, y3⟩ := p14 k hk
    have f := fun c (h : c < 163) => e c k (by omega)
    refine ⟨?_, ?_, y3⟩
    · rw [key _ _ (by omega) (by omega) y1]
      unfold carC
      rw [f 158 (by omega), f 159 (by omega), f 160 (by omega), f 161 (by omega), f 162 (by omega)]
      have : (b k).map (nxt1 nk s.2.1 D) = (b k).map D := by
        cases hbk : b k with
        | none => rfl
        | some c =>
          have := ((p18 k c hk).mp hbk).1
          exact congrArg some (dO c (by omega))
      rw [this]
    · unfold okCar at y2 ⊢
      rw [f 158 (by omega), f 159 (by omega), f 160 (by omega), f 161 (by omega), f 162 (by omega)]
      exact y2
  · intro c hc
    by_cases z : c = nk
    · subst z
      refine ⟨by rw [w 166]; exact Or.inr rfl, ?_, fun _ => ⟨rs_some.mpr ⟨by rw [dN]; exact if_pos (by omega), ?_⟩, by rw [dN]; exact hs⟩⟩
      · unfold okCall
        rw [w 163, w 164, w 165, w 167]
        exact ⟨hv1, hv2, (by obtain ⟨tm, y1, y2⟩ := p13; exact ⟨tm, (show tm ≤ bN (t.1 612) by rw [y2]; exact Nat.le_of_eq (i_clamp (by omega)).symm), y2⟩), Or.inl rfl⟩
      · rw [dN, g1]
        unfold calC
        rw [w 163, w 164, w 165, w 167]
        rfl
    · obtain ⟨y1, y2, y3⟩ := p16 c (by omega)
      have f := fun q => e q c (fun z' => z z'.2.2)
      refine ⟨by rw [f 166]; exact y1, by unfold okCall at y2 ⊢; rw [f 163, f 164, f 165, f 167]; exact y2, fun hO => ?_⟩
      unfold isO at hO
      rw [f 166] at hO
      obtain ⟨x1, x2⟩ := y3 hO
      rw [dO c z]
      refine ⟨?_, x2⟩
      rw [key _ _ (by omega) (by omega) x1]
      unfold calC
      rw [f 163, f 164, f 165, f 167]
  · intro c g h1 h2 h3 h4 hcg
    unfold isO at h3 h4
    by_cases z1 : c = nk <;> by_cases z2 : g = nk
    · omega
    · rw [e 166 g (fun y => z2 y.2.2)] at h4
      rw [z1, dN, dO g z2] at hcg
      have := lD g (by omega) h4; omega
    · rw [e 166 c (fun y => z1 y.2.2)] at h3
      rw [z2, dN, dO c z1] at hcg
      have := lD c (by omega) h3; omega
    · rw [e 166 c (fun y => z1 y.2.2)] at h3
      rw [e 166 g (fun y => z2 y.2.2)] at h4
      rw [dO c z1, dO g z2] at hcg
      exact p17 c g (by omega) (by omega) h3 h4 hcg
  · intro k c hk
    rw [p18 k c hk]
    unfold isO
    by_cases z : c = nk
    · subst z
      rw [w 166, w 167]
      constructor
      · rintro ⟨y, _⟩; omega
      · rintro ⟨_, _, y⟩; exact absurd y.symm (i_ne1 (by omega))
    · rw [e 166 c (fun y => z y.2.2), e 167 c (fun y => z y.2.2)]
      constructor
      · rintro ⟨y1, y2⟩; exact ⟨by omega, y2⟩
      · rintro ⟨y1, y2⟩; exact ⟨by omega, y2⟩
  · have : (fun z : Int => if z = (nk : Int) then some (Value.ref s.2.1) else if 0 ≤ z ∧ z < (nk : Int) ∧ t.2.2.1 166 z.toNat = 1 then some (.ref (D z.toNat)) else none) = (fun z : Int => if 0 ≤ z ∧ z < ((nk + 1 : Nat) : Int) ∧ (calT t nk v1 v2).2.2.1 166 z.toNat = 1 then some (.ref (nxt1 nk s.2.1 D z.toNat)) else none) := by
      funext z
      by_cases y : z = (nk : Int)
      · rw [if_pos y, y, Int.toNat_natCast, w 166, dN, if_pos ⟨by omega, by omega, rfl⟩]
      · rw [if_neg y]
        by_cases y2 : 0 ≤ z ∧ z < (nk : Int) ∧ t.2.2.1 166 z.toNat = 1
        · rw [if_pos y2, if_pos ⟨y2.1, by omega, by rw [e 166 _ (by omega)]; exact y2.2.2⟩, dO _ (by omega)]
        · rw [if_neg y2, if_neg]
          rintro ⟨x1, x2, x3⟩
          rw [e 166 _ (by omega)] at x3
          exact y2 ⟨x1, by omega, x3⟩
    rw [← this]
    exact hm1
  · have e172 : ∀ j, (calT t nk v1 v2).2.2.1 172 j = t.2.2.1 172 j := fun j => e 172 j (by omega)
    simp only [e172]
    have : (fun z : Int => if 0 ≤ z ∧ z < ((nk + 1 : Nat) : Int) ∧ ¬ t.2.2.1 172 z.toNat = -1 then some (Value.ref (M z.toNat)) else none) = (fun z : Int => if 0 ≤ z ∧ z < (nk : Int) ∧ ¬ t.2.2.1 172 z.toNat = -1 then some (.ref (M z.toNat)) else none) := by
      funext z
      by_cases y : z = (nk : Int)
      · rw [if_neg, if_neg]
        · rintro ⟨_, x, _⟩; omega
        · rintro ⟨_, _, x⟩
          rw [y, Int.toNat_natCast] at x
          exact x (q6 nk (by omega) (by omega))
      · by_cases y2 : 0 ≤ z ∧ z < (nk : Int) ∧ ¬ t.2.2.1 172 z.toNat = -1
        · rw [if_pos y2, if_pos ⟨y2.1, by omega, y2.2.2⟩]
        · rw [if_neg y2, if_neg (fun x => y2 ⟨x.1, by omega, x.2.2⟩)]
    rw [this]
    exact q2
  · rw [e 172 c (by omega)] at h2
    have hc : c < nk := by
      refine Nat.lt_of_not_le (fun z => h2 (q6 c z (by omega)))
    obtain ⟨y1, y2, y3⟩ := q5 c hc h2
    refine ⟨y1, ?_, by rw [e 172 c (by omega)]; exact y3⟩
    rw [key _ _ (by omega) (by omega) y2]
    unfold toC
    rw [e 172 c (by omega), e 173 c (by omega), e 174 c (by omega), e 175 c (by omega)]
