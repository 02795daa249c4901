/-! the warden: the matrix being read, its start -/
def vwT (U : TS) : TS := (fun c => if c = 321 then U.1 322 else U.1 c, U.2.1, fun c j => if c = 108 then U.2.2.1 108 (240 + j) else if 105 ≤ c ∧ c ≤ 113 then U.2.2.1 c (20 + j) else if 114 ≤ c ∧ c ≤ 116 then U.2.2.1 c (50 + j) else if 117 ≤ c ∧ c ≤ 120 then (if c = 118 then -1 else 0) else U.2.2.1 c j, U.2.2.2)
/-- the matrix that is being read, on a raw store: its cells lie from b0 on -/
def RM (h : lHeap) (V : TS) (np b0 mx zm am rl nr : Nat) (Z ZP A RW : Nat → Nat) : Prop :=
  h mx = some (true, false, 48, [.ref zm, .ref am, .ref rl]) ∧ (b0 ≤ mx ∧ b0 ≤ zm ∧ b0 ≤ am ∧ b0 ≤ rl ∧ zm ≠ am) ∧
  (∃ (mc : Int32) (es : List (Value × Value)), h zm = some (true, false, 1042, .int mc :: fl es) ∧ Mp rkI es (fun z => if 0 ≤ z ∧ z < (20 : Nat) ∧ V.2.2.1 105 z.toNat = 1 then some (.ref (Z z.toNat)) else none) ∧ ∀ x ∈ es.map Prod.fst, ∃ i, x = .int i) ∧
  (∃ (mc : Int32) (es : List (Value × Value)), h am = some (true, false, 1042, .int mc :: fl es) ∧ Mp rkI es (fun z => if 0 ≤ z ∧ z < (20 : Nat) ∧ V.2.2.1 109 z.toNat = 1 then some (.ref (A z.toNat)) else none) ∧ ∀ x ∈ es.map Prod.fst, ∃ i, x = .int i) ∧
  (∃ mc : Int32, h rl = some (true, false, 1013, .int mc :: rowC (fun r => .ref (RW r)) nr)) ∧ V.1 321 = Int32.ofNat nr ∧ nr ≤ 50 ∧
  (∀ z, z < 20 → v01 (V.2.2.1 105 z) ∧ v01 (V.2.2.1 109 z) ∧ (V.2.2.1 105 z = 1 → W3z h V np Z ZP z ∧ b0 ≤ Z z ∧ b0 ≤ ZP z ∧ ZP z ≠ rl)) ∧
  (∀ r, r < nr → h (RW r) = some (rowK V Z A r) ∧ b0 ≤ RW r ∧ (bel (V.2.2.1 114 r) 20 ∧ V.2.2.1 105 (bN (V.2.2.1 114 r)) = 1) ∧ (V.2.2.1 115 r = -1 ∨ (bel (V.2.2.1 115 r) 20 ∧ V.2.2.1 105 (bN (V.2.2.1 115 r)) = 1)) ∧ bel (V.2.2.1 116 r) 20 ∧ V.2.2.1 109 (bN (V.2.2.1 116 r)) = 1) ∧
  (∀ a, a < 20 → V.2.2.1 109 a = 1 → h (A a) = some (actC V a) ∧ b0 ≤ A a ∧ okAct V a) ∧ ∀ a b, a < 20 → b < 20 → V.2.2.1 109 a = 1 → V.2.2.1 109 b = 1 → A a = A b → a = b
def clV (g : Nat → Nat → Int32) (k : Nat) : Nat → Nat → Int32 := fun c j => if (c = 105 ∨ c = 109) ∧ 20 ≤ j ∧ j < 20 + k then 0 else g c j
theorem t_clr (U : TS) : wh (S := TS × Int32) (X := TS) (fun p13 => (if p13.2 < 40 then Option.bind (stI p13.1 105 40 p13.2 ((0 : Int32) &&& 1)) (fun s5 => Option.bind (stI s5 109 40 p13.2 ((0 : Int32) &&& 1)) (fun s6 => some (.inl (s6, p13.2 + 1)))) else some (.inr p13.1))) (U, 20) = some (mkR U (clV U.2.2.1 20)) := by
  suffices q : Tr (wh (S := TS × Int32) (X := TS) (fun p13 => (if p13.2 < 40 then Option.bind (stI p13.1 105 40 p13.2 ((0 : Int32) &&& 1)) (fun s5 => Option.bind (stI s5 109 40 p13.2 ((0 : Int32) &&& 1)) (fun s6 => some (.inl (s6, p13.2 + 1)))) else some (.inr p13.1))) (U, 20)) (fun x => x = mkR U (clV U.2.2.1 20)) by
    obtain ⟨x, h1, h2⟩ := q
    rw [h1, h2]
  refine wh_cnt 20 (fun k a => a = (mkR U (clV U.2.2.1 k), Int32.ofNat (20 + k))) ?_ ?_ ?_
  · rintro k _ hk rfl
    refine Or.inr ⟨_, ?_, rfl⟩
    dsimp only
    rw [if_pos ((i_ltL (by omega) (by omega)).mpr (by omega)), stI_n (by omega) (by omega), Option.bind_some, stI_n (by omega) (by omega), Option.bind_some, wr_mk, wr_mk, i_suc]
    refine congrArg (fun z => some (Sum.inl (mkR U z, Int32.ofNat (20 + (k + 1))))) ?_
    funext c j
    show (if c = 109 ∧ j = 20 + k then (0 : Int32) &&& 1 else if c = 105 ∧ j = 20 + k then (0 : Int32) &&& 1 else clV U.2.2.1 k c j) = clV U.2.2.1 (k + 1) c j
    rw [show (0 : Int32) &&& 1 = 0 from rfl]
    unfold clV
    by_cases y1 : c = 109 ∧ j = 20 + k
    · rw [if_pos y1, if_pos ⟨Or.inr y1.1, by omega, by omega⟩]
    · rw [if_neg y1]
      by_cases y2 : c = 105 ∧ j = 20 + k
      · rw [if_pos y2, if_pos ⟨Or.inl y2.1, by omega, by omega⟩]
      · rw [if_neg y2]
        by_cases y3 : (c = 105 ∨ c = 109) ∧ 20 ≤ j ∧ j < 20 + k
        · rw [if_pos y3, if_pos ⟨y3.1, by omega, by omega⟩]
        · rw [if_neg y3, if_neg (by omega)]
  · rintro _ rfl
    refine ⟨_, ?_, rfl⟩
    dsimp only
    rw [if_neg (by decide)]
  · refine Prod.ext ?_ rfl
    refine Prod.ext rfl (Prod.ext rfl (Prod.ext ?_ rfl))
    funext c j
    show U.2.2.1 c j = clV U.2.2.1 0 c j
    unfold clV
    rw [if_neg (by omega)]
/-- the start -/
theorem RM_new {h : lHeap} {V : TS} {np b0 mx zm am rl : Nat} {Z ZP A RW : Nat → Nat} (h1 : h mx = some (true, false, 48, [.ref zm, .ref am, .ref rl])) (h2 : b0 ≤ mx ∧ b0 ≤ zm ∧ b0 ≤ am ∧ b0 ≤ rl ∧ zm ≠ am) (h3 : h zm = some (true, false, 1042, [.int 0])) (h4 : h am = some (true, false, 1042, [.int 0])) (h5 : h rl = some (true, false, 1013, [.int 0])) (v1 : V.1 321 = 0) (v2 : ∀ z, z < 20 → V.2.2.1 105 z = 0 ∧ V.2.2.1 109 z = 0) : RM h V np b0 mx zm am rl 0 Z ZP A RW := by
  have hmp : ∀ (c : Nat) (F : Nat → Nat), (∀ z, z < 20 → V.2.2.1 c z = 0) → Mp rkI [] (fun z => if 0 ≤ z ∧ z < (20 : Nat) ∧ V.2.2.1 c z.toNat = 1 then some (Value.ref (F z.toNat)) else none) := by
    intro c F hc
    refine ⟨List.Pairwise.nil, fun e he => absurd he (by simp), fun z v hv => ?_⟩
    dsimp only at hv
    by_cases y : 0 ≤ z ∧ z < (20 : Nat) ∧ V.2.2.1 c z.toNat = 1
    · have := hc z.toNat (by omega)
      rw [this] at y
      exact absurd y.2.2 (by decide)
    · rw [if_neg y] at hv; cases hv
  refine ⟨h1, h2, ⟨0, [], h3, hmp 105 Z (fun z hz => (v2 z hz).1), fun _ h => absurd h (by simp)⟩, ⟨0, [], h4, hmp 109 A (fun z hz => (v2 z hz).2), fun _ h => absurd h (by simp)⟩, ⟨0, h5⟩, v1, by omega, fun z hz => ⟨Or.inl (v2 z hz).1, Or.inl (v2 z hz).2, fun y => ?_⟩, fun _ h => absurd h (by omega), fun a ha y => ?_, fun a b ha _ y => ?_⟩
  · rw [(v2 z hz).1] at y; cases y
  · rw [(v2 a ha).2] at y; cases y
  · rw [(v2 a ha).2] at y; cases y
