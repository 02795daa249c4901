/-! the warden: the twin adopts what it has read -/
def mkR (U : TS) (g : Nat → Nat → Int32) : TS := (U.1, U.2.1, g, U.2.2.2)
def upG (g : Nat → Nat → Int32) (c k : Nat) (v : Int32) : Nat → Nat → Int32 := fun d j => if d = c ∧ j = k then v else g d j
theorem wr_mk (U : TS) (g : Nat → Nat → Int32) (c k : Nat) (v : Int32) : wrI (mkR U g) c k v = mkR U (upG g c k v) := by
  refine Prod.ext rfl (Prod.ext rfl (Prod.ext ?_ rfl))
  funext d j
  rw [wr_at]; rfl
theorem cpyA {U : TS} {g : Nat → Nat → Int32} {B : Type} {F : TS → Option B} (c : Nat) {k : Nat} (hk : k < 20) : Option.bind (rdI (mkR U g) c 40 (20 + Int32.ofNat k)) (fun x => Option.bind (stI (mkR U g) c 40 (Int32.ofNat k) x) F) = F (mkR U (upG g c k (g c (20 + k)))) := by
  rw [show (20 : Int32) + Int32.ofNat k = Int32.ofNat (20 + k) from i_add 20 k, rdI_n (by omega) (by omega), Option.bind_some, stI_n (by omega) (by omega), Option.bind_some, wr_mk]; rfl
theorem cpyB {U : TS} {g : Nat → Nat → Int32} {B : Type} {F : TS → Option B} (c : Nat) {k : Nat} (hk : k < 20) (hv : v01 (g c (20 + k))) : Option.bind (rdI (mkR U g) c 40 (20 + Int32.ofNat k)) (fun x => Option.bind (stI (mkR U g) c 40 (Int32.ofNat k) (x &&& 1)) F) = F (mkR U (upG g c k (g c (20 + k)))) := by
  rw [show (20 : Int32) + Int32.ofNat k = Int32.ofNat (20 + k) from i_add 20 k, rdI_n (by omega) (by omega), Option.bind_some, stI_n (by omega) (by omega), Option.bind_some, wr_mk]
  have e : (mkR U g).2.2.1 c (20 + k) &&& 1 = g c (20 + k) := by
    show g c (20 + k) &&& 1 = _
    rcases hv with z | z <;> rw [z] <;> rfl
  rw [e]
theorem cpyM {U : TS} {g : Nat → Nat → Int32} {B : Type} {F : TS → Option B} (c : Nat) {k : Nat} (hk : k < 20) : Option.bind (rdI (mkR U g) c 40 (20 + Int32.ofNat k)) (fun x => Option.bind (stI (mkR U g) c 40 (Int32.ofNat k) (x &&& 1)) F) = F (mkR U (upG g c k (g c (20 + k) &&& 1))) := by
  rw [show (20 : Int32) + Int32.ofNat k = Int32.ofNat (20 + k) from i_add 20 k, rdI_n (by omega) (by omega), Option.bind_some, stI_n (by omega) (by omega), Option.bind_some, wr_mk]; rfl
/-- the rows after k of twenty -/
def adV (g : Nat → Nat → Int32) (k : Nat) : Nat → Nat → Int32 := fun c j =>
  if c = 108 then (if j < 12 * k then g 108 (240 + j) else g 108 j)
  else if 105 ≤ c ∧ c ≤ 113 then (if j < k then (if c = 113 then g c (20 + j) &&& 1 else g c (20 + j)) else g c j)
  else if 117 ≤ c ∧ c ≤ 120 then (if j < k then (if c = 118 then -1 else 0) else g c j)
  else g c j
/-- the points of a zone -/
def pcV (g : Nat → Nat → Int32) (k i : Nat) : Nat → Nat → Int32 := fun c j => if c = 108 ∧ 12 * k ≤ j ∧ j < 12 * k + i then g 108 (240 + j) else g c j
theorem adv_in {U : TS} {g : Nat → Nat → Int32} {k : Nat} (hk : k < 20) : wh (S := TS × Int32) (X := TS) (fun p37 => (if p37.2 < 12 then Option.bind (rdI p37.1 108 480 ((240 + (12 * Int32.ofNat k)) + p37.2)) (fun x7 => Option.bind (stI p37.1 108 480 ((12 * Int32.ofNat k) + p37.2) x7) (fun s8 => some (.inl (s8, p37.2 + 1)))) else some (.inr p37.1))) (mkR U g, 0) = some (mkR U (pcV g k 12)) := by
  suffices q : Tr (wh (S := TS × Int32) (X := TS) (fun p37 => (if p37.2 < 12 then Option.bind (rdI p37.1 108 480 ((240 + (12 * Int32.ofNat k)) + p37.2)) (fun x7 => Option.bind (stI p37.1 108 480 ((12 * Int32.ofNat k) + p37.2) x7) (fun s8 => some (.inl (s8, p37.2 + 1)))) else some (.inr p37.1))) (mkR U g, 0)) (fun x => x = mkR U (pcV g k 12)) by
    obtain ⟨x, h1, h2⟩ := q
    rw [h1, h2]
  refine wh_cnt 12 (fun i a => a = (mkR U (pcV g k i), Int32.ofNat i)) ?_ ?_ ?_
  · rintro i _ hi rfl
    refine Or.inr ⟨_, ?_, rfl⟩
    dsimp only
    have e1 : (12 : Int32) * Int32.ofNat k = Int32.ofNat (12 * k) := i_mul 12 k
    have e2 : (240 : Int32) + Int32.ofNat (12 * k) = Int32.ofNat (240 + 12 * k) := i_add 240 _
    rw [if_pos ((i_ltL (by omega) (by omega)).mpr hi), e1, e2, i_add, i_add, rdI_n (by omega) (by omega), Option.bind_some, stI_n (by omega) (by omega), Option.bind_some, wr_mk, i_suc]
    refine congrArg (fun z => some (Sum.inl (mkR U z, Int32.ofNat (i + 1)))) ?_
    funext c j
    show (if c = 108 ∧ j = 12 * k + i then pcV g k i 108 (240 + 12 * k + i) else pcV g k i c j) = pcV g k (i + 1) c j
    unfold pcV
    by_cases y : c = 108 ∧ j = 12 * k + i
    · rw [if_pos y, if_neg (by omega), if_pos ⟨y.1, by omega, by omega⟩, y.2]
      congr 1; omega
    · rw [if_neg y]
      by_cases z : c = 108 ∧ 12 * k ≤ j ∧ j < 12 * k + i
      · rw [if_pos z, if_pos ⟨z.1, by omega, by omega⟩]
      · rw [if_neg z, if_neg (by omega)]
  · rintro _ rfl
    refine ⟨_, ?_, rfl⟩
    dsimp only
    rw [if_neg (by decide)]
  · refine Prod.ext ?_ rfl
    show mkR U g = mkR U (pcV g k 0)
    congr 1
    funext c j
    unfold pcV
    rw [if_neg (by omega)]
theorem cpyC {U : TS} {g : Nat → Nat → Int32} {B : Type} {F : TS → Option B} (c : Nat) {k : Nat} (hk : k < 50) : Option.bind (rdI (mkR U g) c 100 (50 + Int32.ofNat k)) (fun x => Option.bind (stI (mkR U g) c 100 (Int32.ofNat k) x) F) = F (mkR U (upG g c k (g c (50 + k)))) := by
  rw [show (50 : Int32) + Int32.ofNat k = Int32.ofNat (50 + k) from i_add 50 k, rdI_n (by omega) (by omega), Option.bind_some, stI_n (by omega) (by omega), Option.bind_some, wr_mk]; rfl
theorem adv_pr {g : Nat → Nat → Int32} {k : Nat} (c j : Nat) : upG (upG (upG (fun c j => if 114 ≤ c ∧ c ≤ 116 ∧ j < k then g c (50 + j) else adV g 20 c j) 114 k ((fun c j => if 114 ≤ c ∧ c ≤ 116 ∧ j < k then g c (50 + j) else adV g 20 c j) 114 (50 + k))) 115 k (upG (fun c j => if 114 ≤ c ∧ c ≤ 116 ∧ j < k then g c (50 + j) else adV g 20 c j) 114 k ((fun c j => if 114 ≤ c ∧ c ≤ 116 ∧ j < k then g c (50 + j) else adV g 20 c j) 114 (50 + k)) 115 (50 + k))) 116 k (upG (upG (fun c j => if 114 ≤ c ∧ c ≤ 116 ∧ j < k then g c (50 + j) else adV g 20 c j) 114 k ((fun c j => if 114 ≤ c ∧ c ≤ 116 ∧ j < k then g c (50 + j) else adV g 20 c j) 114 (50 + k))) 115 k (upG (fun c j => if 114 ≤ c ∧ c ≤ 116 ∧ j < k then g c (50 + j) else adV g 20 c j) 114 k ((fun c j => if 114 ≤ c ∧ c ≤ 116 ∧ j < k then g c (50 + j) else adV g 20 c j) 114 (50 + k)) 115 (50 + k)) 116 (50 + k)) c j = if 114 ≤ c ∧ c ≤ 116 ∧ j < k + 1 then g c (50 + j) else adV g 20 c j := by
  have hk : ¬ (50 + k < k) := by omega
  by_cases hc : 114 ≤ c ∧ c ≤ 116
  · have : c = 114 ∨ c = 115 ∨ c = 116 := by omega
    rcases Nat.lt_trichotomy j k with h | h | h
    · have a1 : j ≠ k := by omega
      have a2 : j < k + 1 := by omega
      rcases this with rfl | rfl | rfl <;> simp [upG, h, a1, a2]
    · subst h
      rcases this with rfl | rfl | rfl <;> simp [upG, adV, hk]
    · have a1 : j ≠ k := by omega
      have a2 : ¬ j < k := by omega
      have a3 : ¬ j < k + 1 := by omega
      rcases this with rfl | rfl | rfl <;> simp [upG, a1, a2, a3]
  · have b1 : c ≠ 114 := by omega
    have b2 : c ≠ 115 := by omega
    have b3 : c ≠ 116 := by omega
    rw [if_neg (fun z => hc ⟨z.1, z.2.1⟩)]
    simp only [upG, b1, b2, b3, false_and, if_false]
    rw [if_neg (fun z => hc ⟨z.1, z.2.1⟩)]
theorem adv_out {U : TS} (h5 : ∀ z, z < 20 → v01 (U.2.2.1 105 (20 + z)) ∧ v01 (U.2.2.1 109 (20 + z))) {nr : Nat} (hn : U.1 322 = Int32.ofNat nr) (hr : nr ≤ 50) : t_790 U = some (mkR (ptI U 321 (Int32.ofNat nr)) (fun c j => if 114 ≤ c ∧ c ≤ 116 ∧ j < nr then U.2.2.1 c (50 + j) else adV U.2.2.1 20 c j)) := by
  have hU : mkR U (adV U.2.2.1 0) = U := by
    refine Prod.ext rfl (Prod.ext rfl (Prod.ext ?_ rfl))
    funext c j
    show adV U.2.2.1 0 c j = _
    unfold adV
    by_cases y1 : c = 108
    · rw [if_pos y1, if_neg (by omega), y1]
    · rw [if_neg y1]
      by_cases y2 : 105 ≤ c ∧ c ≤ 113
      · rw [if_pos y2, if_neg (by omega)]
      · rw [if_neg y2]
        by_cases y3 : 117 ≤ c ∧ c ≤ 120
        · rw [if_pos y3, if_neg (by omega)]
        · rw [if_neg y3]
  suffices q : Tr (t_790 U) (fun x => x = mkR (ptI U 321 (Int32.ofNat nr)) (fun c j => if 114 ≤ c ∧ c ≤ 116 ∧ j < nr then U.2.2.1 c (50 + j) else adV U.2.2.1 20 c j)) by
    obtain ⟨x, h1, h2⟩ := q
    rw [h1, h2]
  unfold t_790
  refine Tr.bd (P := fun x => x = mkR U (adV U.2.2.1 20)) (wh_cnt 20 (fun k a => a = (mkR U (adV U.2.2.1 k), Int32.ofNat k)) ?_ ?_ (by rw [hU]; rfl)) ?_
  · rintro k _ hk rfl
    refine Or.inr ⟨_, ?_, rfl⟩
    dsimp only
    obtain ⟨v1, v2⟩ := h5 k hk
    rw [if_pos ((i_ltL (by omega) (by omega)).mpr hk), cpyB 105 hk, cpyA 106 hk, cpyA 107 hk, adv_in hk, Option.bind_some, cpyB 109 hk, cpyA 110 hk, cpyA 111 hk, cpyA 112 hk, cpyM 113 hk, t_res hk, Option.bind_some, i_suc]
    · refine congrArg (fun z => some (Sum.inl (z, Int32.ofNat (k + 1)))) ?_
      unfold resT
      rw [wr_mk, wr_mk, wr_mk, wr_mk]
      congr 1
      funext c j
      have hkk : ¬ (20 + k < k) := by omega
      by_cases h8 : c = 108
      · subst h8
        have q1 : ¬ (240 + j < 12 * k) := by omega
        rcases Nat.lt_or_ge j (12 * k) with h | h
        · have q2 : ¬ (12 * k ≤ j) := by omega
          have q3 : j < 12 * (k + 1) := by omega
          simp [upG, pcV, adV, h, q2, q3]
        · have q2 : ¬ (j < 12 * k) := by omega
          rcases Nat.lt_or_ge j (12 * k + 12) with h' | h'
          · have q3 : j < 12 * (k + 1) := by omega
            simp [upG, pcV, adV, h, h', q1, q3]
          · have q3 : ¬ j < 12 * (k + 1) := by omega
            have q4 : ¬ j < 12 * k + 12 := by omega
            simp [upG, pcV, adV, q2, q3, q4]
      · by_cases hc : 105 ≤ c ∧ c ≤ 120
        · have this : c = 105 ∨ c = 106 ∨ c = 107 ∨ c = 109 ∨ c = 110 ∨ c = 111 ∨ c = 112 ∨ c = 113 ∨ c = 114 ∨ c = 115 ∨ c = 116 ∨ c = 117 ∨ c = 118 ∨ c = 119 ∨ c = 120 := by omega
          rcases Nat.lt_trichotomy j k with h | h | h
          · have a1 : j ≠ k := by omega
            have a2 : j < k + 1 := by omega
            rcases this with rfl | rfl | rfl | rfl | rfl | rfl | rfl | rfl | rfl | rfl | rfl | rfl | rfl | rfl | rfl <;> simp [upG, pcV, adV, h, a1, a2]
          · subst h
            rcases this with rfl | rfl | rfl | rfl | rfl | rfl | rfl | rfl | rfl | rfl | rfl | rfl | rfl | rfl | rfl <;> simp [upG, pcV, adV, hkk]
          · have a1 : j ≠ k := by omega
            have a2 : ¬ j < k := by omega
            have a3 : ¬ j < k + 1 := by omega
            rcases this with rfl | rfl | rfl | rfl | rfl | rfl | rfl | rfl | rfl | rfl | rfl | rfl | rfl | rfl | rfl <;> simp [upG, pcV, adV, a1, a2, a3]
        · have c1 : ¬ (105 ≤ c ∧ c ≤ 113) := by omega
          have c2 : ¬ (117 ≤ c ∧ c ≤ 120) := by omega
          have b105 : c ≠ 105 := by omega
          have b106 : c ≠ 106 := by omega
          have b107 : c ≠ 107 := by omega
          have b109 : c ≠ 109 := by omega
          have b110 : c ≠ 110 := by omega
          have b111 : c ≠ 111 := by omega
          have b112 : c ≠ 112 := by omega
          have b113 : c ≠ 113 := by omega
          have b114 : c ≠ 114 := by omega
          have b115 : c ≠ 115 := by omega
          have b116 : c ≠ 116 := by omega
          have b117 : c ≠ 117 := by omega
          have b118 : c ≠ 118 := by omega
          have b119 : c ≠ 119 := by omega
          have b120 : c ≠ 120 := by omega
          simp only [upG, pcV, adV, b105, b106, b107, b109, b110, b111, b112, b113, b114, b115, b116, b117, b118, b119, b120, h8, c1, c2, false_and, if_false]
    all_goals simp [upG, pcV, adV, show ¬ (20 + k < k) by omega]
    · exact v2
    · exact v1
  · rintro _ rfl
    refine ⟨_, ?_, rfl⟩
    dsimp only
    rw [if_neg (by decide)]
  · rintro _ rfl
    rw [Option.bind_some]
    have e0 : ptI (mkR U (adV U.2.2.1 20)) 321 ((mkR U (adV U.2.2.1 20)).1 322) = mkR (ptI U 321 (Int32.ofNat nr)) (adV U.2.2.1 20) := by
      show ptI (mkR U (adV U.2.2.1 20)) 321 (U.1 322) = _
      rw [hn]; rfl
    rw [e0]
    refine Tr.bd (P := fun x => x = mkR (ptI U 321 (Int32.ofNat nr)) (fun c j => if 114 ≤ c ∧ c ≤ 116 ∧ j < nr then U.2.2.1 c (50 + j) else adV U.2.2.1 20 c j)) (wh_cnt nr (fun k a => a = (mkR (ptI U 321 (Int32.ofNat nr)) (fun c j => if 114 ≤ c ∧ c ≤ 116 ∧ j < k then U.2.2.1 c (50 + j) else adV U.2.2.1 20 c j), Int32.ofNat k)) ?_ ?_ ?_) (fun x hx => ⟨x, rfl, hx⟩)
    · rintro k _ hk rfl
      refine Or.inr ⟨_, ?_, rfl⟩
      dsimp only
      rw [show (mkR (ptI U 321 (Int32.ofNat nr)) (fun c j => if 114 ≤ c ∧ c ≤ 116 ∧ j < k then U.2.2.1 c (50 + j) else adV U.2.2.1 20 c j)).1 321 = Int32.ofNat nr from rfl, if_pos ((i_lt (by omega) (by omega)).mpr hk), cpyC 114 (by omega), cpyC 115 (by omega), cpyC 116 (by omega), i_suc]
      refine congrArg (fun z => some (Sum.inl (mkR _ z, Int32.ofNat (k + 1)))) ?_
      funext c j
      exact adv_pr c j
    · rintro _ rfl
      refine ⟨_, ?_, rfl⟩
      dsimp only
      rw [show (mkR (ptI U 321 (Int32.ofNat nr)) (fun c j => if 114 ≤ c ∧ c ≤ 116 ∧ j < nr then U.2.2.1 c (50 + j) else adV U.2.2.1 20 c j)).1 321 = Int32.ofNat nr from rfl, if_neg (by rw [i_lt (by omega) (by omega)]; omega)]
    · refine Prod.ext ?_ rfl
      show mkR _ _ = mkR _ _
      congr 1
      funext c j
      rw [if_neg (by omega)]
