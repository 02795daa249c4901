/-! the warden: a zone's points are read -/
noncomputable abbrev zoF (r n : Nat) : CS → Option (CS ⊕ Sum (CS) (Sum (CS) (Nat × CS))) := fun p38 => Option.bind (xN p38 [(47, 0)] 151) (fun a19 => (if isK p38 [13] a19 = true then Option.bind (alSize p38 a19) (fun x20 => (if isK p38 [87] r = true then Option.bind (c_1015 r 0 (x20 - 1) p38) (Sum.elim (fun x21 => (if isK x21.2 [90] n = true then Option.bind (c_1054 n x21.1 x21.2) (fun x23 => Option.bind ((if x23 = 0 then Option.bind (xN x21.2 [(90, 2)] n) (fun a24 => (if isK x21.2 [13] a24 = true then Option.bind (alSize x21.2 a24) (fun x25 => (if x25 < 12 then some 1 else some 0)) else none)) else some 0)) (fun v60 => (if isK x21.2 [87] r = true then Option.bind (c_1016 r v60 x21.2) (Sum.elim (fun x26 => Option.bind (xN x26 [(90, 2)] n) (fun a28 => Option.bind (some (chg x26 1 1)) (fun s29 => (if isK s29 [13] a28 = true then Option.bind (alAdd s29 a28 (.int x21.1)) (fun s30 => (if isK s30 [87] r = true then Option.bind (c_1009 r s30) (fun x31 => (if isK x31 [87] r = true then Option.bind (c_1014 r 51 x31) (fun x32 => (if x32 = 0 then some (.inl x31) else some (.inr (.inl x31)))) else none)) else none)) else none)))) (fun q27 => some (.inr (.inr (.inr (q27.1, q27.2)))))) else none))) else none)) (fun q22 => some (.inr (.inr (.inr (q22.1, q22.2)))))) else none)) else none))
noncomputable abbrev zoG (z : Int32) : TS × Int32 → Option ((TS × Int32) ⊕ TS) := fun p49 => (if p49.2 = 0 then some (.inr p49.1) else (if (p49.1.1 311) < 0 then Option.bind (t_779 0 ((p49.1.1 300) - 1) p49.1) (fun x9 => Option.bind ((if (x9.2.1 311) < 0 then Option.bind (rdI x9.2 107 40 z) (fun x10 => Option.bind ((if x10 < 12 then Option.bind (t_783 z x9.1 x9.2) (fun x11 => (if x11 = 0 then some 1 else some 0)) else some 0)) (fun v80 => Option.bind (t_780 v80 x9.2) (fun x12 => (if x12.1 = 0 then some x12.2 else Option.bind (rdI x12.2 107 40 z) (fun x13 => Option.bind (stI x12.2 108 480 ((12 * z) + x13) x9.1) (fun s14 => Option.bind (rdI s14 107 40 z) (fun x15 => Option.bind (stI s14 107 40 z (x15 + 1)) (fun s16 => Option.bind (some (ptI s16 310 ((s16.1 310) + 1))) (fun s17 => some s17))))))))) else some x9.2)) (fun v108 => Option.bind (t_784 59 v108) (fun x18 => Option.bind ((if x18 = 0 then some 1 else some 0)) (fun v115 => some (.inl (v108, v115)))))) else some (.inr p49.1)))
/-- a new zone in the making -/
def Zc (r n v np : Nat) (nd : Int32) (s sk : CS) (U T : TS) (m : Nat) : Prop := r < n ∧ sk.1 n = some (true, false, 90, [.int (Int32.ofNat v), .int nd, .ref (n + 1)]) ∧ (∃ mc : Int32, sk.1 (n + 1) = some (true, false, 1013, .int mc :: rowC (fun i => .int (T.2.2.1 108 (12 * (20 + v) + i))) m)) ∧ (∀ q, q < n → q ≠ r → sk.1 q = s.1 q) ∧ sk.2.1 = n + 2 ∧ T.2.2.1 107 (20 + v) = Int32.ofNat m ∧ m ≤ 12 ∧ (∀ i, i < m → bel (T.2.2.1 108 (12 * (20 + v) + i)) np) ∧ (∀ c j, ¬ (c = 107 ∧ j = 20 + v) → ¬ (c = 108 ∧ 12 * (20 + v) ≤ j ∧ j < 12 * (20 + v) + 12) → T.2.2.1 c j = U.2.2.1 c j) ∧ T.1 322 = U.1 322
section
variable {s0 s : CS} {U0 U : TS} {b0 r mx zm am rl sz wc w np nr n v : Nat} {nd : Int32} {bg en Z ZP A RW : Nat → Nat}
theorem zo_end {x : Nat} {z : Int32} {T : TS} (h : TWe sz wc x bg en T) : ∃ b, Option.bind (t_784 59 T) (fun x18 => Option.bind ((if x18 = 0 then some (1 : Int32) else some 0)) (fun v115 => some (Sum.inl (β := TS) (T, v115)))) = some (.inl (T, b)) ∧ wh (zoG z) (T, b) = some T := by
  obtain ⟨x4, e4, v4, i4⟩ := t_sign h.1 (c := 59) (by omega)
  have e4 : t_784 59 T = some x4 := e4
  rw [e4]
  have q : ∀ b, zoG z (T, b) = some (.inr T) := fun b => by
    unfold zoG
    dsimp only
    by_cases y : b = 0
    · rw [if_pos y]
    · rw [if_neg y, if_neg h.2]
  refine ⟨if x4 = 0 then 1 else 0, ?_, wh_inr (q _)⟩
  by_cases y : x4 = 0
  · rw [if_pos y]; simp [y]
  · simp [y]
theorem zo_loop (B : Bse s0 b0 sz np (U0.2.2.1 102)) (hb0 : b0 ≤ s0.2.1) (h300 : U0.1 300 = Int32.ofNat np) (hv : v < 20) (hbn : b0 ≤ n) : ∀ (d x : Nat) (sk : CS) (T : TS) (m : Nat), wc - x = d → Md s0 U0 b0 r sz wc bg en x sk T → Zc r n v np nd s sk U T m → sk.2.2.1 + 5 ≤ s0.2.2.1 + 2 * x → sk.2.2.2 + 50 ≤ s0.2.2.2 + 17 * x →
    (∃ sk' T' m' x', wh (zoF r n) sk = some (.inl sk') ∧ wh (zoG (Int32.ofNat (20 + v))) (T, 1) = some T' ∧ Md s0 U0 b0 r sz wc bg en x' sk' T' ∧ x' < wc ∧ x ≤ x' ∧ Zc r n v np nd s sk' U T' m' ∧ sk'.2.2.1 + 5 ≤ s0.2.2.1 + 2 * x' ∧ sk'.2.2.2 + 50 ≤ s0.2.2.2 + 17 * x') ∨
    ∃ e s' T', wh (zoF r n) sk = some (.inr (.inr (e, s'))) ∧ wh (zoG (Int32.ofNat (20 + v))) (T, 1) = some T' ∧ ¬ T'.1 311 < 0 ∧ Er s0 U0 b0 wc e s' T' := by
  intro d
  induction d using Nat.strongRecOn with
  | ind d ih =>
    intro x sk T m hd M C k1 k2
    obtain ⟨c1, c2, ⟨mc, c3⟩, c4, c5, c6, c7, c8, c9, c10⟩ := C
    have hwc := M.1.2.2.1
    have hws := M.1.2.2.2.1
    have hsz := M.1.2.2.2.2.1
    have hr := M.2.2.2.2.2.2.2
    have hw := M.2.2.2.2.1
    obtain ⟨_, ⟨fs, B1⟩, ⟨mcp, P, B2⟩, _, B5, np0, np50⟩ := Bse_cg B M.2.2.2.1
    have hT : T.1 300 = Int32.ofNat np := by rw [M.2.2.1.1 300 (by omega) (by omega) (by omega)]; exact h300
    have enp : Int32.ofNat np - 1 = Int32.ofNat (np - 1) := i_subL (by omega)
    have bad : ∀ {s1 : CS}, Md s0 U0 b0 r sz wc bg en x s1 T → s1.2.2.1 ≤ sk.2.2.1 + 1 → s1.2.2.2 ≤ sk.2.2.2 + 1 → zoF r n sk = some (.inr (.inr (.inr (s1.2.1, wwC s1 (Int32.ofNat x))))) → zoG (Int32.ofNat (20 + v)) (T, 1) = Option.bind (t_784 59 (ptI T 311 (Int32.ofNat x))) (fun x18 => Option.bind ((if x18 = 0 then some (1 : Int32) else some 0)) (fun v115 => some (.inl (ptI T 311 (Int32.ofNat x), v115)))) → ∃ e s' T', wh (zoF r n) sk = some (.inr (.inr (e, s'))) ∧ wh (zoG (Int32.ofNat (20 + v))) (T, 1) = some T' ∧ ¬ T'.1 311 < 0 ∧ Er s0 U0 b0 wc e s' T' := by
      intro s1 M1 l1 l2 e1 e2
      obtain ⟨z1, z2, z3⟩ := TWe_mk M
      obtain ⟨b, f1, f2⟩ := zo_end (z := Int32.ofNat (20 + v)) z1
      exact ⟨_, _, _, wh_inr e1, (wh_inl (e2.trans f1)).trans f2, z1.2, er_mk M1.2.2.2.1 M1.2.2.2.2.1 M1.2.2.2.2.2.1 hb0 z2 z3 hwc (by omega) (by omega)⟩
    have eF : zoF r n sk = Option.bind (c_1015 r 0 (Int32.ofNat (np - 1)) sk) (Sum.elim (fun x21 => (if isK x21.2 [90] n = true then Option.bind (c_1054 n x21.1 x21.2) (fun x23 => Option.bind ((if x23 = 0 then Option.bind (xN x21.2 [(90, 2)] n) (fun a24 => (if isK x21.2 [13] a24 = true then Option.bind (alSize x21.2 a24) (fun x25 => (if x25 < 12 then some 1 else some 0)) else none)) else some 0)) (fun v60 => (if isK x21.2 [87] r = true then Option.bind (c_1016 r v60 x21.2) (Sum.elim (fun x26 => Option.bind (xN x26 [(90, 2)] n) (fun a28 => Option.bind (some (chg x26 1 1)) (fun s29 => (if isK s29 [13] a28 = true then Option.bind (alAdd s29 a28 (.int x21.1)) (fun s30 => (if isK s30 [87] r = true then Option.bind (c_1009 r s30) (fun x31 => (if isK x31 [87] r = true then Option.bind (c_1014 r 51 x31) (fun x32 => (if x32 = 0 then some (.inl x31) else some (.inr (.inl x31)))) else none)) else none)) else none)))) (fun q27 => some (.inr (.inr (.inr (q27.1, q27.2)))))) else none))) else none)) (fun q22 => some (.inr (.inr (.inr (q22.1, q22.2)))))) := by
      unfold zoF
      rw [xN_o (b := 152) B1 rfl rfl, Option.bind_some, if_pos (isK_t B2 rfl), alSize_r B2, Option.bind_some, if_pos (isK_t hr rfl), enp]
    have eG : zoG (Int32.ofNat (20 + v)) (T, 1) = Option.bind (t_779 0 (Int32.ofNat (np - 1)) T) (fun x9 => Option.bind ((if (x9.2.1 311) < 0 then Option.bind (rdI x9.2 107 40 (Int32.ofNat (20 + v))) (fun x10 => Option.bind ((if x10 < 12 then Option.bind (t_783 (Int32.ofNat (20 + v)) x9.1 x9.2) (fun x11 => (if x11 = 0 then some 1 else some 0)) else some 0)) (fun v80 => Option.bind (t_780 v80 x9.2) (fun x12 => (if x12.1 = 0 then some x12.2 else Option.bind (rdI x12.2 107 40 (Int32.ofNat (20 + v))) (fun x13 => Option.bind (stI x12.2 108 480 ((12 * (Int32.ofNat (20 + v))) + x13) x9.1) (fun s14 => Option.bind (rdI s14 107 40 (Int32.ofNat (20 + v))) (fun x15 => Option.bind (stI s14 107 40 (Int32.ofNat (20 + v)) (x15 + 1)) (fun s16 => Option.bind (some (ptI s16 310 ((s16.1 310) + 1))) (fun s17 => some s17))))))))) else some x9.2)) (fun v108 => Option.bind (t_784 59 v108) (fun x18 => Option.bind ((if x18 = 0 then some (1 : Int32) else some 0)) (fun v115 => some (.inl (v108, v115)))))) := by
      unfold zoG
      dsimp only
      rw [if_neg (show ¬ (1 : Int32) = 0 by decide), if_pos M.2.1, hT, enp]
    rcases md_pk B M (np - 1) (by omega) with ⟨y1, p, hp, e3, e4, e5, e6⟩ | ⟨e3, e4, e6⟩
    · have cH := c_hasP (g := fun i => T.2.2.1 108 (12 * (20 + v) + i)) c2 c3 c7 (Int32.ofNat p)
      have tH := t_hasP (T := T) (z := 20 + v) (by omega) c6 c7 (Int32.ofNat p)
      rw [e3] at eF
      rw [e4] at eG
      rw [Option.bind_some, Sum.elim_inl, if_pos (isK_t c2 rfl), cH, Option.bind_some] at eF
      rw [Option.bind_some] at eG
      dsimp only at eG
      rw [if_pos M.2.1, rdI_n (by omega) (by omega), Option.bind_some, c6, tH] at eG
      have eo : (if (if hasB (fun i => T.2.2.1 108 (12 * (20 + v) + i)) m (Int32.ofNat p) = true then (1 : Int32) else 0) = 0 then Option.bind (xN sk [(90, 2)] n) (fun a24 => (if isK sk [13] a24 = true then Option.bind (alSize sk a24) (fun x25 => (if x25 < 12 then some (1 : Int32) else some 0)) else none)) else some 0) = some (if m < 12 ∧ hasB (fun i => T.2.2.1 108 (12 * (20 + v) + i)) m (Int32.ofNat p) = false then 1 else 0) := by
        cases hh : hasB (fun i => T.2.2.1 108 (12 * (20 + v) + i)) m (Int32.ofNat p) with
        | true => simp
        | false =>
          rw [if_pos (show (if false = true then (1 : Int32) else 0) = 0 from rfl), xN_o (b := n + 1) c2 rfl rfl, Option.bind_some, if_pos (isK_t c3 rfl), alSize_r c3, Option.bind_some]
          by_cases z : m < 12
          · rw [if_pos ((i_ltL (by omega) (by omega)).mpr z)]; simp [z]
          · rw [if_neg (by rw [i_ltL (by omega) (by omega)]; exact z)]; simp [z]
      have to : (if Int32.ofNat m < 12 then Option.bind (some (if hasB (fun i => T.2.2.1 108 (12 * (20 + v) + i)) m (Int32.ofNat p) = true then (1 : Int32) else 0)) (fun x11 => if x11 = 0 then some (1 : Int32) else some 0) else some 0) = some (if m < 12 ∧ hasB (fun i => T.2.2.1 108 (12 * (20 + v) + i)) m (Int32.ofNat p) = false then 1 else 0) := by
        by_cases z : m < 12
        · rw [if_pos ((i_ltL (by omega) (by omega)).mpr z)]
          cases hh : hasB (fun i => T.2.2.1 108 (12 * (20 + v) + i)) m (Int32.ofNat p) <;> simp [z]
        · rw [if_neg (by rw [i_ltL (by omega) (by omega)]; exact z)]; simp [z]
      rw [eo, Option.bind_some, if_pos (isK_t hr rfl)] at eF
      rw [to, Option.bind_some] at eG
      by_cases y2 : m < 12 ∧ hasB (fun i => T.2.2.1 108 (12 * (20 + v) + i)) m (Int32.ofNat p) = false
      · rw [if_pos y2, c_wok (by decide), Option.bind_some, Sum.elim_inl, xN_o (b := n + 1) c2 rfl rfl, Option.bind_some, Option.bind_some] at eF
        have c3' : (chg sk 1 1).1 (n + 1) = _ := c3
        rw [if_pos (isK_t c3' rfl), alAdd_r c3' (by omega) elO_i, Option.bind_some] at eF
        have a1 : (12 : Int32) * Int32.ofNat (20 + v) = Int32.ofNat (12 * (20 + v)) := i_mul 12 _
        rw [if_pos y2, tw_ok M.2.1, Option.bind_some] at eG
        dsimp only at eG
        rw [if_neg (show ¬ (1 : Int32) = 0 by decide), rdI_n (by omega) (by omega), Option.bind_some, c6, a1, i_add, stI_n (by omega) (by omega), Option.bind_some, rdI_n (by omega) (by omega), Option.bind_some, wr_at, if_neg (by omega), c6, i_suc, stI_n (by omega) (by omega), Option.bind_some, Option.bind_some, Option.bind_some, show (wrI (wrI T 108 (12 * (20 + v) + m) (Int32.ofNat p)) 107 (20 + v) (Int32.ofNat (m + 1))).1 310 = Int32.ofNat x from M.1.2.1, i_suc] at eG
        have M1 := Md_wr (Md_wr (Md_cup (Md_chg (Md_chg M 1 1) 1 16) (a := n + 1) (true, false, 1013, .int (mc + 1) :: rowC (fun j => if j = m then .int (Int32.ofNat p) else .int (T.2.2.1 108 (12 * (20 + v) + j))) (m + 1)) (by omega) (by show n + 1 < sk.2.1; omega) (by omega)) (c := 108) (k := 12 * (20 + v) + m) (by unfold upE; omega) (Int32.ofNat p)) (c := 107) (k := 20 + v) (by unfold upE; omega) (Int32.ofNat (m + 1))
        have M1 : Md s0 U0 b0 r sz wc bg en x (cput (chg sk 1 1) 1013 (n + 1) 1 16 (.int (mc + 1) :: rowC (fun j => if j = m then .int (Int32.ofNat p) else .int (T.2.2.1 108 (12 * (20 + v) + j))) (m + 1))) _ := M1
        have M2 := Md_nx M1 y1
        rw [if_pos (isK_t M1.2.2.2.2.2.2.2 rfl), c_nxM B M1 y1, Option.bind_some] at eF
        have C2 : Zc r n v np nd s (nxC r sz wc bg en x (cput (chg sk 1 1) 1013 (n + 1) 1 16 (.int (mc + 1) :: rowC (fun j => if j = m then .int (Int32.ofNat p) else .int (T.2.2.1 108 (12 * (20 + v) + j))) (m + 1)))) U (ptI (wrI (wrI T 108 (12 * (20 + v) + m) (Int32.ofNat p)) 107 (20 + v) (Int32.ofNat (m + 1))) 310 (Int32.ofNat (x + 1))) (m + 1) := by
          have hrow : ∀ c j, (ptI (wrI (wrI T 108 (12 * (20 + v) + m) (Int32.ofNat p)) 107 (20 + v) (Int32.ofNat (m + 1))) 310 (Int32.ofNat (x + 1))).2.2.1 c j = if c = 107 ∧ j = 20 + v then Int32.ofNat (m + 1) else if c = 108 ∧ j = 12 * (20 + v) + m then Int32.ofNat p else T.2.2.1 c j := fun c j => rfl
          unfold Zc nxC
          simp only [hrow]
          refine ⟨c1, ?_, ⟨mc + 1, ?_⟩, fun q h1 h2 => ?_, c5, ?_, y2.1, fun i hi => ?_, fun c j h1 h2 => ?_, c10⟩
          · rw [cup_ne (by omega), cput_ne (by omega)]; exact c2
          · rw [cup_ne (by omega), cput_eq]
            refine congrArg (fun l => some (true, false, 1013, Value.int (mc + 1) :: l)) (rowC_congr (fun j hj => ?_))
            by_cases z : j = m
            · simp [z]
            · simp [z]
          · rw [cup_ne h2, cput_ne (by omega)]; exact c4 q h1 h2
          · simp
          · by_cases z : i = m
            · simp only [z]; simp; exact ⟨p, by omega, rfl⟩
            · have := c8 i (by omega); simpa [z] using this
          · rw [if_neg h1, if_neg (by omega)]; exact c9 c j h1 h2
        have k1' : (nxC r sz wc bg en x (cput (chg sk 1 1) 1013 (n + 1) 1 16 (.int (mc + 1) :: rowC (fun j => if j = m then .int (Int32.ofNat p) else .int (T.2.2.1 108 (12 * (20 + v) + j))) (m + 1)))).2.2.1 + 5 ≤ s0.2.2.1 + 2 * (x + 1) := by show sk.2.2.1 + 1 + 1 + 5 ≤ _; omega
        have k2' : (nxC r sz wc bg en x (cput (chg sk 1 1) 1013 (n + 1) 1 16 (.int (mc + 1) :: rowC (fun j => if j = m then .int (Int32.ofNat p) else .int (T.2.2.1 108 (12 * (20 + v) + j))) (m + 1)))).2.2.2 + 50 ≤ s0.2.2.2 + 17 * (x + 1) := by show sk.2.2.2 + 1 + 16 + 50 ≤ _; omega
        generalize nxC r sz wc bg en x (cput (chg sk 1 1) 1013 (n + 1) 1 16 (.int (mc + 1) :: rowC (fun j => if j = m then .int (Int32.ofNat p) else .int (T.2.2.1 108 (12 * (20 + v) + j))) (m + 1))) = sk2 at eF M2 C2 k1' k2'
        generalize ptI (wrI (wrI T 108 (12 * (20 + v) + m) (Int32.ofNat p)) 107 (20 + v) (Int32.ofNat (m + 1))) 310 (Int32.ofNat (x + 1)) = T2 at eG M2 C2
        have hq : sk2.1 51 = some (false, false, 1000, txV [59]) := (Bse_cg B M2.2.2.2.1).2.2.2.2.1 (51, [59]) (by decide)
        obtain ⟨x3, f3, v3, i3⟩ := c_is (Md_tx B M2) hsz M2.1.2.2.2.2.2.2.2 M2.1.2.2.1 M2.2.2.2.2.2.2.2 hq (by decide) (by decide)
        obtain ⟨x4, f4, v4, i4⟩ := t_sign M2.1 (c := 59) (by omega)
        have : x3 = x4 := by
          rcases v3 with z3 | z3 <;> rcases v4 with z4 | z4
          · rw [z3, z4]
          · have := i3.mpr (i4.mp z4); rw [z3] at this; cases this
          · have := i4.mpr (i3.mp z3); rw [z4] at this; cases this
          · rw [z3, z4]
        subst this
        have f4 : t_784 59 T2 = some x3 := f4
        rw [if_pos (isK_t M2.2.2.2.2.2.2.2 rfl), f3, Option.bind_some] at eF
        rw [f4, Option.bind_some] at eG
        rcases v3 with rfl | rfl
        · rw [if_pos rfl] at eF
          rw [if_pos rfl, Option.bind_some] at eG
          rcases ih (wc - (x + 1)) (by omega) (x + 1) sk2 T2 (m + 1) rfl M2 C2 k1' k2' with ⟨sk', T', m', x', g1, g2, g3, g4, g5, g6⟩ | ⟨e, s', T', g1, g2, g3⟩
          · exact Or.inl ⟨sk', T', m', x', (wh_inl eF).trans g1, (wh_inl eG).trans g2, g3, g4, by omega, g6⟩
          · exact Or.inr ⟨e, s', T', (wh_inl eF).trans g1, (wh_inl eG).trans g2, g3⟩
        · rw [if_neg (show ¬ (1 : Int32) = 0 by decide)] at eF
          rw [if_neg (show ¬ (1 : Int32) = 0 by decide), Option.bind_some] at eG
          refine Or.inl ⟨sk2, T2, m + 1, x + 1, wh_inr eF, (wh_inl eG).trans (wh_inr ?_), M2, (i3.mp rfl).1, by omega, C2, k1', k2'⟩
          unfold zoG
          dsimp only
          rw [if_pos rfl]
      · rw [if_neg y2, c_ww hw hr] at eF
        rw [if_neg y2, tw_no M.2.1 M.1.2.1 (by omega), Option.bind_some] at eG
        dsimp only at eG
        rw [if_pos rfl, Option.bind_some] at eG
        exact Or.inr (bad M (Nat.le_succ _) (Nat.le_succ _) eF eG)
    · rw [e3] at eF
      rw [e4, Option.bind_some] at eG
      dsimp only at eG
      rw [if_neg (TWe_mk M).1.2, Option.bind_some] at eG
      exact Or.inr (bad M (Nat.le_succ _) (Nat.le_succ _) eF eG)
end
