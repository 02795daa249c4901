/-! the plan: a ring begins at its least point -/
section
variable {L : PLn} {nl : Nat} {LC LD : Nat → Nat} {b0 : Nat} {h h' h0 : lHeap} {s : CS} {mp : Nat} {pid nid aid : Nat → Nat → Nat} {si : Nat → Nat} {rv : Nat → Value}
theorem lpt_le {s0 : Nat} : ∀ (i j : Nat), j < i → lpt L nl s0 i ≤ 25 * sX L nl (itn (gNx L nl) j s0) + sY L nl (itn (gNx L nl) j s0) := by
  intro i
  induction i with
  | zero => intro j hj; exact absurd hj (Nat.not_lt_zero _)
  | succ i ih =>
    intro j hj
    unfold lpt
    by_cases e : j = i
    · rw [e]; split <;> omega
    · have := ih j (by omega)
      split <;> omega
/-- the side where a ring begins -/
theorem st_ex (hg : gdL L nl) {s0 m : Nat} (hs : s0 < 2 * nP L nl) (hm0 : 0 < m) : ∃ d st, d < 4 ∧ st ∈ orb (gNx L nl) m s0 ∧ lvF L nl (lpt L nl s0 m / 25 : Nat) (lpt L nl s0 m % 25 : Nat) d = some st ∧ (∀ e, e < d → ∀ q, lvF L nl (lpt L nl s0 m / 25 : Nat) (lpt L nl s0 m % 25 : Nat) e = some q → q ∉ orb (gNx L nl) m s0) ∧ ∀ q ∈ orb (gNx L nl) m s0, kyS L nl st ≤ kyS L nl q := by
  have p1 := (lpt_pt hg hs m).1
  have p2 := pt_lt hg p1
  have h1 : ∃ d, d < 4 ∧ ∃ q, lvF L nl (lpt L nl s0 m / 25 : Nat) (lpt L nl s0 m % 25 : Nat) d = some q ∧ q ∈ orb (gNx L nl) m s0 := by
    obtain ⟨j, j1, j2, j3⟩ := lpt_at hg hs m
    have hj := itn_lt gNx_lt hs j
    have b := sX_i hg hj
    refine ⟨gdr (gS L nl) (itn (gNx L nl) j s0), gS_d4 hj, itn (gNx L nl) j s0, ?_, orb_mem.mpr ⟨j, by omega, rfl⟩⟩
    exact lv_cut hg hj ⟨by rw [b.1, j3]; omega, by rw [b.2.1, j3]; omega, rfl⟩
  obtain ⟨d, ⟨d4, st, d1, d2⟩, d3⟩ := lst_nat h1
  refine ⟨d, st, d4, d2, d1, fun e he q hq hm => d3 e he ⟨by omega, q, hq, hm⟩, fun q hq => ?_⟩
  obtain ⟨hst, s1, s2, s3⟩ := lvF_some d1
  obtain ⟨j, hj, rfl⟩ := orb_mem.mp hq
  have hqj := itn_lt gNx_lt hs j
  have b := sX_i hg hqj
  have le := lpt_le (L := L) (nl := nl) (s0 := s0) m j hj
  have d4' := gS_d4 hqj
  unfold kyS
  rw [s1, s2, s3, b.1, b.2.1]
  by_cases e : lpt L nl s0 m = 25 * sX L nl (itn (gNx L nl) j s0) + sY L nl (itn (gNx L nl) j s0)
  · have : ¬ gdr (gS L nl) (itn (gNx L nl) j s0) < d := fun z => by
      refine d3 _ z ⟨d4', itn (gNx L nl) j s0, ?_, hq⟩
      exact lv_cut hg hqj ⟨by rw [b.1, e]; omega, by rw [b.2.1, e]; omega, rfl⟩
    omega
  · omega
/-- what a ring needs to know of sides -/
def rvOk (L : PLn) (nl : Nat) (s : CS) (R s0 m : Nat) (rv : Nat → Value) : Prop := ∀ k, k < 2 * nP L nl → (rv k = .ref R ↔ k ∈ orb (gNx L nl) m s0) ∧ ∃ o, rv k = vR o ∧ nst s (vR o) = true
theorem c_first (hg : gdL L nl) (r : GSt b0 s.1 L nl LC mp pid nid aid si rv) {R s0 m lst : Nat} {tv sp : Value} (hR : s.1 R = some (true, false, 66, [.ref lst, .ref (nid (lpt L nl s0 m / 25) (lpt L nl s0 m % 25)), tv, sp])) (hs : s0 < 2 * nP L nl) (hv : rvOk L nl s R s0 m rv) {d st : Nat} (hd : d < 4) (h1 : st ∈ orb (gNx L nl) m s0) (h2 : lvF L nl (lpt L nl s0 m / 25 : Nat) (lpt L nl s0 m % 25 : Nat) d = some st) (h3 : ∀ e, e < d → ∀ q, lvF L nl (lpt L nl s0 m / 25 : Nat) (lpt L nl s0 m % 25 : Nat) e = some q → q ∉ orb (gNx L nl) m s0) : c_887 R s = some (some (si st)) := by
  have p1 := (lpt_pt hg hs m).1
  obtain ⟨_, _, _, _, _, q6, q7, q8⟩ := r.1.2.1 _ _ p1
  have q9 : s.1 (aid (lpt L nl s0 m / 25) (lpt L nl s0 m % 25)) = some (true, true, 7, rowC (fun e => vR ((lvF L nl (lpt L nl s0 m / 25 : Nat) (lpt L nl s0 m % 25 : Nat) e).map si)) 4) := by
    rw [q8]
    refine congrArg (fun l => some (true, true, 7, l)) (rowC_congr (fun e _ => by rw [lvC_all]))
  unfold c_887
  have key : Tr (wh (S := Int32) (X := Sum (Int32) (Sum (Unit) (Option Nat))) (fun p2 => (if p2 < 4 then Option.bind (xN s [(66, 1)] R) (fun a1 => Option.bind (xN s [(64, 1)] a1) (fun a2 => Option.bind (aR s a2 p2) (fun r3 => Option.bind (α := Sum (Unit) (Sum (Int32) (Sum (Int32) (Sum (Unit) (Option Nat))))) ((if r3 = none then some (.inl ()) else Option.bind (xN s [(66, 1)] R) (fun a4 => Option.bind (xN s [(64, 1)] a4) (fun a5 => Option.bind (aN s a5 p2) (fun a7 => Option.bind (xR s [(65, 5)] a7) (fun r8 => (if r8 = some R then some (.inr (.inr (.inl p2))) else (if nst s (vR r8) = true then some (.inl ()) else none)))))))) (Sum.elim (fun v25 => some (.inl (p2 + 1))) (fun z => some z))))) else some (.inr (.inr (.inl ()))))) 0) (fun x => x = .inl (Int32.ofNat d)) := by
    refine wh_cnt d (fun e a => a = Int32.ofNat e) ?_ ?_ rfl
    · rintro e _ he rfl
      right
      rw [if_pos ((i_ltL (by omega) (by omega)).mpr (by omega)), xN_o (b := nid (lpt L nl s0 m / 25) (lpt L nl s0 m % 25)) hR rfl rfl]; repeat (first | rw [Option.bind_some] | rw [Sum.elim_inl] | rw [Sum.elim_inr])
      rw [xN_o (b := aid (lpt L nl s0 m / 25) (lpt L nl s0 m % 25)) q7 rfl rfl]; repeat (first | rw [Option.bind_some] | rw [Sum.elim_inl] | rw [Sum.elim_inr])
      rw [aR_out q9 (show e < 4 by omega)]; repeat (first | rw [Option.bind_some] | rw [Sum.elim_inl] | rw [Sum.elim_inr])
      rw [i_suc]
      refine ⟨_, ?_, rfl⟩
      cases hl : lvF L nl (lpt L nl s0 m / 25 : Nat) (lpt L nl s0 m % 25 : Nat) e with
      | none => rw [Option.map_none, if_pos rfl]; rfl
      | some q =>
        have hq := (lvF_some hl).1
        have hno := h3 e he q hl
        obtain ⟨v1, o, v2, v3⟩ := hv q hq
        have en : aN s (aid (lpt L nl s0 m / 25) (lpt L nl s0 m % 25)) (Int32.ofNat e) = some (si q) := by
          unfold aN
          rw [aV_r q9 (by omega) rfl (show e < 4 by omega) (by omega), Option.bind_some, hl]
          rfl
        have ex : xR s [(65, 5)] (si q) = some o := by
          unfold xR
          rw [xV_o (r.2.1 q hq).2 rfl (v := rv q) rfl, Option.bind_some, v2, vR_toO]
        rw [Option.map_some, if_neg (by simp), en]; repeat (first | rw [Option.bind_some] | rw [Sum.elim_inl] | rw [Sum.elim_inr])
        rw [ex]; repeat (first | rw [Option.bind_some] | rw [Sum.elim_inl] | rw [Sum.elim_inr])
        have ne : ¬ o = some R := fun z => hno (v1.mp (by rw [v2, z]; rfl))
        rw [if_neg ne, if_pos v3]; rfl
    · rintro _ rfl
      have hq := (lvF_some h2).1
      obtain ⟨v1, o, v2, v3⟩ := hv st hq
      have en : aN s (aid (lpt L nl s0 m / 25) (lpt L nl s0 m % 25)) (Int32.ofNat d) = some (si st) := by
        unfold aN
        rw [aV_r q9 (by omega) rfl hd (by omega), Option.bind_some, h2]
        rfl
      have ex : xR s [(65, 5)] (si st) = some (some R) := by
        unfold xR
        rw [xV_o (r.2.1 st hq).2 rfl (v := rv st) rfl, Option.bind_some, v1.mpr h1]
        rfl
      refine ⟨_, ?_, rfl⟩
      rw [if_pos ((i_ltL (by omega) (by omega)).mpr (by omega)), xN_o (b := nid (lpt L nl s0 m / 25) (lpt L nl s0 m % 25)) hR rfl rfl]; repeat (first | rw [Option.bind_some] | rw [Sum.elim_inl] | rw [Sum.elim_inr])
      rw [xN_o (b := aid (lpt L nl s0 m / 25) (lpt L nl s0 m % 25)) q7 rfl rfl]; repeat (first | rw [Option.bind_some] | rw [Sum.elim_inl] | rw [Sum.elim_inr])
      rw [aR_out q9 hd]; repeat (first | rw [Option.bind_some] | rw [Sum.elim_inl] | rw [Sum.elim_inr])
      rw [h2, Option.map_some, if_neg (by simp), en]; repeat (first | rw [Option.bind_some] | rw [Sum.elim_inl] | rw [Sum.elim_inr])
      rw [ex]; repeat (first | rw [Option.bind_some] | rw [Sum.elim_inl] | rw [Sum.elim_inr])
      rw [if_pos rfl]; repeat (first | rw [Option.bind_some] | rw [Sum.elim_inl] | rw [Sum.elim_inr])
  obtain ⟨x, e, rfl⟩ := key
  rw [e]; repeat (first | rw [Option.bind_some] | rw [Sum.elim_inl] | rw [Sum.elim_inr])
  rw [xN_o (b := nid (lpt L nl s0 m / 25) (lpt L nl s0 m % 25)) hR rfl rfl]; repeat (first | rw [Option.bind_some] | rw [Sum.elim_inl] | rw [Sum.elim_inr])
  rw [xN_o (b := aid (lpt L nl s0 m / 25) (lpt L nl s0 m % 25)) q7 rfl rfl]; repeat (first | rw [Option.bind_some] | rw [Sum.elim_inl] | rw [Sum.elim_inr])
  rw [aR_out q9 hd, h2]; repeat (first | rw [Option.bind_some] | rw [Sum.elim_inl] | rw [Sum.elim_inr])
  rfl
theorem i_modN {a m : Nat} (ha : a < 2147483648) (hm : m < 2147483648) : Int32.ofNat a - Int32.ofNat a / Int32.ofNat m * Int32.ofNat m = Int32.ofNat (a % m) := by
  rw [i_div ha hm, i_mul, i_sub (Nat.div_mul_le_self a m)]
  congr 1
  have := Nat.div_add_mod a m
  rw [Nat.mul_comm] at this
  omega
theorem itn_mod {f : Nat → Nat} {m s0 : Nat} (h : itn f m s0 = s0) (k : Nat) : itn f k s0 = itn f (k % m) s0 := by
  have key : ∀ q r, itn f (r + m * q) s0 = itn f r s0 := by
    intro q
    induction q with
    | zero => intro r; rw [Nat.mul_zero, Nat.add_zero]
    | succ q ih =>
      intro r
      rw [Nat.mul_succ, show r + (m * q + m) = (r + m * q) + m by omega, itn_add, h, ih]
  have := key (k / m) (k % m)
  rw [Nat.mod_add_div] at this
  exact this
theorem c_begin (hg : gdL L nl) (hw : wfS s) (r : GSt b0 s.1 L nl LC mp pid nid aid si rv) {R s0 m lst : Nat} {tv sp : Value} {mc : Int32} (hR : s.1 R = some (true, false, 66, [.ref lst, .ref (nid (lpt L nl s0 m / 25) (lpt L nl s0 m % 25)), tv, sp])) (hl : s.1 lst = some (true, false, 1013, .int mc :: rowC (fun j => .ref (si (itn (gNx L nl) j s0))) m)) (hs : s0 < 2 * nP L nl) (hm0 : 0 < m) (hmN : m ≤ 2 * nP L nl) (hm : itn (gNx L nl) m s0 = s0) (hv : rvOk L nl s R s0 m rv) :
    ∃ s' st mc', c_886 R s = some s' ∧ st ∈ orb (gNx L nl) m s0 ∧ (∀ q ∈ orb (gNx L nl) m s0, kyS L nl st ≤ kyS L nl q) ∧ lpt L nl s0 m = 25 * sX L nl st + sY L nl st ∧ wfS s' ∧ s'.1 lst = some (true, false, 1013, .int mc' :: rowC (fun j => .ref (si (itn (gNx L nl) j st))) m) ∧ (∀ q, q < s.2.1 → q ≠ lst → s'.1 q = s.1 q) ∧ s'.2.1 = s.2.1 + 1 ∧ s'.2.2.1 = s.2.2.1 + 3 + m ∧ s'.2.2.2 = s.2.2.2 + 19 + 33 * m := by
  have hN := nP_le hg
  obtain ⟨d, st, d4, d1, d2, d3, d5⟩ := st_ex hg hs hm0
  have hfst : ∀ S : CS, S.1 = s.1 → c_887 R S = some (some (si st)) := by
    intro S e
    refine c_first (s := S) hg (by rw [e]; exact r) (by rw [e]; exact hR) hs (fun k hk => ?_) d4 d1 d2 d3
    obtain ⟨v1, o, v2, v3⟩ := hv k hk
    refine ⟨v1, o, v2, ?_⟩
    have : nst S (vR o) = nst s (vR o) := by unfold nst; rw [e]
    rw [this]; exact v3
  obtain ⟨hst, st1, st2, st3⟩ := lvF_some d2
  obtain ⟨j0, hj0, ej0⟩ := orb_mem.mp d1
  -- the first place of st
  obtain ⟨ja, ⟨ja1, ja2⟩, ja3⟩ := lst_nat (P := fun j => j < m ∧ itn (gNx L nl) j s0 = st) ⟨j0, hj0, ej0⟩
  have ltl := wf_lt hw hl
  have ltR := wf_lt hw hR
  unfold c_886
  have k1 : Tr (wh (S := Int32) (X := Int32) (fun p2 => Option.bind (xN s [(66, 0)] R) (fun a1 => (if isK s [13] a1 = true then Option.bind (alGet s a1 p2) (fun e2 => (if isK s [66] R = true then Option.bind (c_887 R s) (fun x3 => (if e2 = vR x3 then some (.inr p2) else (if nst s (e2) = true then some (.inl (p2 + 1)) else none))) else none)) else none))) 0) (fun x => x = Int32.ofNat ja) := by
    refine wh_cnt ja (fun e a => a = Int32.ofNat e) ?_ ?_ rfl
    · rintro e _ he rfl
      right
      have hk := itn_lt gNx_lt hs e
      rw [xN_o (b := lst) hR rfl rfl]; repeat (first | rw [Option.bind_some] | rw [Sum.elim_inl] | rw [Sum.elim_inr])
      rw [if_pos (isK_t hl rfl), alGet_r hl (show e < m by omega) (by omega)]; repeat (first | rw [Option.bind_some] | rw [Sum.elim_inl] | rw [Sum.elim_inr])
      rw [if_pos (isK_t hR rfl), hfst s rfl]; repeat (first | rw [Option.bind_some] | rw [Sum.elim_inl] | rw [Sum.elim_inr])
      have ne : ¬ Value.ref (si (itn (gNx L nl) e s0)) = vR (some (si st)) := fun z => by
        have z : si (itn (gNx L nl) e s0) = si st := Value.ref.inj z
        exact ja3 e he ⟨by omega, r.2.2 _ _ hk hst z⟩
      rw [if_neg ne, if_pos (show nst s (.ref (si (itn (gNx L nl) e s0))) = true by show (match s.1 (si (itn (gNx L nl) e s0)) with | some x => x.2.2.1 != 1000 | none => false) = true; rw [(r.2.1 _ hk).2]; rfl), i_suc]
      exact ⟨_, rfl, rfl⟩
    · rintro _ rfl
      rw [xN_o (b := lst) hR rfl rfl]; repeat (first | rw [Option.bind_some] | rw [Sum.elim_inl] | rw [Sum.elim_inr])
      rw [if_pos (isK_t hl rfl), alGet_r hl ja1 (by omega)]; repeat (first | rw [Option.bind_some] | rw [Sum.elim_inl] | rw [Sum.elim_inr])
      rw [if_pos (isK_t hR rfl), hfst s rfl]; repeat (first | rw [Option.bind_some] | rw [Sum.elim_inl] | rw [Sum.elim_inr])
      rw [ja2, if_pos (show Value.ref (si st) = vR (some (si st)) from rfl)]
      exact ⟨_, rfl, rfl⟩
  obtain ⟨_, e1, rfl⟩ := k1
  rw [e1]; repeat (first | rw [Option.bind_some] | rw [Sum.elim_inl] | rw [Sum.elim_inr])
  obtain ⟨S1, z1, w1⟩ := nw_o (s := s) 13 [.int 0, .null, .int 0] hw
  rw [z1]
  dsimp only
  rw [if_pos (isK_t w1.1 rfl), alInit_o w1.1]; repeat (first | rw [Option.bind_some] | rw [Sum.elim_inl] | rw [Sum.elim_inr])
  have o1 : ∀ q, q ≠ s.2.1 → (cup S1 s.2.1 (true, false, 1013, [.int 0])).1 q = s.1 q := fun q hq => by rw [cup_ne hq, w1.2.1 q hq]
  have nRl : R ≠ lst := apart hR hl (by show ¬ (66 : Nat) = 1013; decide)
  refine Exists.elim (Tr.bd (o := wh (S := CS × Int32) (X := CS) (fun p17 => Option.bind (xN p17.1 [(66, 0)] R) (fun a6 => (if isK p17.1 [13] a6 = true then Option.bind (alSize p17.1 a6) (fun x7 => (if p17.2 < x7 then Option.bind (xN p17.1 [(66, 0)] R) (fun a8 => Option.bind (xN p17.1 [(66, 0)] R) (fun a9 => (if isK p17.1 [13] a9 = true then Option.bind (alSize p17.1 a9) (fun x10 => (if x10 = 0 then none else (if isK p17.1 [13] a8 = true then Option.bind (alGet p17.1 a8 ((Int32.ofNat ja + p17.2) - (Int32.ofNat ja + p17.2) / x10 * x10)) (fun e11 => Option.bind (toN p17.1 [65] e11) (fun a12 => (if isK p17.1 [13] s.2.1 = true then Option.bind (alAdd p17.1 s.2.1 (.ref a12)) (fun s13 => some (.inl (s13, p17.2 + 1))) else none))) else none))) else none))) else some (.inr p17.1))) else none))) (cup S1 s.2.1 (true, false, 1013, [.int 0]), 0)) (f := fun v38 => Option.bind (xN v38 [(66, 0)] R) (fun a14 => (if isK v38 [13] a14 = true then Option.bind (alClear v38 a14) (fun s15 => Option.bind (xN s15 [(66, 0)] R) (fun a16 => (if isK s15 [13] a16 = true then Option.bind (alAddAll s15 a16 s.2.1) (fun x17 => some x17.2) else none))) else none))) (P := fun U => ∃ mu : Int32, wfS U ∧ U.1 s.2.1 = some (true, false, 1013, .int mu :: rowC (fun j => .ref (si (itn (gNx L nl) j st))) m) ∧ (∀ q, q ≠ s.2.1 → U.1 q = s.1 q) ∧ U.2.1 = s.2.1 + 1 ∧ U.2.2.1 = s.2.2.1 + 1 + m ∧ U.2.2.2 = s.2.2.2 + 3 + 16 * m) (Q := fun s' => ∃ mc' : Int32, wfS s' ∧ s'.1 lst = some (true, false, 1013, .int mc' :: rowC (fun j => .ref (si (itn (gNx L nl) j st))) m) ∧ (∀ q, q < s.2.1 → q ≠ lst → s'.1 q = s.1 q) ∧ s'.2.1 = s.2.1 + 1 ∧ s'.2.2.1 = s.2.2.1 + 3 + m ∧ s'.2.2.2 = s.2.2.2 + 19 + 33 * m) (wh_cnt m (fun k a => a.2 = Int32.ofNat k ∧ ∃ mu : Int32, wfS a.1 ∧ a.1.1 s.2.1 = some (true, false, 1013, .int mu :: rowC (fun j => .ref (si (itn (gNx L nl) j st))) k) ∧ (∀ q, q ≠ s.2.1 → a.1.1 q = s.1 q) ∧ a.1.2.1 = s.2.1 + 1 ∧ a.1.2.2.1 = s.2.2.1 + 1 + k ∧ a.1.2.2.2 = s.2.2.2 + 3 + 16 * k) ?_ ?_ ⟨rfl, 0, wf_cup w1.2.2.2.1 (by rw [w1.2.2.1]; omega), cup_eq .., o1, w1.2.2.1, w1.2.2.2.2.1, w1.2.2.2.2.2⟩) ?_) ?_
  · rintro k ⟨U, _⟩ hk ⟨rfl, mu, u1, u2, u3, u4, u5, u6⟩
    right
    dsimp only at u1 u2 u3 u4 u5 u6 ⊢
    have uR : U.1 R = _ := (u3 _ (by omega)).trans hR
    have ul : U.1 lst = _ := (u3 _ (by omega)).trans hl
    rw [xN_o (b := lst) uR rfl rfl]; repeat (first | rw [Option.bind_some] | rw [Sum.elim_inl] | rw [Sum.elim_inr])
    rw [if_pos (isK_t ul rfl), alSize_r ul]; repeat (first | rw [Option.bind_some] | rw [Sum.elim_inl] | rw [Sum.elim_inr])
    rw [if_pos ((i_lt (by omega) (by omega)).mpr hk), if_pos (isK_t ul rfl)]
    rw [if_neg (fun z => by have := (i_inj (j := m) (k := 0) (by omega) (by omega)).mp z; omega), if_pos (isK_t ul rfl), i_add, i_modN (by omega) (by omega), alGet_r ul (Nat.mod_lt _ hm0) (by omega)]; repeat (first | rw [Option.bind_some] | rw [Sum.elim_inl] | rw [Sum.elim_inr])
    have hq := itn_lt gNx_lt hs ((ja + k) % m)
    have sk : U.1 (si (itn (gNx L nl) ((ja + k) % m) s0)) = _ := (u3 _ (by have := wf_lt hw (r.2.1 _ hq).2; omega)).trans (r.2.1 _ hq).2
    rw [toN_o sk rfl]; repeat (first | rw [Option.bind_some] | rw [Sum.elim_inl] | rw [Sum.elim_inr])
    rw [if_pos (isK_t u2 rfl), alAdd_r u2 (by omega) (elO_o sk)]; repeat (first | rw [Option.bind_some] | rw [Sum.elim_inl] | rw [Sum.elim_inr])
    rw [i_suc]
    refine ⟨_, rfl, rfl, mu + 1, wf_chg (wf_cup u1 (by omega)), ?_, fun q hq => (cput_ne hq).trans (u3 q hq), u4, ?_, ?_⟩
    · refine (cput_eq ..).trans (congrArg (fun l => some (true, false, 1013, .int (mu + 1) :: l)) (rowC_congr (fun j hj => ?_)))
      by_cases e : j = k
      · rw [if_pos e, e, ← itn_mod hm, Nat.add_comm, itn_add, ja2]
      · rw [if_neg e]
    · show U.2.2.1 + 1 = _; omega
    · show U.2.2.2 + 16 = _; omega
  · rintro ⟨U, _⟩ ⟨rfl, mu, u1, u2, u3, u4, u5, u6⟩
    dsimp only at u1 u2 u3 u4 u5 u6 ⊢
    have uR : U.1 R = _ := (u3 _ (by omega)).trans hR
    have ul : U.1 lst = _ := (u3 _ (by omega)).trans hl
    refine ⟨U, ?_, mu, u1, u2, u3, u4, u5, u6⟩
    rw [xN_o (b := lst) uR rfl rfl]; repeat (first | rw [Option.bind_some] | rw [Sum.elim_inl] | rw [Sum.elim_inr])
    rw [if_pos (isK_t ul rfl), alSize_r ul]; repeat (first | rw [Option.bind_some] | rw [Sum.elim_inl] | rw [Sum.elim_inr])
    rw [if_neg (fun z => by have := (i_lt (by omega) (by omega)).mp z; omega)]
  · rintro U ⟨mu, u1, u2, u3, u4, u5, u6⟩
    have uR : U.1 R = _ := (u3 _ (by omega)).trans hR
    have ul : U.1 lst = _ := (u3 _ (by omega)).trans hl
    rw [xN_o (b := lst) uR rfl rfl]; repeat (first | rw [Option.bind_some] | rw [Sum.elim_inl] | rw [Sum.elim_inr])
    rw [if_pos (isK_t ul rfl), alClear_r ul]; repeat (first | rw [Option.bind_some] | rw [Sum.elim_inl] | rw [Sum.elim_inr])
    have uR' : (cput U 1013 lst 0 0 [.int (mc + 1)]).1 R = _ := (cput_ne nRl).trans uR
    have ul' : (cput U 1013 lst 0 0 [.int (mc + 1)]).1 lst = some (true, false, 1013, .int (mc + 1) :: []) := cput_eq ..
    have u2' : (cput U 1013 lst 0 0 [.int (mc + 1)]).1 s.2.1 = _ := (cput_ne (by omega)).trans u2
    rw [xN_o (b := lst) uR' rfl rfl]; repeat (first | rw [Option.bind_some] | rw [Sum.elim_inl] | rw [Sum.elim_inr])
    rw [if_pos (isK_t ul' rfl)]
    unfold alAddAll
    rw [alC_l ul', alC_r u2']; repeat (first | rw [Option.bind_some] | rw [Sum.elim_inl] | rw [Sum.elim_inr])
    dsimp only
    rw [rowC_len, if_pos ⟨by show 0 + m < 500000; omega, by omega⟩]; repeat (first | rw [Option.bind_some] | rw [Sum.elim_inl] | rw [Sum.elim_inr])
    refine Tr.ok ⟨_, wf_chg (wf_cup (wf_chg (wf_cup u1 (by omega))) (by show lst < U.2.1; omega)), cput_eq .., fun q h1 h2 => ?_, ?_, ?_, ?_⟩
    · rw [cput_ne h2, cput_ne h2, u3 q (by omega)]
    · show U.2.1 = _; exact u4
    · show U.2.2.1 + 0 + 2 = _; omega
    · show U.2.2.2 + 0 + (17 * m + 16) = _; omega
  · rintro s' ⟨e, mc', z⟩
    have b := sX_i hg hst
    exact ⟨s', st, mc', e, d1, d5, by omega, z⟩
end
