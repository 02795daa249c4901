/-! building: walking numbers, the queue in the component -/
section
variable {B S : CS} {t : TS} {nl nr ne : Nat} {W : Nat → Nat} {e q : Nat → Int32} {f : Nat → Nat} {Lq dl : List Nat} {m : Nat}
def SpJ (B V : CS) (f : Nat → Nat) (Lq dl : List Nat) : Prop := SpR B V (nuC f) Lq (dl ++ Lq).length ∧ (dl ++ Lq).Nodup ∧ (∀ i ∈ dl ++ Lq, f i ≠ 0) ∧ (∀ i, f i ≠ 0 → i < 576) ∧ ∀ c, f c ≤ (dl ++ Lq).length + 1
theorem SpJ_len (r : SpJ B S f Lq dl) : (dl ++ Lq).length ≤ 576 := by
  obtain ⟨_, h1, h2, h3, _⟩ := r
  have := List.Nodup.length_le_of_subset h1 (l₂ := List.range 576) (fun i hi => List.mem_range.mpr (h3 i (h2 i hi)))
  rwa [List.length_range] at this
theorem rc_out {k c : Nat} (h : rcW (exA t nl) (adN t nl) k c) : ¬ ouT t c := by
  cases k with
  | zero => exact absurd h id
  | succ k =>
    rcases h with h | ⟨b, h, _⟩
    · exact h.2.1
    · exact h.2.1
theorem sp_head (b0 : SpB B t nl nr ne W e q) (h61 : aLen B 61 = some 4) {b : Nat} {dn : Nat → Prop} (hb : b < 576) (r : SpJ B S f Lq dl) (J : qmJ (exA t nl) (adN t nl) f b Lq dn (fun _ => False)) : Tr (wh (S := CS × Int32) (X := CS) (fun p69 => Option.bind (aLen p69.1 61) (fun x20 => (if p69.2 < x20 then Option.bind (c_543 (Int32.ofNat b) p69.2 p69.1) (fun x21 => (if isK p69.1 [50] 170 = true then Option.bind (c_542 170 x21 p69.1) (fun x22 => Option.bind ((if x22 = 0 then Option.bind (xN p69.1 [(50, 3)] 170) (fun a23 => Option.bind (aI p69.1 [0, 12] a23 ((4 * (Int32.ofNat b)) + p69.2)) (fun x24 => (if x24 = (-2) then some p69.1 else Option.bind (xN p69.1 [(50, 6)] 170) (fun a25 => Option.bind (aI p69.1 [0, 12] a25 x21) (fun x26 => (if x26 = (-1) then Option.bind (xN p69.1 [(50, 6)] 170) (fun a27 => Option.bind (xN p69.1 [(50, 6)] 170) (fun a28 => Option.bind (aI p69.1 [0, 12] a28 (Int32.ofNat b)) (fun x29 => Option.bind (aPut p69.1 0 a27 x21 (.int (x29 + 1))) (fun s30 => Option.bind (some (chg s30 1 1)) (fun s31 => (if isK s31 [4] B.2.1 = true then Option.bind (adAdd s31 B.2.1 (.int x21)) (fun s32 => some s32) else none)))))) else some p69.1)))))) else some p69.1)) (fun v111 => some (.inl (v111, p69.2 + 1)))) else none)) else some (.inr p69.1)))) (S, 0)) (fun U => ∃ f' Lq', SpJ B U f' Lq' dl ∧ quJ (exA t nl) (adN t nl) f' Lq' (fun x => dn x ∨ x = b)) := by
  classical
  obtain ⟨_, h179, _, ⟨z1, v1, b170⟩, _, _, hnl, _⟩ := id b0
  have s170 : ∀ {V : CS} {g Lq m}, SpR B V g Lq m → V.1 170 = some (true, false, 50, .ref 101 :: z1 :: .ref 171 :: .ref 172 :: .ref 173 :: .ref 174 :: .ref 175 :: v1) := fun h => (h.2.2.1 170 (by omega) (by decide)).trans b170
  refine wh_cnt 4 (fun d (a : CS × Int32) => a.2 = Int32.ofNat d ∧ ∃ f' Lq', SpJ B a.1 f' Lq' dl ∧ qmJ (exA t nl) (adN t nl) f' b Lq' dn (fun c => ∃ k, k < d ∧ bsd b k = c ∧ ¬ ouT t c ∧ psB t nl k (cX b) (cY b))) ?_ ?_ ⟨rfl, f, Lq, r, qmJ_skip J (fun c hc => by obtain ⟨k, hk, _⟩ := hc; exact absurd hk (Nat.not_lt_zero _))⟩
  · rintro d ⟨V, _⟩ hd ⟨rfl, f1, L1, hV, J1⟩
    right
    dsimp only at hV J1 ⊢
    have hl := SpJ_len hV
    obtain ⟨r1, r2, r3, r4, r5⟩ := id hV
    have so := sp_out b0 r1 (bsd_le (d := d) hb)
    rw [(aLen_cg (r1.2.2.1 61 (by omega) (by decide))).trans h61, Option.bind_some, if_pos ((i_ltL (by omega) (by decide)).mpr hd), c_bes (sp_k9 b0 r1) hb hd, Option.bind_some, if_pos (isK_t (s170 r1) rfl), so, Option.bind_some]
    have stay : (∀ c, bsd b d = c → ¬ ouT t c → psB t nl d (cX b) (cY b) → f1 c ≠ 0) → ∃ a', Option.bind (some V) (fun v111 => (some (.inl (v111, Int32.ofNat d + 1)) : Option (Sum (CS × Int32) CS))) = some (.inl a') ∧ a'.2 = Int32.ofNat (d + 1) ∧ ∃ f' Lq', SpJ B a'.1 f' Lq' dl ∧ qmJ (exA t nl) (adN t nl) f' b Lq' dn (fun c => ∃ k, k < d + 1 ∧ bsd b k = c ∧ ¬ ouT t c ∧ psB t nl k (cX b) (cY b)) := by
      intro h
      rw [Option.bind_some, i_suc]
      refine ⟨_, rfl, rfl, f1, L1, hV, qmJ_skip J1 (fun c hc => ?_)⟩
      obtain ⟨k, hk, h1, h2, h3⟩ := hc
      by_cases z : k = d
      · rw [z] at h1 h3
        exact Or.inr (h c h1 h2 h3)
      · exact Or.inl ⟨k, by omega, h1, h2, h3⟩
    by_cases o : ouT t (bsd b d)
    · rw [if_pos o, if_neg n10]
      exact stay (fun c h1 h2 _ => absurd (h1 ▸ o) h2)
    · have c5 : bsd b d < 576 := by
        have := bsd_le (d := d) hb
        have : bsd b d ≠ 576 := fun w => o (Or.inl w)
        omega
      obtain ⟨d1, d2⟩ := sp_edge b0 r1 hb hd
      rw [if_neg o, if_pos rfl, xN_o (b := 172) (s170 r1) rfl rfl, Option.bind_some, i_mulL, i_add, d1, Option.bind_some]
      by_cases p : psB t nl d (cX b) (cY b)
      · have fb : f1 (bsd b d) < 1000 := by have := r5 (bsd b d); omega
        have fb2 : f1 b < 1000 := by have := r5 b; omega
        have f0 : f1 b ≠ 0 := J1.2.2.2.2.2.2.1
        have gc : aI V [0, 12] 175 (Int32.ofNat (bsd b d)) = some (nuC f1 (bsd b d)) := aI_r r1.2.2.2.1 (by decide) rfl c5 (by omega) rfl
        have gb : aI V [0, 12] 175 (Int32.ofNat b) = some (Int32.ofNat (f1 b)) := aI_r r1.2.2.2.1 (by decide) rfl hb (by omega) (by show Value.int (nuC f1 b) = _; unfold nuC; rw [if_neg f0])
        rw [if_neg (fun w => d2.mp w p), xN_o (b := 175) (s170 r1) rfl rfl, Option.bind_some, if_neg (show ¬ bsd b d = 576 by omega), gc, Option.bind_some]
        by_cases z : f1 (bsd b d) = 0
        · rw [show nuC f1 (bsd b d) = -1 from if_pos z, if_pos rfl, Option.bind_some, Option.bind_some, gb, Option.bind_some, i_suc]
          obtain ⟨V', c1, c2⟩ := sp_add h179 r1 (by omega) c5 (Int32.ofNat (f1 b + 1))
          rw [c1, Option.bind_some, i_suc]
          have no : bsd b d ∉ dl ++ L1 := fun w => r3 _ w z
          have app : dl ++ (L1 ++ [bsd b d]) = (dl ++ L1) ++ [bsd b d] := (List.append_assoc ..).symm
          refine ⟨_, rfl, rfl, fun j => if j = bsd b d then f1 b + 1 else f1 j, L1 ++ [bsd b d], ⟨?_, ?_, fun i hi => ?_, fun i hi => ?_, fun c => ?_⟩, qmJ_add J1 ?_ z (fun x hx => ?_)⟩
          · rw [app, List.length_append]
            refine SpR_g c2 (fun c _ => ?_)
            unfold nuC
            dsimp only
            by_cases y : c = bsd b d
            · rw [if_pos y, if_neg (by rw [if_pos y]; omega), if_pos y]
            · simp only [if_neg y]
          · rw [app]
            exact List.nodup_append.mpr ⟨r2, by simp, fun a ha x hx e => no (by rw [List.mem_singleton] at hx; rw [← hx, ← e]; exact ha)⟩
          · rw [app] at hi
            dsimp only
            by_cases y : i = bsd b d
            · rw [if_pos y]; omega
            · rw [if_neg y]
              rcases List.mem_append.mp hi with h | h
              · exact r3 i h
              · exact absurd (List.mem_singleton.mp h) y
          · dsimp only at hi
            by_cases y : i = bsd b d
            · rw [y]; exact c5
            · rw [if_neg y] at hi; exact r4 i hi
          · rw [app, List.length_append]
            have := r5 b
            have := r5 c
            dsimp only [List.length_singleton]
            by_cases y : c = bsd b d
            · rw [if_pos y]; omega
            · rw [if_neg y]; omega
          · have hne : bsd b d ≠ 576 := by omega
            exact ⟨c5, o, rc_out (J1.1 b f0), opp d, opp_lt hd, bsd_opp hb hd hne, (psB_opp hnl hb hd hne).mp p⟩
          · obtain ⟨k, hk, h1, h2, h3⟩ := hx
            by_cases y : k = d
            · rw [y] at h1; exact Or.inr h1.symm
            · exact Or.inl ⟨k, by omega, h1, h2, h3⟩
        · rw [show nuC f1 (bsd b d) = Int32.ofNat (f1 (bsd b d)) from if_neg z, if_neg (i_ne1 (by omega))]
          exact stay (fun c h1 _ _ => h1 ▸ z)
      · rw [if_pos (d2.mpr p)]
        exact stay (fun _ _ _ h => absurd h p)
  · rintro ⟨V, _⟩ ⟨rfl, f1, L1, hV, J1⟩
    dsimp only at hV J1 ⊢
    rw [(aLen_cg (hV.1.2.2.1 61 (by omega) (by decide))).trans h61, Option.bind_some, if_neg (show ¬ Int32.ofNat 4 < 4 by decide)]
    refine ⟨_, rfl, f1, L1, hV, qmJ_out J1 (fun c hc => ?_)⟩
    obtain ⟨a1, a2, a3, d', a4, a5, a6⟩ := hc
    have hne : bsd c d' ≠ 576 := by rw [a5]; omega
    refine ⟨opp d', opp_lt a4, ?_, a2, ?_⟩
    · rw [← a5]; exact bsd_opp a1 a4 hne
    · have := (psB_opp hnl a1 a4 hne).mp a6
      rw [a5] at this
      exact this
theorem sp_loop (b0 : SpB B t nl nr ne W e q) (h61 : aLen B 61 = some 4) (r : SpJ B S f Lq []) (J : quJ (exA t nl) (adN t nl) f Lq (fun z => z ∈ ([] : List Nat))) : Tr (wh (S := CS) (X := CS) (fun p59 => (if isK p59 [4] B.2.1 = true then Option.bind (adEmpty p59 B.2.1) (fun x17 => (if x17 = 0 then (if isK p59 [4] B.2.1 = true then Option.bind (adRem p59 B.2.1) (fun x18 => Option.bind (toB x18.1) (fun b19 => Option.bind (wh (S := CS × Int32) (X := CS) (fun p69 => Option.bind (aLen p69.1 61) (fun x20 => (if p69.2 < x20 then Option.bind (c_543 b19 p69.2 p69.1) (fun x21 => (if isK p69.1 [50] 170 = true then Option.bind (c_542 170 x21 p69.1) (fun x22 => Option.bind ((if x22 = 0 then Option.bind (xN p69.1 [(50, 3)] 170) (fun a23 => Option.bind (aI p69.1 [0, 12] a23 ((4 * b19) + p69.2)) (fun x24 => (if x24 = (-2) then some p69.1 else Option.bind (xN p69.1 [(50, 6)] 170) (fun a25 => Option.bind (aI p69.1 [0, 12] a25 x21) (fun x26 => (if x26 = (-1) then Option.bind (xN p69.1 [(50, 6)] 170) (fun a27 => Option.bind (xN p69.1 [(50, 6)] 170) (fun a28 => Option.bind (aI p69.1 [0, 12] a28 b19) (fun x29 => Option.bind (aPut p69.1 0 a27 x21 (.int (x29 + 1))) (fun s30 => Option.bind (some (chg s30 1 1)) (fun s31 => (if isK s31 [4] B.2.1 = true then Option.bind (adAdd s31 B.2.1 (.int x21)) (fun s32 => some s32) else none)))))) else some p69.1)))))) else some p69.1)) (fun v111 => some (.inl (v111, p69.2 + 1)))) else none)) else some (.inr p69.1)))) (x18.2, 0)) (fun v113 => some (.inl v113)))) else none) else some (.inr p59))) else none)) S) (fun U => ∃ f' dl, SpJ B U f' [] dl ∧ wnR (exA t nl) (adN t nl) f') := by
  refine wh_cnt 577 (fun k (U : CS) => ∃ f' Lq dl, dl.length = k ∧ SpJ B U f' Lq dl ∧ quJ (exA t nl) (adN t nl) f' Lq (fun z => z ∈ dl)) ?_ ?_ ⟨f, Lq, [], rfl, r, J⟩
  · rintro k U hk ⟨f', Lq, dl, h1, u1, u2⟩
    have len := SpJ_len u1
    obtain ⟨r1, r2, r3, r4, r5⟩ := id u1
    have w5 := r1.2.2.2.2.1
    rw [if_pos (isK_t w5 rfl), adEmpty_r w5, Option.bind_some]
    cases Lq with
    | nil =>
      left
      rw [if_pos (show ([] : List Nat).length = 0 from rfl), if_neg (by decide)]
      exact ⟨_, rfl, f', dl, u1, quJ_end u2⟩
    | cons b R =>
      right
      rw [if_neg (show ¬ (b :: R).length = 0 by simp), if_pos rfl]
      have w5' : U.1 B.2.1 = some (true, false, 1004, rowC (fun j => .int (Int32.ofNat ((b :: R).getD j 0))) (R.length + 1)) := w5
      rw [if_pos (isK_t w5 rfl), adRem_r w5', Option.bind_some]
      dsimp only
      obtain ⟨V, hV⟩ : ∃ V, V = cput U 1004 B.2.1 0 0 (rowC (fun j => Value.int (Int32.ofNat ((b :: R).getD (j + 1) 0))) R.length) := ⟨_, rfl⟩
      rw [← hV]
      have n1 : ∀ q, q ≠ B.2.1 → V.1 q = U.1 q := fun q hq => by rw [hV]; exact cput_ne hq
      have hb : b < 576 := r4 b (r3 b (by simp))
      have app : dl ++ b :: R = (dl ++ [b]) ++ R := by rw [List.append_assoc]; rfl
      have h179 := b0.2.1
      have rV : SpJ B V f' R (dl ++ [b]) := by
        rw [app] at r1 r2 r3 r5
        obtain ⟨a1, a2, a3, a4, a5, a6, a7, a8⟩ := r1
        refine ⟨⟨fun p hp => ?_, by rw [hV]; exact a2, fun p h1 h2 => by rw [n1 p (by omega)]; exact a3 p h1 h2, by rw [n1 _ (by omega)]; exact a4, by rw [hV]; exact cput_eq .., ?_, by rw [hV]; exact a7, by rw [hV]; exact a8⟩, r2, r3, r4, r5⟩
        · have hp : U.2.1 ≤ p := by rw [hV] at hp; exact hp
          rw [n1 p (by omega)]; exact a1 p hp
        · rw [List.length_append]; omega
      obtain ⟨U', e1, f2, L2, c1, c2⟩ := sp_head b0 h61 hb rV (qmJ_in u2)
      rw [show (b :: R).getD 0 0 = b from rfl, show toB (Value.int (Int32.ofNat b)) = some (Int32.ofNat b) from rfl, Option.bind_some, e1, Option.bind_some]
      refine ⟨_, rfl, f2, L2, dl ++ [b], by rw [List.length_append]; show dl.length + 1 = _; omega, c1, ?_⟩
      rw [show (fun z => z ∈ dl ++ [b]) = fun z => z ∈ dl ∨ z = b from funext (fun z => propext (by simp))]
      exact c2
  · rintro U ⟨f', Lq, dl, h1, u1, u2⟩
    have := SpJ_len u1
    rw [List.length_append] at this
    omega
end
