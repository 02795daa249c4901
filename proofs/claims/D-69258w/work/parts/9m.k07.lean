/-! the law's walk: all cases, the loop -/
section LC
variable {R : lAR} {E : lE} {ad : List Nat} {b n : Nat} {f : Nat → Int32} {h1 o1 o i K N : Nat} {y : lY} {s : CS} {A : lMem} {own : Nat → Nat} {t : TS} {Z : lZ}
/-- what is used up, with what the house may still use -/
def QC (s : CS) (t : TS) (N : Nat) : Nat := s.2.2.1 + PHc s t N + (if t.1 1 = 0 then 32110 else 0)
def QS (s : CS) (t : TS) (N : Nat) : Nat := s.2.2.2 + PHs s t N + (if t.1 1 = 0 then 596520 else 0)
def LKA (R : lAR) (E : lE) (b n : Nat) (f : Nat → Int32) (h1 o1 o i : Nat) (s : CS) (t : TS) (K N : Nat) (Z : lZ) : Prop := ∀ (ad' : List Nat) (y' : lY) (S : CS) (A' : lMem) (own' : Nat → Nat) (t' : TS) (K' N' : Nat), tOk ad' → LV E ad' b n f h1 o1 o y' S A' own' t' K' N' → K' ≤ K + 1 → QC S t' N' ≤ QC s t N + 8001 → QS S t' N' ≤ QS s t N + 91006 → lQ R E 1625 cd_L 3716 (LL ad' b h1 o1 i) [] (cp y' S A') Z
theorem LKA.k (k : LKA R E b n f h1 o1 o i s t K N Z) {cn cm : Nat} (c1 : cn ≤ 8001) (c2 : cm ≤ 91006) : LK R E b n f h1 o1 o i s own t K N cn cm Z := by
  intro ad' y' S A' own' t' K' N' a1 a2 a3 a4 a5 a6
  refine k ad' y' S A' own' t' K' N' a1 a2 a3 ?_ ?_
  · unfold QC; rw [a6]; omega
  · unfold QS; rw [a6]; omega
theorem LKA.b1 (k : LKA R E b n f h1 o1 o i s t K N Z) : LKP R E b n f h1 o1 o i s t K N 2000 6000 (fun t' => t'.1 1 = t.1 1 ∨ t'.1 1 = 1) Z := by
  intro ad' y' S A' own' t' K' N' a1 a2 a3 a4 a5 a6
  have e : t'.1 1 = 0 → t.1 1 = 0 := fun z => by
    rcases a6 with w | w
    · rw [← w]; exact z
    · rw [w] at z; exact absurd z (by decide)
  refine k ad' y' S A' own' t' K' N' a1 a2 a3 ?_ ?_
  · unfold QC
    by_cases z : t'.1 1 = 0
    · rw [if_pos z, if_pos (e z)]; omega
    · rw [if_neg z]; omega
  · unfold QS
    by_cases z : t'.1 1 = 0
    · rw [if_pos z, if_pos (e z)]; omega
    · rw [if_neg z]; omega
theorem LKA.b2 (k : LKA R E b n f h1 o1 o i s t K N Z) (h0 : t.1 1 = 0) : LKP R E b n f h1 o1 o i s t K N 32110 596520 (fun t' => t'.1 1 = 1) Z := by
  intro ad' y' S A' own' t' K' N' a1 a2 a3 a4 a5 a6
  have z : ¬ t'.1 1 = 0 := by rw [a6]; decide
  refine k ad' y' S A' own' t' K' N' a1 a2 a3 ?_ ?_
  · unfold QC; rw [if_neg z, if_pos h0]; omega
  · unfold QS; rw [if_neg z, if_pos h0]; omega
theorem LI.scr0 (h : LI E ad b n f y s A t) (hn : n ≤ 448) (hk : i < n) : gA (cp y s A) [0, 12] b (Int32.ofNat i) (.int (f i)) := by
  have := h.scr hn (i := i) 0 (by omega)
  rw [show Int32.ofNat i + Int32.ofNat 0 = Int32.ofNat i from Int32.add_zero _] at this
  exact this
theorem swAll_of {d : Nat} {x : Int32} : ∀ {ts : List Nat} {lo : Int}, (∀ k : Nat, k < ts.length → ¬ x.toInt = lo + (k : Int)) → swAll d x lo ts := by
  intro ts
  induction ts with
  | nil => intro lo _; trivial
  | cons a r ih =>
    intro lo h
    refine ⟨Or.inr (fun z => h 0 (by simp) (by omega)), ih (fun k hk z => h (k + 1) (by simp only [List.length_cons]; omega) (by omega))⟩
theorem nt_i {x : Int32} {k : Nat} (hk : k < 128) (h : ¬ x = Int32.ofNat k) : ¬ x.toInt = (0 : Int) + (k : Int) := by
  intro z
  refine h (Int32.toInt.inj ?_)
  rw [z, Int.zero_add, Int32.toInt_ofNat_of_lt (by omega)]
theorem lc_all (hR : lRok R) (hJ : JAll R E) (hn : tOk ad) (hn8 : n ≤ 448) (hi : i + 7 ≤ n) (h : LV E ad b n f h1 o1 o y s A own t K N) (hK : K < 900) (hc : s.2.2.1 < 3800000000) (k : LKA R E b n f h1 o1 o i s t K N Z) : lQ R E 1625 cd_L 19 (LL ad b h1 o1 i) [] (cp y s A) Z := by
  refine lQ.loadN (cLg 19 rfl) rfl ?_
  refine lQ.loadI (cLg 20 rfl) rfl ?_
  refine lQ.ald hR (cLg 21 rfl) (h.1.scr0 hn8 (by omega)) ?_
  refine lQ.push (cLg 22 rfl) ?_
  refine lQ.binI (cLg 23 rfl) ?_
  generalize f i &&& 127 = x
  by_cases hq : ∃ q, q < 80 ∧ x = Int32.ofNat q
  rotate_left
  · refine lQ.sw (j := 3716) (cLg 24 rfl) (swT_all (swAll_of (fun k hk => nt_i (by have : k < 80 := hk; omega) (fun z => hq ⟨k, hk, z⟩)))) ?_
    exact k _ _ _ _ _ _ _ _ hn h (Nat.le_succ K) (Nat.le_add_right _ _) (Nat.le_add_right _ _)
  obtain ⟨q, hq, rfl⟩ := hq
  by_cases e0 : q = 0
  · exact lQ.sw (j := 25) (cLg 24 rfl) (by rw [e0]; rfl) (lc_line hR hJ hn hn8 hi h hK hc (k.k (by decide) (by decide)))
  by_cases e1 : q = 1
  · exact lQ.sw (j := 90) (cLg 24 rfl) (by rw [e1]; rfl) (lc_move hR hJ hn hn8 hi h hK hc (k.k (by decide) (by decide)))
  by_cases e2 : q = 2
  · exact lQ.sw (j := 148) (cLg 24 rfl) (by rw [e2]; rfl) (lc_door hR hJ hn hn8 hi h hK hc (k.k (by decide) (by decide)))
  by_cases e3 : q = 3
  · exact lQ.sw (j := 213) (cLg 24 rfl) (by rw [e3]; rfl) (lc_find hR hJ hn hn8 hi h hK hc (k.k (by decide) (by decide)))
  by_cases e4 : q = 4
  · exact lQ.sw (j := 238) (cLg 24 rfl) (by rw [e4]; rfl) (lc_count hR hJ hn hn8 hi h hK hc (k.k (by decide) (by decide)))
  by_cases e5 : q = 5
  · exact lQ.sw (j := 273) (cLg 24 rfl) (by rw [e5]; rfl) (lc_sides hR hJ hn hn8 hi h hK hc (k.k (by decide) (by decide)))
  by_cases e6 : q = 6
  · exact lQ.sw (j := 318) (cLg 24 rfl) (by rw [e6]; rfl) (lc_side hR hJ hn hn8 hi h hK hc (k.k (by decide) (by decide)))
  by_cases e7 : q = 7
  · exact lQ.sw (j := 383) (cLg 24 rfl) (by rw [e7]; rfl) (lc_size hR hJ hn hn8 hi h hK hc (k.k (by decide) (by decide)))
  by_cases e8 : q = 8
  · exact lQ.sw (j := 428) (cLg 24 rfl) (by rw [e8]; rfl) (lc_at hR hJ hn hn8 hi h hK hc (k.k (by decide) (by decide)))
  by_cases e9 : q = 9
  · exact lQ.sw (j := 473) (cLg 24 rfl) (by rw [e9]; rfl) (lc_between hR hJ hn hn8 hi h hK hc (k.k (by decide) (by decide)))
  by_cases e10 : q = 10
  · exact lQ.sw (j := 518) (cLg 24 rfl) (by rw [e10]; rfl) (lc_way hR hJ hn hn8 hi h hK hc (k.k (by decide) (by decide)))
  by_cases e11 : q = 11
  · exact lQ.sw (j := 563) (cLg 24 rfl) (by rw [e11]; rfl) (lc_name hR hJ hn hn8 hi h hK hc (k.k (by decide) (by decide)))
  by_cases e12 : q = 12
  · exact lQ.sw (j := 608) (cLg 24 rfl) (by rw [e12]; rfl) (lc_nameOf hR hJ hn hn8 hi h hK hc (k.k (by decide) (by decide)))
  by_cases e13 : q = 13
  · exact lQ.sw (j := 643) (cLg 24 rfl) (by rw [e13]; rfl) (lc_say hR hJ hn hn8 hi h hK hc (k.k (by decide) (by decide)))
  by_cases e14 : q = 14
  · exact lQ.sw (j := 702) (cLg 24 rfl) (by rw [e14]; rfl) (lc_trim hR hJ hn hn8 hi h hK hc (k.k (by decide) (by decide)))
  by_cases e15 : q = 15
  · exact lQ.sw (j := 737) (cLg 24 rfl) (by rw [e15]; rfl) (lc_rules hR hJ hn hn8 hi h hK hc (k.k (by decide) (by decide)))
  by_cases e16 : q = 16
  · exact lQ.sw (j := 744) (cLg 24 rfl) (by rw [e16]; rfl) (lc_fact hR hJ hn hn8 hi h hK hc (k.k (by decide) (by decide)))
  by_cases e17 : q = 17
  · exact lQ.sw (j := 812) (cLg 24 rfl) (by rw [e17]; rfl) (lc_measure hR hJ hn hn8 hi h hK hc (k.k (by decide) (by decide)))
  by_cases e18 : q = 18
  · exact lQ.sw (j := 891) (cLg 24 rfl) (by rw [e18]; rfl) (lc_check hR hJ hn hn8 hi h hK hc (k.k (by decide) (by decide)))
  by_cases e19 : q = 19
  · exact lQ.sw (j := 926) (cLg 24 rfl) (by rw [e19]; rfl) (lc_rule hR hJ hn hn8 hi h hK hc (k.k (by decide) (by decide)))
  by_cases e20 : q = 20
  · exact lQ.sw (j := 970) (cLg 24 rfl) (by rw [e20]; rfl) (lc_build hR hJ hn hn8 hi h k.b1 k.b2)
  by_cases e21 : q = 21
  · exact lQ.sw (j := 1005) (cLg 24 rfl) (by rw [e21]; rfl) (lc_portal hR hJ hn hn8 hi h hK hc (k.k (by decide) (by decide)))
  by_cases e22 : q = 22
  · exact lQ.sw (j := 1050) (cLg 24 rfl) (by rw [e22]; rfl) (lc_person hR hJ hn hn8 hi h hK hc (k.k (by decide) (by decide)))
  by_cases e23 : q = 23
  · exact lQ.sw (j := 1095) (cLg 24 rfl) (by rw [e23]; rfl) (lc_card hR hJ hn hn8 hi h hK hc (k.k (by decide) (by decide)))
  by_cases e24 : q = 24
  · exact lQ.sw (j := 1140) (cLg 24 rfl) (by rw [e24]; rfl) (lc_right hR hJ hn hn8 hi h hK hc (k.k (by decide) (by decide)))
  by_cases e25 : q = 25
  · exact lQ.sw (j := 1215) (cLg 24 rfl) (by rw [e25]; rfl) (lc_end hR hJ hn hn8 hi h hK hc (k.k (by decide) (by decide)))
  by_cases e26 : q = 26
  · exact lQ.sw (j := 1260) (cLg 24 rfl) (by rw [e26]; rfl) (lc_lost hR hJ hn hn8 hi h hK hc (k.k (by decide) (by decide)))
  by_cases e27 : q = 27
  · exact lQ.sw (j := 1305) (cLg 24 rfl) (by rw [e27]; rfl) (lc_two hR hJ hn hn8 hi h hK hc (k.k (by decide) (by decide)))
  by_cases e28 : q = 28
  · exact lQ.sw (j := 1361) (cLg 24 rfl) (by rw [e28]; rfl) (lc_airlock hR hJ hn hn8 hi h hK hc (k.k (by decide) (by decide)))
  by_cases e29 : q = 29
  · exact lQ.sw (j := 1427) (cLg 24 rfl) (by rw [e29]; rfl) (lc_stands hR hJ hn hn8 hi h hK hc (k.k (by decide) (by decide)))
  by_cases e30 : q = 30
  · exact lQ.sw (j := 1480) (cLg 24 rfl) (by rw [e30]; rfl) (lc_off hR hJ hn hn8 hi h hK hc (k.k (by decide) (by decide)))
  by_cases e31 : q = 31
  · exact lQ.sw (j := 1533) (cLg 24 rfl) (by rw [e31]; rfl) (lc_ask hR hJ hn hn8 hi h hK hc (k.k (by decide) (by decide)))
  by_cases e32 : q = 32
  · exact lQ.sw (j := 1588) (cLg 24 rfl) (by rw [e32]; rfl) (lc_both hR hJ hn hn8 hi h hK hc (k.k (by decide) (by decide)))
  by_cases e33 : q = 33
  · exact lQ.sw (j := 1653) (cLg 24 rfl) (by rw [e33]; rfl) (lc_where hR hJ hn hn8 hi h hK hc (k.k (by decide) (by decide)))
  by_cases e34 : q = 34
  · exact lQ.sw (j := 1698) (cLg 24 rfl) (by rw [e34]; rfl) (lc_inside hR hJ hn hn8 hi h hK hc (k.k (by decide) (by decide)))
  by_cases e35 : q = 35
  · exact lQ.sw (j := 1733) (cLg 24 rfl) (by rw [e35]; rfl) (lc_against hR hJ hn hn8 hi h hK hc (k.k (by decide) (by decide)))
  by_cases e36 : q = 36
  · exact lQ.sw (j := 1778) (cLg 24 rfl) (by rw [e36]; rfl) (lc_unit hR hJ hn hn8 hi h hK hc (k.k (by decide) (by decide)))
  by_cases e37 : q = 37
  · exact lQ.sw (j := 1813) (cLg 24 rfl) (by rw [e37]; rfl) (lc_sentence hR hJ hn hn8 hi h hK hc (k.k (by decide) (by decide)))
  by_cases e38 : q = 38
  · exact lQ.sw (j := 1888) (cLg 24 rfl) (by rw [e38]; rfl) (lc_cutText hR hJ hn hn8 hi h hK hc (k.k (by decide) (by decide)))
  by_cases e39 : q = 39
  · exact lQ.sw (j := 1923) (cLg 24 rfl) (by rw [e39]; rfl) (lc_matrix hR hJ hn hn8 hi h hK hc (k.k (by decide) (by decide)))
  by_cases e40 : q = 40
  · exact lQ.sw (j := 1948) (cLg 24 rfl) (by rw [e40]; rfl) (lc_signal hR hJ hn hn8 hi h hK hc (k.k (by decide) (by decide)))
  by_cases e41 : q = 41
  · exact lQ.sw (j := 1993) (cLg 24 rfl) (by rw [e41]; rfl) (lc_fault hR hJ hn hn8 hi h hK hc (k.k (by decide) (by decide)))
  by_cases e42 : q = 42
  · exact lQ.sw (j := 2049) (cLg 24 rfl) (by rw [e42]; rfl) (lc_disable hR hJ hn hn8 hi h hK hc (k.k (by decide) (by decide)))
  by_cases e43 : q = 43
  · exact lQ.sw (j := 2094) (cLg 24 rfl) (by rw [e43]; rfl) (lc_attend hR hJ hn hn8 hi h hK hc (k.k (by decide) (by decide)))
  by_cases e44 : q = 44
  · exact lQ.sw (j := 2129) (cLg 24 rfl) (by rw [e44]; rfl) (lc_reset hR hJ hn hn8 hi h hK hc (k.k (by decide) (by decide)))
  by_cases e45 : q = 45
  · exact lQ.sw (j := 2154) (cLg 24 rfl) (by rw [e45]; rfl) (lc_act hR hJ hn hn8 hi h hK hc (k.k (by decide) (by decide)))
  by_cases e46 : q = 46
  · exact lQ.sw (j := 2199) (cLg 24 rfl) (by rw [e46]; rfl) (lc_zone hR hJ hn hn8 hi h hK hc (k.k (by decide) (by decide)))
  by_cases e47 : q = 47
  · exact lQ.sw (j := 2244) (cLg 24 rfl) (by rw [e47]; rfl) (lc_event hR hJ hn hn8 hi h hK hc (k.k (by decide) (by decide)))
  by_cases e48 : q = 48
  · exact lQ.sw (j := 2289) (cLg 24 rfl) (by rw [e48]; rfl) (lc_block hR hJ hn hn8 hi h hK hc (k.k (by decide) (by decide)))
  by_cases e49 : q = 49
  · exact lQ.sw (j := 2324) (cLg 24 rfl) (by rw [e49]; rfl) (lc_wire hR hJ hn hn8 hi h hK hc (k.k (by decide) (by decide)))
  by_cases e50 : q = 50
  · exact lQ.sw (j := 2379) (cLg 24 rfl) (by rw [e50]; rfl) (lc_numbers hR hJ hn hn8 hi h hK hc (k.k (by decide) (by decide)))
  by_cases e51 : q = 51
  · exact lQ.sw (j := 2421) (cLg 24 rfl) (by rw [e51]; rfl) (lc_row hR hJ hn hn8 hi h hK hc (k.k (by decide) (by decide)))
  by_cases e52 : q = 52
  · exact lQ.sw (j := 2476) (cLg 24 rfl) (by rw [e52]; rfl) (lc_safe hR hJ hn hn8 hi h hK hc (k.k (by decide) (by decide)))
  by_cases e53 : q = 53
  · exact lQ.sw (j := 2521) (cLg 24 rfl) (by rw [e53]; rfl) (lc_hand hR hJ hn hn8 hi h hK hc (k.k (by decide) (by decide)))
  by_cases e54 : q = 54
  · exact lQ.sw (j := 2587) (cLg 24 rfl) (by rw [e54]; rfl) (lc_bind hR hJ hn hn8 hi h hK hc (k.k (by decide) (by decide)))
  by_cases e55 : q = 55
  · exact lQ.sw (j := 2632) (cLg 24 rfl) (by rw [e55]; rfl) (lc_point hR hJ hn hn8 hi h hK hc (k.k (by decide) (by decide)))
  by_cases e56 : q = 56
  · exact lQ.sw (j := 2677) (cLg 24 rfl) (by rw [e56]; rfl) (lc_pointAt hR hJ hn hn8 hi h hK hc (k.k (by decide) (by decide)))
  by_cases e57 : q = 57
  · exact lQ.sw (j := 2712) (cLg 24 rfl) (by rw [e57]; rfl) (lc_order hR hJ hn hn8 hi h hK hc (k.k (by decide) (by decide)))
  by_cases e58 : q = 58
  · exact lQ.sw (j := 2737) (cLg 24 rfl) (by rw [e58]; rfl) (lc_out hR hJ hn hn8 hi h hK hc (k.k (by decide) (by decide)))
  by_cases e59 : q = 59
  · exact lQ.sw (j := 2782) (cLg 24 rfl) (by rw [e59]; rfl) (lc_failed hR hJ hn hn8 hi h hK hc (k.k (by decide) (by decide)))
  by_cases e60 : q = 60
  · exact lQ.sw (j := 2817) (cLg 24 rfl) (by rw [e60]; rfl) (lc_address hR hJ hn hn8 hi h hK hc (k.k (by decide) (by decide)))
  by_cases e61 : q = 61
  · exact lQ.sw (j := 2862) (cLg 24 rfl) (by rw [e61]; rfl) (lc_listen hR hJ hn hn8 hi h hK hc (k.k (by decide) (by decide)))
  by_cases e62 : q = 62
  · exact lQ.sw (j := 2928) (cLg 24 rfl) (by rw [e62]; rfl) (lc_busy hR hJ hn hn8 hi h hK hc (k.k (by decide) (by decide)))
  by_cases e63 : q = 63
  · exact lQ.sw (j := 2984) (cLg 24 rfl) (by rw [e63]; rfl) (lc_send hR hJ hn hn8 hi h hK hc (k.k (by decide) (by decide)))
  by_cases e64 : q = 64
  · exact lQ.sw (j := 3077) (cLg 24 rfl) (by rw [e64]; rfl) (lc_disturb hR hJ hn hn8 hi h hK hc (k.k (by decide) (by decide)))
  by_cases e65 : q = 65
  · exact lQ.sw (j := 3115) (cLg 24 rfl) (by rw [e65]; rfl) (lc_station hR hJ hn hn8 hi h hK hc (k.k (by decide) (by decide)))
  by_cases e66 : q = 66
  · exact lQ.sw (j := 3160) (cLg 24 rfl) (by rw [e66]; rfl) (lc_heard hR hJ hn hn8 hi h hK hc (k.k (by decide) (by decide)))
  by_cases e67 : q = 67
  · exact lQ.sw (j := 3195) (cLg 24 rfl) (by rw [e67]; rfl) (lc_byteAt hR hJ hn hn8 hi h hK hc (k.k (by decide) (by decide)))
  by_cases e68 : q = 68
  · exact lQ.sw (j := 3230) (cLg 24 rfl) (by rw [e68]; rfl) (lc_car hR hJ hn hn8 hi h hK hc (k.k (by decide) (by decide)))
  by_cases e69 : q = 69
  · exact lQ.sw (j := 3275) (cLg 24 rfl) (by rw [e69]; rfl) (lc_free hR hJ hn hn8 hi h hK hc (k.k (by decide) (by decide)))
  by_cases e70 : q = 70
  · exact lQ.sw (j := 3317) (cLg 24 rfl) (by rw [e70]; rfl) (lc_span hR hJ hn hn8 hi h hK hc (k.k (by decide) (by decide)))
  by_cases e71 : q = 71
  · exact lQ.sw (j := 3359) (cLg 24 rfl) (by rw [e71]; rfl) (lc_call hR hJ hn hn8 hi h hK hc (k.k (by decide) (by decide)))
  by_cases e72 : q = 72
  · exact lQ.sw (j := 3404) (cLg 24 rfl) (by rw [e72]; rfl) (lc_begin hR hJ hn hn8 hi h hK hc (k.k (by decide) (by decide)))
  by_cases e73 : q = 73
  · exact lQ.sw (j := 3452) (cLg 24 rfl) (by rw [e73]; rfl) (lc_done hR hJ hn hn8 hi h hK hc (k.k (by decide) (by decide)))
  by_cases e74 : q = 74
  · exact lQ.sw (j := 3474) (cLg 24 rfl) (by rw [e74]; rfl) (lc_give hR hJ hn hn8 hi h hK hc (k.k (by decide) (by decide)))
  by_cases e75 : q = 75
  · exact lQ.sw (j := 3498) (cLg 24 rfl) (by rw [e75]; rfl) (lc_given hR hJ hn hn8 hi h hK hc (k.k (by decide) (by decide)))
  by_cases e76 : q = 76
  · exact lQ.sw (j := 3543) (cLg 24 rfl) (by rw [e76]; rfl) (lc_fire hR hJ hn hn8 hi h hK hc (k.k (by decide) (by decide)))
  by_cases e77 : q = 77
  · exact lQ.sw (j := 3591) (cLg 24 rfl) (by rw [e77]; rfl) (lc_cell hR hJ hn hn8 hi h hK hc (k.k (by decide) (by decide)))
  by_cases e78 : q = 78
  · exact lQ.sw (j := 3646) (cLg 24 rfl) (by rw [e78]; rfl) (lc_pass hR hJ hn hn8 hi h hK hc (k.k (by decide) (by decide)))
  by_cases e79 : q = 79
  · exact lQ.sw (j := 3681) (cLg 24 rfl) (by rw [e79]; rfl) (lc_told hR hJ hn hn8 hi h hK hc (k.k (by decide) (by decide)))
  omega
theorem n7_i {n i : Nat} (h1 : n ≤ 448) (h2 : i ≤ 448) : (Int32.ofNat n - 7 < Int32.ofNat i) ↔ n < i + 7 := by
  rw [Int32.lt_iff_toInt_lt, Int32.toInt_sub, Int32.toInt_ofNat_of_lt (by omega), Int32.toInt_ofNat_of_lt (by omega), show (7 : Int32).toInt = 7 from rfl, Int.bmod_eq_of_le (by omega) (by omega)]
  omega
/-- the law's loop -/
theorem lw_loop (hR : lRok R) (hJ : JAll R E) (hn8 : n ≤ 448) (C0 S0 : Nat) (hC : C0 ≤ 1000000000) (hZ : ∀ (y : lY) (S : CS) (A : lMem), S.2.2.1 ≤ C0 + 8001 * 64 → S.2.2.2 ≤ S0 + 91006 * 64 → Z (.inl (some (.int 1))) (cp y S A)) :
    ∀ (m j : Nat) (ad : List Nat) (y : lY) (s : CS) (A : lMem) (own : Nat → Nat) (t : TS) (K N : Nat), n ≤ 7 * j + m → 7 * j ≤ 448 → tOk ad → LV E ad b n f h1 o1 o y s A own t K N → K ≤ j → QC s t N ≤ C0 + 8001 * j → QS s t N ≤ S0 + 91006 * j → lQ R E 1625 cd_L 13 (LL ad b h1 o1 (7 * j)) [] (cp y s A) Z := by
  intro m
  induction m with
  | zero =>
    intro j ad y s A own t K N hm hj hn h hK c1 c2
    have hlt : Int32.ofNat n - 7 < Int32.ofNat (7 * j) := (n7_i hn8 hj).mpr (by omega)
    refine lQ.loadI (cLg 13 rfl) rfl ?_
    refine lQ.loadN (cLg 14 rfl) rfl ?_
    refine lQ.len hR (cLg 15 rfl) h.1.len ?_
    refine lQ.push (cLg 16 rfl) ?_
    refine lQ.binI (cLg 17 rfl) ?_
    refine lQ.cmpT (cLg 18 rfl) (decide_eq_true hlt) ?_
    refine lQ.push (cLg 3718 rfl) ?_
    refine lQ.retI (cLg 3719 rfl) rfl (hZ y s A ?_ ?_)
    · unfold QC at c1; omega
    · unfold QS at c2; omega
  | succ m ih =>
    intro j ad y s A own t K N hm hj hn h hK c1 c2
    refine lQ.loadI (cLg 13 rfl) rfl ?_
    refine lQ.loadN (cLg 14 rfl) rfl ?_
    refine lQ.len hR (cLg 15 rfl) h.1.len ?_
    refine lQ.push (cLg 16 rfl) ?_
    refine lQ.binI (cLg 17 rfl) ?_
    by_cases hl : n < 7 * j + 7
    · have hlt : Int32.ofNat n - 7 < Int32.ofNat (7 * j) := (n7_i hn8 hj).mpr hl
      refine lQ.cmpT (cLg 18 rfl) (decide_eq_true hlt) ?_
      refine lQ.push (cLg 3718 rfl) ?_
      refine lQ.retI (cLg 3719 rfl) rfl (hZ y s A ?_ ?_)
      · unfold QC at c1; omega
      · unfold QS at c2; omega
    · have hlt : ¬ Int32.ofNat n - 7 < Int32.ofNat (7 * j) := fun z => hl ((n7_i hn8 hj).mp z)
      refine lQ.cmpF (cLg 18 rfl) (decide_eq_false hlt) ?_
      refine lc_all hR hJ hn hn8 (by omega) h (by omega) (by unfold QC at c1; omega) ?_
      intro ad' y' S A' own' t' K' N' a1 a2 a3 a4 a5
      refine lQ.inc (cLg 3716 rfl) rfl (lN2s rfl rfl) ?_
      refine lQ.goto (cLg 3717 rfl) ?_
      have e : Int32.ofNat (7 * j) + 7 = Int32.ofNat (7 * (j + 1)) := i_ofn (7 * j) 7
      rw [e]
      exact lQ.sub (LLs (by rfl) (by rfl) (by rfl) (by rfl) (by rfl)) (ih (j + 1) ad' y' S A' own' t' K' N' (by omega) (by omega) a1 a2 (by omega) (by rw [Nat.mul_succ, ← Nat.add_assoc]; exact Nat.le_trans a4 (Nat.add_le_add_right c1 _)) (by rw [Nat.mul_succ, ← Nat.add_assoc]; exact Nat.le_trans a5 (Nat.add_le_add_right c2 _)))
end LC
