/-! the plan: all rings in the component, the loop -/
def upd1 (f : Nat → Nat) (x v : Nat) : Nat → Nat := fun a => if a = x then v else f a
theorem upd1_eq {f : Nat → Nat} {x v a : Nat} (h : a = x) : upd1 f x v a = v := if_pos h
theorem upd1_ne {f : Nat → Nat} {x v a : Nat} (h : a ≠ x) : upd1 f x v a = f a := if_neg h
section
variable {L : PLn} {nl nr : Nat} {st ln : Nat → Nat} {LC LD : Nat → Nat} {b0 : Nat} {h0 : lHeap} {s : CS} {mp SL RL : Nat} {pid nid aid : Nat → Nat → Nat} {si : Nat → Nat} {ms : Int32} {Kp : Nat → lCell → Prop}
/-- rings so far -/
def RgT (b0 : Nat) (h0 : lHeap) (Kp : Nat → lCell → Prop) (s : CS) (L : PLn) (nl nr : Nat) (st ln LC : Nat → Nat) (mp SL RL : Nat) (ms : Int32) (pid nid aid : Nat → Nat → Nat) (si : Nat → Nat) (od : List Nat) (rc rl q : Nat → Nat) : Prop :=
  wfS s ∧ b0 ≤ s.2.1 ∧ (∀ a, a < b0 → s.1 a = h0 a) ∧ (∀ a c, Kp a c → s.1 a = some c) ∧ (∃ rv, GSt b0 s.1 L nl LC mp pid nid aid si rv ∧ rvR L nl st ln od rc rv) ∧ RGs b0 s.1 L nl nr st ln od rc rl q nid si (fun _ => .null) ∧ s.1 SL = some (true, false, 1013, .int ms :: rowC (fun k => .ref (si k)) (2 * nP L nl)) ∧ (∃ mr : Int32, s.1 RL = some (true, false, 1013, .int mr :: od.map (fun k => .ref (rc k)))) ∧ ∀ k ∈ od, rl k ≠ RL ∧ rl k ≠ SL ∧ ∀ a c, Kp a c → a ≠ rl k
theorem c_rings (hg : gdL L nl) (hR : RF L nl nr st ln) (hK : ∀ a c, Kp a c → a ≠ RL ∧ c.2.2.1 ≠ 65 ∧ c.2.2.1 ≠ 66) (hSR : SL ≠ RL) (hbR : b0 ≤ RL) (hbS : b0 ≤ SL) {rc0 rl0 q0 : Nat → Nat} (r : RgT b0 h0 Kp s L nl nr st ln LC mp SL RL ms pid nid aid si [] rc0 rl0 q0) :
    Tr (wh (S := CS × Int32) (X := CS) (fun p49 => Option.bind (alHas p49.1 SL p49.2) (fun x20 => (if x20 = 0 then some (.inr p49.1) else Option.bind (alNext p49.1 SL ms p49.2) (fun e21 => Option.bind (toN p49.1 [65] e21) (fun a22 => Option.bind (xR p49.1 [(65, 5)] a22) (fun r23 => Option.bind ((if r23 = none then Option.bind (some (nw p49.1 66 [.null, .null, .int 0, .null])) (fun n24 => (if isK n24.2 [66] n24.1 = true then Option.bind (c_885 n24.1 a22 n24.2) (fun x25 => (if isK x25 [13] RL = true then Option.bind (alAdd x25 RL (.ref n24.1)) (fun s26 => some s26) else none)) else none)) else some p49.1)) (fun v66 => some (.inl (v66, p49.2 + 1))))))))) (s, 0)) (fun s' => ∃ od rc rl q, RgT b0 h0 Kp s' L nl nr st ln LC mp SL RL ms pid nid aid si od rc rl q ∧ (∀ k, k < nr → k ∈ od) ∧ od.length ≤ nr ∧ s'.2.2.1 ≤ s.2.2.1 + 3 * nr + 2 * nP L nl ∧ s'.2.2.2 ≤ s.2.2.2 + 23 * nr + 32 * nP L nl) := by
  have hN := nP_le hg
  refine wh_cnt (2 * nP L nl) (fun i a => a.2 = Int32.ofNat i ∧ ∃ od rc rl q, RgT b0 h0 Kp a.1 L nl nr st ln LC mp SL RL ms pid nid aid si od rc rl q ∧ (∀ j, j < i → ∃ k ∈ od, j ∈ rgs L nl st ln k) ∧ a.1.2.2.1 = s.2.2.1 + 3 * od.length + lnS ln od ∧ a.1.2.2.2 = s.2.2.2 + 23 * od.length + 16 * lnS ln od) ?_ ?_ ⟨rfl, [], rc0, rl0, q0, r, fun j hj => absurd hj (Nat.not_lt_zero _), rfl, rfl⟩
  · rintro i ⟨U, _⟩ hi ⟨rfl, od, rc, rl, q, ⟨u1, u2, u3, u4, ⟨rv, u5, u6⟩, u7, u8, ⟨mr, u9⟩, u10⟩, w1, w2, w3⟩
    right
    dsimp only at u1 u2 u3 u4 u5 u6 u7 u8 u9 w2 w3 ⊢
    rw [alHas_r u8 (by omega) (by omega), if_neg (by omega)]; repeat (first | rw [Option.bind_some] | rw [Sum.elim_inl] | rw [Sum.elim_inr])
    rw [if_neg (by decide), alNext_r u8 hi (by omega)]; repeat (first | rw [Option.bind_some] | rw [Sum.elim_inl] | rw [Sum.elim_inr])
    have hsd := (u5.2.1 i hi).2
    rw [toN_o hsd rfl]; repeat (first | rw [Option.bind_some] | rw [Sum.elim_inl] | rw [Sum.elim_inr])
    rw [i_suc]
    by_cases z : ∃ k ∈ od, i ∈ rgs L nl st ln k
    · obtain ⟨k, hk, hik⟩ := z
      have ev := (u6 i).1 k hk hik
      rw [ev] at hsd
      rw [xR_o (b := rc k) hsd rfl rfl]; repeat (first | rw [Option.bind_some] | rw [Sum.elim_inl] | rw [Sum.elim_inr])
      rw [if_neg (by simp)]; repeat (first | rw [Option.bind_some] | rw [Sum.elim_inl] | rw [Sum.elim_inr])
      refine ⟨_, rfl, rfl, od, rc, rl, q, ⟨u1, u2, u3, u4, ⟨rv, u5, u6⟩, u7, u8, ⟨mr, u9⟩, u10⟩, fun j hj => ?_, w2, w3⟩
      by_cases e : j = i
      · rw [e]; exact ⟨k, hk, hik⟩
      · exact w1 j (by omega)
    · have hno : ∀ k ∈ od, i ∉ rgs L nl st ln k := fun k hk hik => z ⟨k, hk, hik⟩
      have ev := (u6 i).2 hno
      rw [ev] at hsd
      rw [xR_z hsd rfl rfl]; repeat (first | rw [Option.bind_some] | rw [Sum.elim_inl] | rw [Sum.elim_inr])
      rw [if_pos rfl]
      obtain ⟨κ, κ1, κ2⟩ := hR.2.2.2 i hi
      have κo : κ ∉ od := fun hk => hno κ hk κ2
      obtain ⟨hiN, p1, p2, p3, p4, p5⟩ := orb_perm hg hR κ1 κ2
      have lnN : ln κ ≤ 2 * nP L nl := by
        have := lnS_le hg hR (od := [κ]) (by simp) (fun k hk => by simp at hk; rw [hk]; exact κ1)
        simpa [lnS] using this
      have l0 := (hR.1 κ κ1).2.1
      obtain ⟨S1, z1, x1⟩ := nw_o (s := U) 66 [.null, .null, .int 0, .null] u1
      have o1 := Nw_ext u1 x1
      rw [z1]; repeat (first | rw [Option.bind_some] | rw [Sum.elim_inl] | rw [Sum.elim_inr])
      dsimp only
      rw [if_pos (isK_t x1.1 rfl)]
      have g1 : GSt b0 S1.1 L nl LC mp pid nid aid si rv := GSt_ext u5 (fun a c h _ _ => o1 a c h) (fun k hk => o1 _ _ (u5.2.1 k hk).2)
      obtain ⟨S2, mc, y1, y2, y3, y4, y5, y6, y7, y8, y9⟩ := c_ringN hg x1.2.2.2.1 g1 x1.1 hiN l0 lnN p1 p2
      rw [tn_st hg hR κ1 κ2, (lpt_st hg hR κ1 κ2).1, (lpt_st hg hR κ1 κ2).2] at y4
      rw [y1]; repeat (first | rw [Option.bind_some] | rw [Sum.elim_inl] | rw [Sum.elim_inr])
      have e1 : S1.2.1 = U.2.1 + 1 := x1.2.2.1
      -- what stays
      have keep : ∀ a c, U.1 a = some c → c.2.2.1 ≠ 65 → S2.1 a = some c := fun a c h1 h2 => by
        have := wf_lt u1 h1
        rw [y6 a (by omega) (by omega) (fun k hk => apart (o1 _ _ h1) (g1.2.1 k hk).2 h2)]
        exact o1 _ _ h1
      have uR := keep _ _ u9 (by show ¬ (1013 : Nat) = 65; decide)
      rw [if_pos (isK_t uR rfl), alAdd_l (he := elO_o y4) uR (by
        rw [List.length_map]
        have := u7.1.length_le_of_subset (fun k hk => List.mem_range.mpr (u7.2.1 k hk).1)
        rw [List.length_range] at this
        have := RFp_le hg (K := 2500) (n := nr) (st := st) (ln := ln) ⟨hR.1, hR.2.1, hR.2.2.1, fun s hs _ => hR.2.2.2 s hs, fun k hk => by
          have a := gS_box hg (hR.1 k hk).1
          have c := gS_d4 (hR.1 k hk).1
          unfold kyS; omega⟩
        omega)]; repeat (first | rw [Option.bind_some] | rw [Sum.elim_inl] | rw [Sum.elim_inr])
      have ltR := wf_lt y2 uR
      obtain ⟨S3, hS3⟩ : ∃ S3, S3 = cput S2 1013 RL 1 16 (.int (mr + 1) :: (od.map (fun k => Value.ref (rc k)) ++ [.ref U.2.1])) := ⟨_, rfl⟩
      rw [← hS3]
      have t3 : ∀ a, a ≠ RL → S3.1 a = S2.1 a := fun a ha => by rw [hS3, cput_ne ha]
      have rco : ∀ k ∈ od, rc k < U.2.1 ∧ rl k < U.2.1 := fun k hk => by
        obtain ⟨_, _, _, _, a5, mc, a6⟩ := u7.2.1 k hk
        exact ⟨wf_lt u1 a5, wf_lt u1 a6⟩
      have ne : ∀ k ∈ od, k ≠ κ := fun k hk e => κo (by rw [← e]; exact hk)
      refine ⟨(S3, _), rfl, rfl, od ++ [κ], upd1 rc κ U.2.1, upd1 rl κ S1.2.1, upd1 q κ i, ⟨?_, ?_, fun a ha => ?_, fun a c hK1 => ?_, ⟨rvN L nl i (ln κ) U.2.1 rv, ?_, fun j => ⟨fun k hk hjk => ?_, fun hj => ?_⟩⟩, ⟨?_, fun k hk => ?_, fun k hk k' hk' e => ?_, fun k hk k' hk' e => ?_⟩, ?_, ⟨mr + 1, ?_⟩, fun k hk => ?_⟩, fun j hj => ?_, ?_, ?_⟩
      · rw [hS3]; exact wf_chg (wf_cup y2 ltR)
      · rw [hS3]; show b0 ≤ S2.2.1; omega
      · rw [t3 a (by omega), y6 a (by omega) (by omega) (fun k hk => by have := (u5.2.1 k hk).1; omega), x1.2.1 a (by omega)]; exact u3 a ha
      · obtain ⟨k1, k2, k3⟩ := hK a c hK1
        rw [t3 a k1]; exact keep _ _ (u4 a c hK1) k2
      · refine GSt_ext y3 (fun a c h1 h2 h3 => ?_) (fun k hk => ?_)
        · rw [t3 a (apart h1 uR (by intro z; rw [show ((true, false, 1013, Value.int mr :: od.map (fun k => Value.ref (rc k))) : lCell).2.2.1 = 1013 from rfl] at z; omega))]; exact h1
        · rw [t3 _ (apart (y3.2.1 k hk).2 uR (by show ¬ (65 : Nat) = 1013; decide))]; exact (y3.2.1 k hk).2
      · rcases List.mem_append.mp hk with hk | hk
        · rw [upd1_ne (ne k hk), rvN_out, (u6 j).1 k hk hjk]
          intro w
          have := (p3 j).mp (orb_mem.mpr w)
          exact ne k hk (rgs_uni hg hR (u7.2.1 k hk).1 κ1 hjk this)
        · have hk : k = κ := by simpa using hk
          rw [upd1_eq hk, rvN_in]
          rw [hk] at hjk
          exact orb_mem.mp ((p3 j).mpr hjk)
      · rw [rvN_out, (u6 j).2 (fun k hk => hj k (List.mem_append.mpr (Or.inl hk)))]
        intro w
        exact hj κ (List.mem_append.mpr (Or.inr (by simp))) ((p3 j).mp (orb_mem.mpr w))
      · exact List.nodup_append.mpr ⟨u7.1, by simp, fun a ha b hb e => by simp at hb; rw [e, hb] at ha; exact κo ha⟩
      · rcases List.mem_append.mp hk with hk | hk
        · obtain ⟨a1, a2, a3, a4, a5, mc', a6⟩ := u7.2.1 k hk
          simp only [upd1_ne (ne k hk)]
          refine ⟨a1, a2, a3, a4, ?_, mc', ?_⟩
          · rw [t3 _ (apart a5 u9 (by show ¬ (66 : Nat) = 1013; decide)), keep _ _ a5 (by show ¬ (66 : Nat) = 65; decide)]
            unfold rgC
            simp only [upd1_ne (ne k hk)]
          · rw [t3 _ (u10 k hk).1]; exact keep _ _ a6 (by show ¬ (1013 : Nat) = 65; decide)
        · have hk : k = κ := by simpa using hk
          simp only [upd1_eq hk]
          rw [hk]
          refine ⟨κ1, κ2, u2, by omega, ?_, mc, ?_⟩
          · rw [t3 _ (apart y4 uR (by show ¬ (66 : Nat) = 1013; decide)), y4]
            unfold rgC
            rw [upd1_eq rfl]
          · rw [t3 _ (by have := wf_lt u1 u9; omega)]; exact y5
      · rcases List.mem_append.mp hk with hk | hk <;> rcases List.mem_append.mp hk' with hk' | hk'
        · rw [upd1_ne (ne k hk), upd1_ne (ne k' hk')] at e; exact u7.2.2.1 k hk k' hk' e
        · have hk' : k' = κ := by simpa using hk'
          rw [upd1_ne (ne k hk), upd1_eq hk'] at e
          have := (rco k hk).1; omega
        · have hk : k = κ := by simpa using hk
          rw [upd1_eq hk, upd1_ne (ne k' hk')] at e
          have := (rco k' hk').1; omega
        · have hk : k = κ := by simpa using hk
          have hk' : k' = κ := by simpa using hk'
          rw [hk, hk']
      · rcases List.mem_append.mp hk with hk | hk <;> rcases List.mem_append.mp hk' with hk' | hk'
        · rw [upd1_ne (ne k hk), upd1_ne (ne k' hk')] at e; exact u7.2.2.2 k hk k' hk' e
        · have hk' : k' = κ := by simpa using hk'
          rw [upd1_ne (ne k hk), upd1_eq hk'] at e
          have := (rco k hk).2; omega
        · have hk : k = κ := by simpa using hk
          rw [upd1_eq hk, upd1_ne (ne k' hk')] at e
          have := (rco k' hk').2; omega
        · have hk : k = κ := by simpa using hk
          have hk' : k' = κ := by simpa using hk'
          rw [hk, hk']
      · rw [t3 _ hSR]; exact keep _ _ u8 (by show ¬ (1013 : Nat) = 65; decide)
      · rw [hS3, cput_eq, List.map_append]
        have e1 : od.map (fun k => Value.ref (rc k)) = od.map (fun k => Value.ref (upd1 rc κ U.2.1 k)) := by
          exact List.map_congr_left (fun k hk => by rw [upd1_ne (ne k hk)])
        rw [e1, List.map_singleton, upd1_eq rfl]
      · rcases List.mem_append.mp hk with hk | hk
        · simp only [upd1_ne (ne k hk)]; exact u10 k hk
        · have hk : k = κ := by simpa using hk
          simp only [upd1_eq hk]
          have := wf_lt u1 u9
          have := wf_lt u1 u8
          exact ⟨by omega, by omega, fun a c hc => by have := wf_lt u1 (u4 a c hc); omega⟩
      · by_cases e : j = i
        · rw [e]; exact ⟨κ, List.mem_append.mpr (Or.inr (by simp)), κ2⟩
        · obtain ⟨k, hk, hjk⟩ := w1 j (by omega)
          exact ⟨k, List.mem_append.mpr (Or.inl hk), hjk⟩
      · rw [lnS_add, List.length_append, hS3]
        show S2.2.2.1 + 1 = _
        have := x1.2.2.2.2.1
        simp only [List.length_singleton]
        omega
      · rw [lnS_add, List.length_append, hS3]
        show S2.2.2.2 + 16 = _
        have := x1.2.2.2.2.2
        have : ([Value.null, Value.null, Value.int 0, Value.null] : List Value).length = 4 := rfl
        simp only [List.length_singleton]
        omega
  · rintro ⟨U, _⟩ ⟨rfl, od, rc, rl, q, rs, w1, w2, w3⟩
    dsimp only at rs w2 w3 ⊢
    have u8 := rs.2.2.2.2.2.2.1
    have u7 := rs.2.2.2.2.2.1
    have n1 := u7.1.length_le_of_subset (fun k hk => List.mem_range.mpr (u7.2.1 k hk).1)
    rw [List.length_range] at n1
    have n2 := lnS_le hg hR u7.1 (fun k hk => (u7.2.1 k hk).1)
    refine ⟨U, by rw [alHas_r u8 (by omega) (by omega), if_pos rfl, Option.bind_some, if_pos rfl], od, rc, rl, q, rs, fun k hk => ?_, n1, by omega, by omega⟩
    obtain ⟨k', hk', hm⟩ := w1 (st k) (hR.1 k hk).1
    rw [rgs_uni hg hR hk (u7.2.1 k' hk').1 (st_mem hR hk) hm]; exact hk'
end
