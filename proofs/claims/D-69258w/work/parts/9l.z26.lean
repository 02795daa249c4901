/-! the house: a second of the warden; points; the tick; the bus; who is caught; who leaves -/
section
variable {s s' : CS} {own own' : Nat → Nat} {t T : TS} {K N : Nat} {p7 p9 : lHeap → TS → Prop}
theorem sec_wa {n : Nat} (r : RG (P7m n) p9 s own t K N) (c9 : C9 p9 p9) (hn : n + 1 ≤ 6000) (ht : t.1 301 = Int32.ofNat (n + 1)) : ∃ S T own', c_515 151 (t.1 301) s = some S ∧ Option.bind (t_793 0 t) (fun x6 => wh (S := TS × Int32 × Int32) (X := TS) (fun p32 => (if p32.2.1 < 0 then some (.inr p32.1) else Option.bind (t_804 p32.2.1 p32.1) (fun x7 => Option.bind ((if x7.1 < 0 then some x7.2 else Option.bind (t_628 p32.2.1 x7.1 x7.2) (fun x8 => some x8))) (fun v45 => Option.bind (t_793 p32.2.2 v45) (fun x9 => some (.inl (v45, x9, p32.2.2 + 1))))))) (t, x6, 1)) = some T ∧ RG R7 p9 S own' T K N ∧ Frm (fun X => X = 6 ∨ X = 7 ∨ X = 10) own own' s S ∧ (∀ c, c ≠ 330 → T.1 c = t.1 c) ∧ (∀ Z, Z ≠ 6 → Z ≠ 7 → Z ≠ 10 → Z ≠ 99 → rt T Z = rt t Z) ∧ S.2.2.1 ≤ s.2.2.1 + 60 ∧ S.2.2.2 ≤ s.2.2.2 + 480 := by
  obtain ⟨np, sz, mx, zm, am, rl, nr, na, ec, P, Z, ZP, A, RW, od, q⟩ := id r.r7
  obtain ⟨S, T, a1, a2, own', ec', b1, b2, b3, b4, b5, _, b7, b8⟩ := wa_second r.wf r.hs r.ks.2.1 hn ht q r.sec
  refine ⟨S, T, own', a1, a2, ?_, b3, b4, b5, b7, b8⟩
  refine r.keep (X := fun X => X = 6 ∨ X = 7 ∨ X = 10) (Y := fun X => X = 6 ∨ X = 7 ∨ X = 10) b3 (fun Z h => by omega) (fun Z h w => h w) (fun Z h h9 => b5 Z (fun w => h (by omega)) (fun w => h (by omega)) (fun w => h (by omega)) h9) (b4 1 (by omega)) (b5 2 (by omega) (by omega) (by omega) (by omega)) (by omega) (by omega) (fun z => by omega) (fun z => by omega) (fun z => by omega) (fun _ => b2.1) (fun z => by omega) (fun _ => ?_) (fun z => by omega) (fun z => by omega) (fun z => by omega) (fun _ => ⟨c9, b4 2 (by omega), b4 9 (by omega)⟩) (fun _ => b2.2.1)
  refine ⟨np, sz, mx, zm, am, rl, nr, na, ec', P, Z, ZP, A, RW, od, ?_⟩
  unfold R7x
  rw [b4 301 (by omega), ht, show bN (Int32.ofNat (n + 1)) = n + 1 from i_clamp (by omega)]
  exact b1
theorem RG.done (r : RG R7 p9 s own t K N) {v : Int32} (hv : v = -1 ∨ ¬ v < 0) : c_485 151 v s = some (Int32.ofNat (dnC t v)) ∧ t_763 v t = some (Int32.ofNat (dnC t v)) := by
  obtain ⟨np, sz, mx, zm, am, rl, nr, na, ec, P, Z, ZP, A, RW, od, q⟩ := r.r7
  exact ⟨c_done (k7_of r.ks.2.1) (R7_raw q) hv, t_done q v⟩
theorem RG.m7' (r : RG R7 p9 s own t K N) : xN s [(45, 6)] 100 = some 151 ∧ isK s [47] 151 = true := by
  obtain ⟨np, sz, mx, zm, am, rl, nr, na, ec, P, Z, ZP, A, RW, od, q⟩ := r.r7
  exact ⟨xN_o r.c100 rfl rfl, isK_t (rs_in q.1.1).1 rfl⟩
/-- a point of the program is set -/
theorem sec_pt (r : RG p7 p9 s own t K N) (c7 : C7 p7 p7) (c9 : C9 p9 p9) {k : Nat} (hk : k < 10) (v : Int32) : ∃ S, aPut s 0 118 (Int32.ofNat k) (.int v) = some S ∧ RG p7 p9 S own (wrI t 136 k v) K N ∧ Frm (fun X => X = 10) own own s S ∧ S.2 = s.2 := by
  have h := r.r10
  unfold R10 at h
  obtain ⟨h1, h2⟩ := rs_in h
  have hF : Frm (fun X => X = 10) own own s (cup s 118 (true, true, 0, rowC (fun j => if j = k then .int v else .int (t.2.2.1 136 j)) 10)) := frm_cup r.wf (wf_lt r.wf h1) h2
  refine ⟨_, aPut_r h1 hk (by omega), ?_, hF, rfl⟩
  refine r.keep (X := fun X => X = 10) (Y := fun X => X = 10) hF (fun Z h => by omega) (fun Z h w => h w) (fun Z h _ => rt_wrI (by show 10 ≠ Z; exact fun w => h w.symm)) rfl (rt_wrI (by decide)) (by omega) (by omega) (fun z => by omega) (fun z => by omega) (fun z => by omega) (fun z => by omega) (fun _ => rfl) (fun z => by omega) (fun _ => c7) (fun z => by omega) (fun z => by omega) (fun _ => ⟨c9, rfl, rfl⟩) (fun _ => ?_)
  show R10 (rs (lUpd s.1 118 _) own 10) _
  rw [rs_upd h2]
  exact R10_wr
end
