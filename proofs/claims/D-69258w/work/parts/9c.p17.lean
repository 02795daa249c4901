/-! the program: a tick -/
def rst (t : TS) : Int32 := if t.2.2.1 140 0 < 20000 then 0 else 1
/-- within a tick -/
def R5q (h : lHeap) (t : TS) (n : Nat) (B : Nat → Nat → Nat) (o : Value) (od : Int32) : Prop := R5x h (ptI t 418 (rst t)) n B o od (t.1 414)
theorem R5_119 {h : lHeap} {t t1 : TS} {n : Nat} {B : Nat → Nat → Nat} {o : Value} {od nw : Int32} (r : R5x h t n B o od nw) (e : ∀ c j, c ≠ 140 → t1.2.2.1 c j = t.2.2.1 c j) (e1 : ∀ c, c ≠ 418 → c ≠ 0 → t1.1 c = t.1 c) : R5x (lUpd h 119 (f119 t1)) (ptI t1 418 (rst t1)) n B o od nw := by
  obtain ⟨⟨p1, p2, ⟨mc, p3⟩, p4, p5, p6, p7, p8, p9⟩, f, i, b, q⟩ := r
  have ne : ∀ a c, a ≠ 119 → lUpd h 119 c a = h a := fun a c ha => by rw [lUpd_at, if_neg ha]
  have q1 : (ptI t1 418 (rst t1)).1 1 = t.1 1 := by rw [pt_1, if_neg (by omega)]; exact e1 1 (by omega) (by omega)
  have e125 : ∀ j, (ptI t1 418 (rst t1)).2.2.1 125 j = t.2.2.1 125 j := fun j => e 125 j (by omega)
  have e129 : ∀ j, (ptI t1 418 (rst t1)).2.2.1 129 j = t.2.2.1 129 j := fun j => e 129 j (by omega)
  have e130 : ∀ j, (ptI t1 418 (rst t1)).2.2.1 130 j = t.2.2.1 130 j := fun j => e 130 j (by omega)
  refine ⟨⟨by rw [ne _ _ (by omega), q1]; exact p1, by rw [ne _ _ (by omega)]; exact p2, ⟨mc, by rw [ne _ _ (by omega)]; exact p3⟩, by rw [lUpd_at, if_pos rfl]; rfl, by rw [pt_1, if_neg (by omega), e1 400 (by omega) (by omega)]; exact p5, p6, by rw [pt_1, if_pos rfl]; rfl, by rw [q1]; exact p8, by rw [q1]; exact p9⟩, ?_, i, ?_, ?_⟩
  · intro k h1 h2
    exact ⟨fun c hc => (e c k (by unfold bRow at hc; omega)).trans ((f k h1 h2).1 c hc), fun i hi => (e130 _).trans ((f k h1 h2).2 i hi)⟩
  · intro k hk
    refine R5b_cg (b k hk) (fun j hj => ne _ _ (by have := i.2 k j hk hj; omega)) (fun c hc => e c k (by unfold bRow at hc; omega)) e129 (fun _ _ => e130 _)
  · unfold R5o at q ⊢
    rw [(ord_cg (t := t) (n := n) e125 e129).1, (ord_cg (t := t) (n := n) e125 e129).2]
    rcases q with rfl | ⟨oid, mc, rfl, q1, q2, q3, q4⟩
    · exact Or.inl rfl
    · have hne : oid ≠ 119 := by
        intro z
        rw [z] at q1
        exact absurd q1 (by decide)
      exact Or.inr ⟨oid, mc, rfl, q1, q2, (ne oid _ hne).trans q3, q4⟩
/-- both sides in a tick -/
def Tk (s : CS) (own : Nat → Nat) (t : TS) (n : Nat) (B : Nat → Nat → Nat) (o : Value) (od : Int32) : Prop := wfS s ∧ RK s.1 ∧ R10 (rs s.1 own 10) t ∧ R5q (rs s.1 own 5) t n B o od
/-- what a step of a tick may change -/
def Tc (own : Nat → Nat) (s s' : CS) (t t' : TS) : Prop := Frm (fun X => X = 5) own own s s' ∧ s'.2 = s.2 ∧ t'.1 = t.1 ∧ t'.2.1 = t.2.1 ∧ t'.2.2.2 = t.2.2.2 ∧ ∀ c j, mR c ≠ 5 → t'.2.2.1 c j = t.2.2.1 c j
theorem Tc.tr {own : Nat → Nat} {s s1 s2 : CS} {t t1 t2 : TS} (h : Tc own s s1 t t1) (k : Tc own s1 s2 t1 t2) : Tc own s s2 t t2 :=
  ⟨h.1.trans k.1, k.2.1.trans h.2.1, k.2.2.1.trans h.2.2.1, k.2.2.2.1.trans h.2.2.2.1, k.2.2.2.2.1.trans h.2.2.2.2.1, fun c j q => (k.2.2.2.2.2 c j q).trans (h.2.2.2.2.2 c j q)⟩
theorem Tc.rf {own : Nat → Nat} {s : CS} {t : TS} (hw : wfS s) : Tc own s s t t := ⟨Frm.refl hw, rfl, rfl, rfl, rfl, fun _ _ _ => rfl⟩
section
variable {s : CS} {own : Nat → Nat} {t : TS} {n k : Nat} {B : Nat → Nat → Nat} {o : Value} {od : Int32}
theorem Tk.bx (h : Tk s own t n B o od) (hk : k < n) : Bx s t n B k := by
  obtain ⟨hw, hK, r10, r⟩ := h
  obtain ⟨⟨p1, p2, ⟨mc, p3⟩, p4, p5, p6, p7, p8, p9⟩, f, i, b, q⟩ := r
  refine ⟨p6, hK, fun j hj => ?_, hk, ⟨o, od, ?_⟩, (rs_in r10).1⟩
  · obtain ⟨r1, r2, r3, r4⟩ := b j hj
    exact ⟨(rs_in r1).1, (rs_in r2).1, (rs_in r3).1, r4⟩
  · exact (rs_in p1).1
theorem Tk.ok (h : Tk s own t n B o od) : okW t n := by
  obtain ⟨hw, hK, r10, r⟩ := h
  have := R5x_ok r
  exact ⟨this.1, by have := this.2.1; rwa [pt_1, if_neg (by omega)] at this, this.2.2⟩
theorem Tk.cg {s' : CS} {t' : TS} (h : Tk s own t n B o od) (hc : Tc own s s' t t') (h5 : R5q (rs s'.1 own 5) t' n B o od) (hR : ∀ a, a < 100 → own a ≠ 5) : Tk s' own t' n B o od := by
  obtain ⟨hw, hK, r10, r⟩ := h
  have hs : ∀ a c, own a ≠ 5 → s.1 a = some c → s'.1 a = some c := fun a c ha e => by rw [hc.1.2.2.1 a (wf_lt hw e) ha, e]
  refine ⟨hc.1.2.2.2.2, ⟨fun k hk => hs _ _ (hR _ ?_) (hK.1 k hk), hs _ _ (hR _ (by omega)) hK.2.1, hs _ _ (hR _ (by omega)) hK.2.2.1, hs _ _ (hR _ (by omega)) hK.2.2.2⟩, ?_, h5⟩
  · have : ∀ K : Fin 26, kid K.val < 100 := by decide
    exact this ⟨k, hk⟩
  · unfold R10 at r10 ⊢
    rw [frm_rs hw hc.1 (by omega), r10]
    congr 4
    exact rowC_congr (fun k _ => by rw [hc.2.2.2.2.2 136 k (by decide)])
/-- a block reckons -/
theorem rec_two (h : Tk s own t n B o od) (hk : k < n) (hR : ∀ a, a < 100 → own a ≠ 5) : ∃ s' t', c_1104 115 (B k 0) 0 s = some s' ∧ t_812 (Int32.ofNat k) t = some t' ∧ Tk s' own t' n B o od ∧ Tc own s s' t t' := by
  have hb := h.bx hk
  have ho := h.ok
  have hw := h.1
  have r := h.2.2.2
  obtain ⟨K, hK, hKe⟩ := (ho.2.2 k hk).1
  have hc := c_rec K hK hb hKe
  have ht := t_rec K hK ho hk hKe
  have hB0 := rs_in (r.2.2.2.1 k hk).1
  have g0 := r.2.2.1.2 k 0 hk (by omega)
  cases he : evl t k K with
  | inl x =>
    obtain ⟨a, f, g⟩ := x
    rw [he] at hc ht
    rw [c_okT hb] at hc
    have t140 : ∀ j, (app t k (.inl (a, f, g))).2.2.1 140 j = t.2.2.1 140 j := fun j => by
      show (wrI (wrI (wrI t 132 k f) 133 k g) 131 k _).2.2.1 140 j = _
      rw [wr_ne (by omega), wr_ne (by omega), wr_ne (by omega)]
    have hTc : Tc own s (cup s (B k 0) (bC (app t k (.inl (a, f, g))) B k)) t (app t k (.inl (a, f, g))) := by
      refine ⟨frm_cup hw (wf_lt hw hB0.1) hB0.2, rfl, rfl, rfl, rfl, fun c j q => ?_⟩
      show (wrI (wrI (wrI t 132 k f) 133 k g) 131 k _).2.2.1 c j = _
      rw [wr_ne (fun z => q (by rw [z]; rfl)), wr_ne (fun z => q (by rw [z]; rfl)), wr_ne (fun z => q (by rw [z]; rfl))]
    refine ⟨_, _, hc, ht, h.cg hTc ?_ hR, hTc⟩
    show R5x (rs (lUpd s.1 (B k 0) _) own 5) (ptI (app t k (.inl (a, f, g))) 418 (rst (app t k (.inl (a, f, g))))) n B o od (t.1 414)
    rw [rs_upd hB0.2]
    have er : rst (app t k (.inl (a, f, g))) = rst t := by unfold rst; rw [t140]
    rw [er]
    refine R5_st (t' := ptI (app t k (.inl (a, f, g))) 418 (rst t)) hk r (fun c j hm hq => ?_) (fun c _ _ => rfl) ?_
    · show (wrI (wrI (wrI t 132 k f) 133 k g) 131 k _).2.2.1 c j = t.2.2.1 c j
      rw [wr_at, if_neg (fun z => hq ⟨by unfold bRow; omega, z.2⟩), wr_at, if_neg (fun z => hq ⟨by unfold bRow; omega, z.2⟩), wr_at, if_neg (fun z => hq ⟨by unfold bRow; omega, z.2⟩)]
    · show v01 ((wrI (wrI (wrI t 132 k f) 133 k g) 131 k _).2.2.1 134 k)
      rw [wr_ne (by omega), wr_ne (by omega), wr_ne (by omega)]
      exact (r.2.2.2.1 k hk).2.2.2.2.2
  | inr w =>
    obtain ⟨v, hv, rfl⟩ : ∃ v : Nat, (0 < v ∧ v < 4) ∧ w = Int32.ofNat v := by
      rcases evl_w he with rfl | rfl | rfl
      · exact ⟨1, by omega, rfl⟩
      · exact ⟨2, by omega, rfl⟩
      · exact ⟨3, by omega, rfl⟩
    rw [he] at hc ht
    have h119 := rs_in r.1.2.2.2.1
    rw [c_noT hb hv h119.1 (by omega)] at hc
    have hbv : bN (Int32.ofNat v) = v := i_clamp (by omega)
    generalize hT : app t k (.inr (Int32.ofNat v)) = T at hc ht
    have eT : T = wrI (wrI (wrI t 140 0 (t.2.2.1 140 0 + 1)) 140 v (t.2.2.1 140 v + 1)) 131 k (if t.2.2.1 134 k = 0 then t.2.2.1 128 k else t.2.2.1 135 k) := by
      rw [← hT]; simp only [app, hbv]
    have hTc : Tc own s (cup (cup s 119 (f119 T)) (B k 0) (bC T B k)) t T := by
      have f1 := frm_cup (X := fun X => X = 5) (c := f119 T) hw (wf_lt hw h119.1) h119.2
      refine ⟨f1.trans (frm_cup f1.2.2.2.2 (show B k 0 < s.2.1 from wf_lt hw hB0.1) hB0.2), rfl, by rw [eT]; rfl, by rw [eT]; rfl, by rw [eT]; rfl, fun c j q => ?_⟩
      rw [eT, wr_ne (fun z => q (by rw [z]; rfl)), wr_ne (fun z => q (by rw [z]; rfl)), wr_ne (fun z => q (by rw [z]; rfl))]
    refine ⟨_, _, hc, ht, h.cg hTc ?_ hR, hTc⟩
    have e414 : T.1 414 = t.1 414 := by rw [eT]; rfl
    show R5x (rs (lUpd (lUpd s.1 119 _) (B k 0) _) own 5) (ptI T 418 (rst T)) n B o od (T.1 414)
    rw [rs_upd hB0.2, rs_upd h119.2, e414]
    have r1 := R5_119 (t1 := wrI (wrI t 140 0 (t.2.2.1 140 0 + 1)) 140 v (t.2.2.1 140 v + 1)) r (fun c j hc => by rw [wr_ne hc, wr_ne hc]; rfl) (fun c h1 h2 => by show t.1 c = (ptI t 418 (rst t)).1 c; rw [pt_1, if_neg h1])
    have eR : ∀ j, T.2.2.1 140 j = (wrI (wrI t 140 0 (t.2.2.1 140 0 + 1)) 140 v (t.2.2.1 140 v + 1)).2.2.1 140 j := fun j => by rw [eT, wr_ne (by omega)]
    have eF : f119 T = f119 (wrI (wrI t 140 0 (t.2.2.1 140 0 + 1)) 140 v (t.2.2.1 140 v + 1)) := by
      unfold f119; simp only [eR]
    have eS : rst T = rst (wrI (wrI t 140 0 (t.2.2.1 140 0 + 1)) 140 v (t.2.2.1 140 v + 1)) := by
      unfold rst; rw [eR]
    rw [eF, eS]
    refine R5_st (t' := ptI T 418 (rst (wrI (wrI t 140 0 (t.2.2.1 140 0 + 1)) 140 v (t.2.2.1 140 v + 1)))) hk r1 (fun c j hm hq => ?_) (fun c _ _ => by rw [eT]; rfl) ?_
    · show T.2.2.1 c j = (wrI (wrI t 140 0 (t.2.2.1 140 0 + 1)) 140 v (t.2.2.1 140 v + 1)).2.2.1 c j
      rw [eT, wr_at, if_neg (fun z => hq ⟨by unfold bRow; omega, z.2⟩)]
    · show v01 (T.2.2.1 134 k)
      rw [eT, wr_ne (by omega), wr_ne (by omega), wr_ne (by omega)]
      exact (r.2.2.2.1 k hk).2.2.2.2.2
end
