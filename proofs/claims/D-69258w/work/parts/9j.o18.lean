/-! building: walking numbers, the component, whole -/
section
variable {B : CS} {t : TS} {nl nr ne : Nat} {W : Nat → Nat} {e q : Nat → Int32}
theorem exL_mem {c n : Nat} : c ∈ exL t nl n ↔ c < n ∧ exA t nl c := by
  classical
  unfold exL
  rw [List.mem_filter, List.mem_range, decide_eq_true_iff]
theorem exL_nd {n : Nat} : (exL t nl n).Nodup := by
  unfold exL
  exact List.Pairwise.filter _ List.nodup_range
theorem c_spr (b0 : SpB B t nl nr ne W e q) (h61 : aLen B 61 = some 4) {h0 : Nat → Int32} (h175 : B.1 175 = some (true, true, 0, rowC (fun c => .int (h0 c)) 576)) : ∃ U f m, c_541 170 B = some U ∧ SpR B U (nuC f) [] m ∧ m ≤ 576 ∧ wnR (exA t nl) (adN t nl) f ∧ ∀ c, f c ≤ 577 := by
  classical
  unfold c_541
  obtain ⟨S1, e1, u1⟩ := nw_o (s := B) 4 [.null, .int 0, .int 0] b0.1
  unfold Nw at u1
  obtain ⟨v1, v2, v3, v4, v5, v6⟩ := u1
  rw [e1, Option.bind_some]
  dsimp only
  rw [if_pos (isK_t v1 rfl), adInit_o v1, Option.bind_some]
  have h179 := b0.2.1
  have r0 : SpR B (chg (cup S1 B.2.1 (true, false, 1004, [])) 1 17) h0 [] 0 := by
    refine ⟨wf_chg (wf_cup v4 (by rw [v3]; omega)), v3, fun p h1 h2 => ?_, ?_, cup_eq .., Nat.le_refl _, ?_, ?_⟩
    · show (cup S1 B.2.1 _).1 p = _
      rw [cup_ne (by omega), v2 p (by omega)]
    · show (cup S1 B.2.1 _).1 175 = _
      rw [cup_ne (by omega), v2 175 (by omega), h175]
    · show S1.2.2.1 + 1 ≤ _; rw [v5]; omega
    · show S1.2.2.2 + 17 ≤ _; rw [v6]; show B.2.2.2 + 3 + 17 ≤ _; omega
  obtain ⟨U1, c1, d1⟩ := sp_exit b0 h61 r0
  rw [c1, Option.bind_some]
  obtain ⟨f, hf⟩ : ∃ f : Nat → Nat, ∀ c, f c = if exA t nl c then 1 else 0 := ⟨_, fun _ => rfl⟩
  have f1 : ∀ c, f c ≠ 0 → exA t nl c := fun c h => by
    by_cases z : exA t nl c
    · exact z
    · rw [hf, if_neg z] at h; exact absurd rfl h
  have f2 : ∀ c, exA t nl c → f c = 1 := fun c h => by rw [hf, if_pos h]
  have f3 : ∀ c, f c ≤ 1 := fun c => by rw [hf]; split <;> omega
  have j1 : SpJ B U1 f (exL t nl 576) [] := by
    refine ⟨?_, ?_, fun i hi => ?_, fun i hi => (f1 i hi).1, fun c => ?_⟩
    · rw [List.nil_append]
      refine SpR_g d1 (fun c hc => ?_)
      unfold exG nuC
      rw [if_pos hc]
      by_cases z : exA t nl c
      · rw [if_pos z, f2 c z, if_neg (by decide)]; rfl
      · rw [if_neg z, hf, if_neg z, if_pos rfl]
    · rw [List.nil_append]; exact exL_nd
    · rw [List.nil_append] at hi
      rw [f2 i (exL_mem.mp hi).2]; decide
    · have := f3 c; omega
  have j2 : quJ (exA t nl) (adN t nl) f (exL t nl 576) (fun z => z ∈ ([] : List Nat)) := by
    refine ⟨fun c hc => ?_, f2, fun b hb => Or.inl (exL_mem.mpr ⟨(f1 b hb).1, f1 b hb⟩), fun b hb => absurd hb List.not_mem_nil, fun b hb => ?_, ?_, fun h R hR c => ?_⟩
    · rw [f2 c (f1 c hc)]; exact Or.inl (f1 c hc)
    · rw [f2 b (exL_mem.mp hb).2]; decide
    · refine List.Pairwise.imp_of_mem (fun {x y} hx hy _ => ?_) (exL_nd (t := t) (nl := nl) (n := 576))
      rw [f2 x (exL_mem.mp hx).2, f2 y (exL_mem.mp hy).2]; exact Nat.le_refl _
    · have := f3 c; omega
  obtain ⟨U2, c2, f', dl, w1, w2⟩ := sp_loop b0 h61 j1 j2
  rw [c2, Option.bind_some]
  have len := SpJ_len w1
  refine ⟨_, f', (dl ++ []).length, rfl, w1.1, len, w2, fun c => ?_⟩
  have := w1.2.2.2.2 c
  omega
end
