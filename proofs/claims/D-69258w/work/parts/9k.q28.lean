/-! permits: what asking leaves alone; one rule in the reference's run -/
section
variable {t T S : TS} {nf : Nat}
theorem wrLq (c k : Nat) (v : Int64) {q : Nat} (h : q ≠ c) : (wrL S c k v).2.2.2 q = S.2.2.2 q := by
  funext j
  exact if_neg (fun w => h w.1)
theorem wrLe (c k : Nat) (v : Int64) : (wrL S c k v).2.2.2 c = fun j => if j = k then v else S.2.2.2 c j := by
  funext j
  show (if c = c ∧ j = k then v else _) = _
  by_cases z : j = k
  · rw [if_pos ⟨rfl, z⟩, if_pos z]
  · rw [if_neg (fun w => z w.2), if_neg z]
theorem wrIq (c k : Nat) (v : Int32) {q : Nat} (h : q ≠ c) : (wrI S c k v).2.2.1 q = S.2.2.1 q := by
  funext j
  exact if_neg (fun w => h w.1)
theorem wrIe (c k : Nat) (v : Int32) : (wrI S c k v).2.2.1 c = fun j => if j = k then v else S.2.2.1 c j := by
  funext j
  show (if c = c ∧ j = k then v else _) = _
  by_cases z : j = k
  · rw [if_pos ⟨rfl, z⟩, if_pos z]
  · rw [if_neg (fun w => z w.2), if_neg z]
/-- a clause's rows, in the reference -/
def RcS (t : TS) (c : Nat) (d : ClD) (i : Nat) : Prop := t.2.2.1 83 c = Int32.ofNat i ∧ t.2.2.1 84 c = Int32.ofNat (i + d.1.length) ∧ t.2.2.1 85 c = Int32.ofNat (i + d.1.length + d.2.1.length) ∧ t.2.2.1 86 c = Int32.ofNat d.2.2 ∧ d.2.2 < 5 ∧ SdR t i d.1 ∧ SdR t (i + d.1.length) d.2.1
theorem RcR_of {c i : Nat} {d : ClD} (h : RcS t c d i) (e1 : EvT t nf d.1) (e2 : EvT t nf d.2.1) : RcR t nf c d := by
  obtain ⟨h1, h2, h3, h4, h5, h6, h7⟩ := h
  exact ⟨i, h1, h2, h3, h4, h5, h6, h7, e1, e2⟩
theorem SdR_cg {i : Nat} {l : List (Int32 × Int64)} (e1 : T.2.2.1 87 = t.2.2.1 87) (e2 : T.2.2.2 88 = t.2.2.2 88) (h : SdR t i l) : SdR T i l := ⟨fun m hm => by rw [e1, e2]; exact h.1 m hm, h.2⟩
theorem RcS_cg {c i : Nat} {d : ClD} (e83 : T.2.2.1 83 = t.2.2.1 83) (e84 : T.2.2.1 84 = t.2.2.1 84) (e85 : T.2.2.1 85 = t.2.2.1 85) (e86 : T.2.2.1 86 = t.2.2.1 86) (e87 : T.2.2.1 87 = t.2.2.1 87) (e88 : T.2.2.2 88 = t.2.2.2 88) (h : RcS t c d i) : RcS T c d i := by
  obtain ⟨h1, h2, h3, h4, h5, h6, h7⟩ := h
  exact ⟨by rw [e83]; exact h1, by rw [e84]; exact h2, by rw [e85]; exact h3, by rw [e86]; exact h4, h5, SdR_cg e87 e88 h6, SdR_cg e87 e88 h7⟩
theorem EvT_fg {l : List (Int32 × Int64)} (e1 : T.2.2.2 77 = t.2.2.2 77) (e2 : T.2.2.1 78 = t.2.2.1 78) (h : EvT t nf l) : EvT T nf l := by
  unfold EvT
  simp only [evS_fg e1 e2]
  exact h
theorem RcR_cg {c : Nat} {d : ClD} (e77 : T.2.2.2 77 = t.2.2.2 77) (e1 : T.2.2.1 = t.2.2.1) (e88 : T.2.2.2 88 = t.2.2.2 88) (h : RcR t nf c d) : RcR T nf c d := by
  obtain ⟨i, h1, h2, h3, h4, h5, h6, h7, h8, h9⟩ := h
  have e : ∀ q, T.2.2.1 q = t.2.2.1 q := fun q => by rw [e1]
  exact ⟨i, by rw [e1]; exact h1, by rw [e1]; exact h2, by rw [e1]; exact h3, by rw [e1]; exact h4, h5, SdR_cg (e 87) e88 h6, SdR_cg (e 87) e88 h7, EvT_fg e77 (e 78) h8, EvT_fg e77 (e 78) h9⟩
theorem clA_fg (e1 : T.2.2.2 77 = t.2.2.2 77) (e2 : T.2.2.1 78 = t.2.2.1 78) (d : ClD) : clA T nf d = clA t nf d := by
  unfold clA
  rw [evS_fg e1 e2, evS_fg e1 e2]
/-- what asking leaves alone -/
def TF (t T : TS) : Prop := (∀ c, c ≠ 239 → c ≠ 240 → T.1 c = t.1 c) ∧ (∀ c, c ≠ 241 → c ≠ 242 → c ≠ 243 → T.2.1 c = t.2.1 c) ∧ (∀ c, c ≠ 89 → c ≠ 94 → T.2.2.1 c = t.2.2.1 c) ∧ ∀ c, c ≠ 97 → c ≠ 98 → c ≠ 90 → c ≠ 91 → c ≠ 92 → c ≠ 93 → c ≠ 95 → T.2.2.2 c = t.2.2.2 c
theorem TF_0 : TF t t := ⟨fun _ _ _ => rfl, fun _ _ _ _ => rfl, fun _ _ _ => rfl, fun _ _ _ _ _ _ _ _ => rfl⟩
theorem TF_tr (f : TF t S) (g : TF S T) : TF t T := ⟨fun c a b => (g.1 c a b).trans (f.1 c a b), fun c a b d => (g.2.1 c a b d).trans (f.2.1 c a b d), fun c a b => (g.2.2.1 c a b).trans (f.2.2.1 c a b), fun c a b c1 c2 c3 c4 c5 => (g.2.2.2 c a b c1 c2 c3 c4 c5).trans (f.2.2.2 c a b c1 c2 c3 c4 c5)⟩
/-- a rule's answers -/
def AnsR (T : TS) (k : Nat) (q : Nat × Int32 × Int64) (kl kr : Int64 × Int64) : Prop := T.2.2.1 89 k = Int32.ofNat q.1 ∧ T.2.2.1 94 k = q.2.1 ∧ T.2.2.2 95 k = q.2.2 ∧ T.2.2.2 90 k = kl.1 ∧ T.2.2.2 91 k = kl.2 ∧ T.2.2.2 92 k = kr.1 ∧ T.2.2.2 93 k = kr.2
def AnsE (S T : TS) (k : Nat) : Prop := ∀ j, j ≠ k → T.2.2.1 89 j = S.2.2.1 89 j ∧ T.2.2.1 94 j = S.2.2.1 94 j ∧ T.2.2.2 95 j = S.2.2.2 95 j ∧ T.2.2.2 90 j = S.2.2.2 90 j ∧ T.2.2.2 91 j = S.2.2.2 91 j ∧ T.2.2.2 92 j = S.2.2.2 92 j ∧ T.2.2.2 93 j = S.2.2.2 93 j
theorem t_run1 {A : Type} (g : TS → Int32 → Option A) {k c0 m : Nat} {on day : Int32} {D : Nat → ClD} (hr : k < 12) (e82 : S.2.2.1 82 k = day) (e80 : S.2.2.1 80 k = Int32.ofNat c0) (e81 : S.2.2.1 81 k = Int32.ofNat m) (hm : c0 + m < 60) (h0 : RcR S nf c0 (D c0)) (hj : ∀ j, j < m → RcR S nf (c0 + 1 + j) (D (c0 + 1 + j))) (h2 : S.1 202 = Int32.ofNat nf) (h40 : nf ≤ 40) : ∃ T, Option.bind (stL S 90 12 (Int32.ofNat k) 0) (fun s2 => Option.bind (stL s2 91 12 (Int32.ofNat k) 0) (fun s3 => Option.bind (stL s3 92 12 (Int32.ofNat k) 0) (fun s4 => Option.bind (stL s4 93 12 (Int32.ofNat k) 0) (fun s5 => Option.bind (t_753 (Int32.ofNat k) on 1 s5) (fun x6 => Option.bind (stI x6.2 89 12 (Int32.ofNat k) x6.1) (fun s7 => Option.bind (stI s7 94 12 (Int32.ofNat k) (s7.1 240)) (fun s8 => Option.bind (stL s8 95 12 (Int32.ofNat k) (s8.2.1 241)) (fun s9 => Option.bind (rdI s9 89 12 (Int32.ofNat k)) (fun x10 => Option.bind ((if x10 = 1 then some 1 else some 0)) (fun v62 => g s9 v62)))))))))) = g T (if (askR on day (ruA (fun c => clA S nf (D c)) c0 m)).1 = 1 then 1 else 0) ∧ TF S T ∧ AnsE S T k ∧ AnsR T k (askR on day (ruA (fun c => clA S nf (D c)) c0 m)) (if on < day then (0, 0) else kpL (evS S nf (D c0).1 [])) (if on < day then (0, 0) else kpQ (evS S nf (D c0).1 []) (evS S nf (D c0).2.1 [])) := by
  rw [stL_n hr (by decide), Option.bind_some, stL_n hr (by decide), Option.bind_some, stL_n hr (by decide), Option.bind_some, stL_n hr (by decide), Option.bind_some]
  obtain ⟨V, hV⟩ : ∃ V, V = wrL (wrL (wrL (wrL S 90 k 0) 91 k 0) 92 k 0) 93 k 0 := ⟨_, rfl⟩
  have vq : ∀ q, q ≠ 90 → q ≠ 91 → q ≠ 92 → q ≠ 93 → V.2.2.2 q = S.2.2.2 q := fun q a b c d => by rw [hV, wrLq _ _ _ d, wrLq _ _ _ c, wrLq _ _ _ b, wrLq _ _ _ a]
  have v90 : V.2.2.2 90 = fun j => if j = k then 0 else S.2.2.2 90 j := by rw [hV, wrLq _ _ _ (by decide), wrLq _ _ _ (by decide), wrLq _ _ _ (by decide), wrLe]
  have v91 : V.2.2.2 91 = fun j => if j = k then 0 else S.2.2.2 91 j := by rw [hV, wrLq _ _ _ (by decide), wrLq _ _ _ (by decide), wrLe, wrLq _ _ _ (by decide)]
  have v92 : V.2.2.2 92 = fun j => if j = k then 0 else S.2.2.2 92 j := by rw [hV, wrLq _ _ _ (by decide), wrLe, wrLq _ _ _ (by decide), wrLq _ _ _ (by decide)]
  have v93 : V.2.2.2 93 = fun j => if j = k then 0 else S.2.2.2 93 j := by rw [hV, wrLe, wrLq _ _ _ (by decide), wrLq _ _ _ (by decide), wrLq _ _ _ (by decide)]
  have v3 : V.2.2.1 = S.2.2.1 := by rw [hV]; rfl
  have v1 : V.1 = S.1 := by rw [hV]; rfl
  have v2 : V.2.1 = S.2.1 := by rw [hV]; rfl
  rw [← hV]
  clear hV
  have e77 := vq 77 (by decide) (by decide) (by decide) (by decide)
  have e78 : V.2.2.1 78 = S.2.2.1 78 := by rw [v3]
  have e88 := vq 88 (by decide) (by decide) (by decide) (by decide)
  obtain ⟨T1, f1, F1, a1, a2, K1⟩ := t_askR (t := V) (nf := nf) (on := on) (day := day) (c0 := c0) (m := m) (D := D) hr (by rw [v3]; exact e82) (by rw [v3]; exact e80) (by rw [v3]; exact e81) hm (RcR_cg e77 v3 e88 h0) (fun j h => RcR_cg e77 v3 e88 (hj j h)) (by rw [v1]; exact h2) h40
  have ce : (fun c => clA V nf (D c)) = fun c => clA S nf (D c) := by funext c; exact clA_fg e77 e78 _
  rw [ce] at f1 a1 a2
  rw [evS_fg e77 e78, evS_fg e77 e78] at K1
  obtain ⟨Q, hQ⟩ : ∃ Q, Q = askR on day (ruA (fun c => clA S nf (D c)) c0 m) := ⟨_, rfl⟩
  rw [← hQ] at f1 a1 a2 ⊢
  rw [f1, Option.bind_some, stI_n hr (by decide), Option.bind_some, stI_n hr (by decide), Option.bind_some, stL_n hr (by decide), Option.bind_some, rdI_n hr (by decide), Option.bind_some]
  dsimp only
  obtain ⟨W, hW⟩ : ∃ W, W = wrL (wrI (wrI T1 89 k (Int32.ofNat Q.1)) 94 k ((wrI T1 89 k (Int32.ofNat Q.1)).1 240)) 95 k ((wrI (wrI T1 89 k (Int32.ofNat Q.1)) 94 k ((wrI T1 89 k (Int32.ofNat Q.1)).1 240)).2.1 241) := ⟨_, rfl⟩
  have w1 : W.1 = T1.1 := by rw [hW]; rfl
  have w2 : W.2.1 = T1.2.1 := by rw [hW]; rfl
  have w89 : W.2.2.1 89 = fun j => if j = k then Int32.ofNat Q.1 else T1.2.2.1 89 j := by
    rw [hW]; show (wrI (wrI T1 89 k (Int32.ofNat Q.1)) 94 k (T1.1 240)).2.2.1 89 = _
    rw [wrIq _ _ _ (by decide), wrIe]
  have w94 : W.2.2.1 94 = fun j => if j = k then Q.2.1 else T1.2.2.1 94 j := by
    rw [hW]; show (wrI (wrI T1 89 k (Int32.ofNat Q.1)) 94 k (T1.1 240)).2.2.1 94 = _
    rw [wrIe, wrIq _ _ _ (by decide), a1]
  have wi : ∀ q, q ≠ 89 → q ≠ 94 → W.2.2.1 q = T1.2.2.1 q := fun q a b => by
    rw [hW]; show (wrI (wrI T1 89 k (Int32.ofNat Q.1)) 94 k (T1.1 240)).2.2.1 q = _
    rw [wrIq _ _ _ b, wrIq _ _ _ a]
  have w95 : W.2.2.2 95 = fun j => if j = k then Q.2.2 else T1.2.2.2 95 j := by
    rw [hW, wrLe, ← a2]; rfl
  have wl : ∀ q, q ≠ 95 → W.2.2.2 q = T1.2.2.2 q := fun q a => by rw [hW, wrLq _ _ _ a]; rfl
  rw [← hW]
  clear hW
  have x10 : W.2.2.1 89 k = Int32.ofNat Q.1 := by rw [w89]; exact if_pos rfl
  rw [x10]
  obtain ⟨F1a, F1b, F1c, F1d⟩ := F1
  obtain ⟨k90, k91, k92, k93⟩ := K1
  have q4 : Q.1 ≤ 4 := by
    rw [hQ]; unfold askR
    by_cases od : on < day
    · rw [if_pos od]; decide
    · rw [if_neg od]
      have : ∀ {c m : Nat} {r : Nat → OpE} {k : Nat}, ruA r c m = .inr k → k ≤ 2 := fun {c m r k} h => by
        unfold ruA at h
        cases hc : r c with
        | inl x => rw [hc, Sum.elim_inl] at h; cases h
        | inr x =>
          rw [hc, Sum.elim_inr] at h
          cases x with
          | true => rw [if_pos rfl] at h; rw [← Sum.inr.inj h]; decide
          | false =>
            rw [if_neg (by decide)] at h
            cases he : exQ r (c + 1) m with
            | inl y => rw [he, Sum.elim_inl] at h; cases h
            | inr y =>
              rw [he, Sum.elim_inr] at h
              by_cases z : m = 0
              · rw [if_pos z] at h; rw [← Sum.inr.inj h]; decide
              · rw [if_neg z] at h
                cases y with
                | true => rw [if_pos rfl] at h; rw [← Sum.inr.inj h]; decide
                | false => rw [if_neg (by decide)] at h; rw [← Sum.inr.inj h]; decide
      cases hr : ruA (fun c => clA S nf (D c)) c0 m with
      | inl x => show 3 ≤ 4; decide
      | inr x => have := this hr; show x ≤ 4; omega
  have g1 : (if Int32.ofNat Q.1 = 1 then some (1 : Int32) else some 0) = some (if Q.1 = 1 then 1 else 0) := by
    by_cases z : Q.1 = 1
    · rw [if_pos (show Int32.ofNat Q.1 = 1 by rw [z]; rfl), if_pos z]
    · rw [if_neg (show ¬ Int32.ofNat Q.1 = 1 from fun w => z ((i_inj (j := Q.1) (k := 1) (by omega) (by decide)).mp w)), if_neg z]
  rw [g1, Option.bind_some]
  have nk : ∀ {j : Nat} {A : Type} {x y : A}, j ≠ k → (if j = k then x else y) = y := fun h => if_neg h
  refine ⟨W, rfl, ⟨fun c a b => by rw [w1, F1a c a b, v1], fun c a b d => by rw [w2, F1b c a b d, v2], fun c a b => by rw [wi c a b, F1c, v3], fun c a b c1 c2 c3 c4 c5 => by rw [wl c c5, F1d c a b c1 c2 c3 c4, vq c c1 c2 c3 c4]⟩, fun j hj => ⟨?_, ?_, ?_, ?_, ?_, ?_, ?_⟩, x10, ?_, ?_, ?_, ?_, ?_, ?_⟩
  · rw [w89]; dsimp only; rw [nk hj, F1c, v3]
  · rw [w94]; dsimp only; rw [nk hj, F1c, v3]
  · rw [w95]; dsimp only; rw [nk hj, F1d 95 (by decide) (by decide) (by decide) (by decide) (by decide) (by decide), vq 95 (by decide) (by decide) (by decide) (by decide)]
  · rw [wl 90 (by decide), k90]; dsimp only; rw [nk hj, v90]; exact nk hj
  · rw [wl 91 (by decide), k91]; dsimp only; rw [nk hj, v91]; exact nk hj
  · rw [wl 92 (by decide), k92]; dsimp only; rw [nk hj, v92]; exact nk hj
  · rw [wl 93 (by decide), k93]; dsimp only; rw [nk hj, v93]; exact nk hj
  · rw [w94]; exact if_pos rfl
  · rw [w95]; exact if_pos rfl
  · rw [wl 90 (by decide), k90, v90]
    dsimp only
    rw [if_pos rfl, if_pos rfl]
    by_cases od : on < day
    · rw [if_pos od, if_pos od]
    · rw [if_neg od, if_neg od]; unfold kpL; cases evS S nf (D c0).1 [] <;> rfl
  · rw [wl 91 (by decide), k91, v91]
    dsimp only
    rw [if_pos rfl, if_pos rfl]
    by_cases od : on < day
    · rw [if_pos od, if_pos od]
    · rw [if_neg od, if_neg od]; unfold kpL; cases evS S nf (D c0).1 [] <;> rfl
  · rw [wl 92 (by decide), k92, v92]
    dsimp only
    rw [if_pos rfl, if_pos rfl]
    by_cases od : on < day
    · rw [if_pos od, if_pos od]
    · rw [if_neg od, if_neg od]; unfold kpQ; cases evS S nf (D c0).1 [] <;> cases evS S nf (D c0).2.1 [] <;> rfl
  · rw [wl 93 (by decide), k93, v93]
    dsimp only
    rw [if_pos rfl, if_pos rfl]
    by_cases od : on < day
    · rw [if_pos od, if_pos od]
    · rw [if_neg od, if_neg od]; unfold kpQ; cases evS S nf (D c0).1 [] <;> cases evS S nf (D c0).2.1 [] <;> rfl
end
