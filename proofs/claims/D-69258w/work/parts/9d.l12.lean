/-! the lifts: rows in their order (plain) -/
def lexP : Nat → List Nat → List (List Nat)
  | 0, _ => [[]]
  | n + 1, L => L.flatMap (fun x => (lexP n (L.erase x)).map (fun p => x :: p))
def Dsc (r : List Nat) : Prop := r.Pairwise (fun a b => b < a)
/-- the next row in the order -/
def Nx : List Nat → List Nat → Prop
  | x :: r, y :: q => (x = y ∧ Nx r q) ∨ (∃ d1 d2, r = d1 ++ y :: d2 ∧ q = (d1 ++ x :: d2).reverse ∧ x < y ∧ Dsc r ∧ ∀ z ∈ d2, z < x)
  | _, _ => False
theorem dsc_no : ∀ {r q : List Nat}, Dsc r → ¬ Nx r q
  | [], _, _, h => by unfold Nx at h; exact h
  | _ :: _, [], _, h => by unfold Nx at h; exact h
  | x :: r, y :: q, hd, h => by
    unfold Nx at h
    unfold Dsc at hd
    rw [List.pairwise_cons] at hd
    rcases h with ⟨_, h⟩ | ⟨d1, d2, rfl, _, h, _, _⟩
    · exact dsc_no hd.2 h
    · have := hd.1 y (by simp); omega
theorem nx_det : ∀ {p q q' : List Nat}, Nx p q → Nx p q' → q = q'
  | [], _, _, h, _ => by unfold Nx at h; exact h.elim
  | _ :: _, [], _, h, _ => by unfold Nx at h; exact h.elim
  | _ :: _, _ :: _, [], _, h => by unfold Nx at h; exact h.elim
  | x :: r, y :: q, y' :: q', h, h' => by
    unfold Nx at h h'
    rcases h with ⟨rfl, h⟩ | ⟨d1, d2, hr, rfl, hy, hd, h2⟩
    · rcases h' with ⟨rfl, h'⟩ | ⟨_, _, _, _, _, hd, _⟩
      · rw [nx_det h h']
      · exact absurd h (dsc_no hd)
    · rcases h' with ⟨rfl, h'⟩ | ⟨e1, e2, hr', rfl, hy', hd', h2'⟩
      · exact absurd h' (dsc_no hd)
      · have e := hr.symm.trans hr'
        rw [List.append_eq_append_iff] at e
        rcases e with ⟨a, e3, e4⟩ | ⟨a, e3, e4⟩
        · cases a with
          | nil =>
            simp only [List.append_nil, List.nil_append, List.cons.injEq] at e3 e4
            rw [e3, e4.1, e4.2]
          | cons z a =>
            simp only [List.cons_append, List.cons.injEq] at e4
            have := h2 y' (by rw [e4.2]; simp)
            omega
        · cases a with
          | nil =>
            simp only [List.append_nil, List.nil_append, List.cons.injEq] at e3 e4
            rw [e3, e4.1, e4.2]
          | cons z a =>
            simp only [List.cons_append, List.cons.injEq] at e4
            have := h2' y (by rw [e4.2]; simp)
            omega
/-- neighbours of a list -/
def Chn : List (List Nat) → Prop
  | a :: b :: l => Nx a b ∧ Chn (b :: l)
  | _ => True
theorem chn_app : ∀ {l m : List (List Nat)}, Chn l → Chn m → (∀ a b, l.getLast? = some a → m.head? = some b → Nx a b) → Chn (l ++ m)
  | [], _, _, h, _ => h
  | [a], [], _, _, _ => trivial
  | [a], b :: m, _, h, k => ⟨k a b rfl rfl, h⟩
  | a :: b :: l, m, h1, h2, k => ⟨h1.1, chn_app h1.2 h2 (fun x y hx hy => k x y (by rw [List.getLast?_cons_cons]; exact hx) hy)⟩
theorem nx_cons {x : Nat} {p q : List Nat} (h : Nx p q) : Nx (x :: p) (x :: q) := by
  unfold Nx; exact Or.inl ⟨rfl, h⟩
theorem chn_map {x : Nat} : ∀ {l : List (List Nat)}, Chn l → Chn (l.map (fun p => x :: p))
  | [], _ => trivial
  | [_], _ => trivial
  | _ :: _ :: _, h => ⟨nx_cons h.1, chn_map h.2⟩
theorem lexP_ok (n : Nat) : ∀ L : List Nat, L.length = n → L.Pairwise (· < ·) → (lexP n L).head? = some L ∧ (lexP n L).getLast? = some L.reverse ∧ Chn (lexP n L) := by
  induction n with
  | zero =>
    intro L h _
    rw [List.length_eq_zero_iff.mp h]
    exact ⟨rfl, rfl, trivial⟩
  | succ n ih =>
    intro L hl hp
    have key : ∀ suf pre, L = pre ++ suf → suf ≠ [] → (suf.flatMap (fun x => (lexP n (L.erase x)).map (fun p => x :: p))).head? = suf.head?.map (fun x => x :: L.erase x) ∧ (suf.flatMap (fun x => (lexP n (L.erase x)).map (fun p => x :: p))).getLast? = some L.reverse ∧ Chn (suf.flatMap (fun x => (lexP n (L.erase x)).map (fun p => x :: p))) := by
      intro suf
      induction suf with
      | nil => intro _ _ h; exact absurd rfl h
      | cons x suf ih2 =>
        intro pre hL _
        have hnd : L.Pairwise (fun a b => a ≠ b) := hp.imp (fun h => Nat.ne_of_lt h)
        have hx : x ∉ pre := by
          intro hx
          rw [hL, List.pairwise_append] at hnd
          exact hnd.2.2 x hx x (by simp) rfl
        have he : L.erase x = pre ++ suf := by
          rw [hL, List.erase_append_right _ hx, List.erase_cons_head]
        have hlen : (L.erase x).length = n := by
          rw [he, List.length_append]
          rw [hL, List.length_append, List.length_cons] at hl
          omega
        have hp' : (L.erase x).Pairwise (· < ·) := hp.sublist List.erase_sublist
        obtain ⟨i1, i2, i3⟩ := ih _ hlen hp'
        have g1 : ((lexP n (L.erase x)).map (fun p => x :: p)).head? = some (x :: L.erase x) := by rw [List.head?_map, i1]; rfl
        have g2 : ((lexP n (L.erase x)).map (fun p => x :: p)).getLast? = some (x :: (L.erase x).reverse) := by rw [List.getLast?_map, i2]; rfl
        have g3 := chn_map (x := x) i3
        rw [List.flatMap_cons]
        cases suf with
        | nil =>
          rw [List.flatMap_nil, List.append_nil]
          refine ⟨g1, ?_, g3⟩
          rw [g2, he, hL]
          simp
        | cons y suf =>
          obtain ⟨k1, k2, k3⟩ := ih2 (pre ++ [x]) (by rw [hL]; simp) (by simp)
          refine ⟨?_, ?_, chn_app g3 k3 ?_⟩
          · rw [List.head?_append, g1]; rfl
          · rw [List.getLast?_append, k2]; rfl
          · intro a b ha hb
            rw [g2] at ha
            rw [k1] at hb
            obtain rfl := Option.some.inj ha
            obtain rfl := Option.some.inj hb
            have hpre : ∀ z ∈ pre, z < x := by
              intro z hz
              rw [hL, List.pairwise_append] at hp
              exact hp.2.2 z hz x (by simp)
            have hxy : x < y := by
              rw [hL, List.pairwise_append] at hp
              have := hp.2.1
              rw [List.pairwise_cons] at this
              exact this.1 y (by simp)
            have hy : y ∉ pre ++ [x] := by
              intro hy
              rcases List.mem_append.mp hy with hy | hy
              · have := hpre y hy; omega
              · have := List.mem_singleton.mp hy; omega
            have he2 : L.erase y = pre ++ x :: suf := by
              have : L = (pre ++ [x]) ++ y :: suf := by rw [hL]; simp
              rw [this, List.erase_append_right _ hy, List.erase_cons_head]; simp
            show Nx (x :: (L.erase x).reverse) (y :: L.erase y)
            rw [he, he2]
            unfold Nx
            refine Or.inr ⟨suf.reverse, pre.reverse, by simp, by simp, hxy, ?_, fun z hz => hpre z (List.mem_reverse.mp hz)⟩
            unfold Dsc
            rw [List.pairwise_reverse, ← he]
            exact hp'
    cases hc : L with
    | nil => rw [hc] at hl; simp at hl
    | cons x r =>
      have := key L [] rfl (by rw [hc]; simp)
      rw [show lexP (n + 1) (x :: r) = L.flatMap (fun x => (lexP n (L.erase x)).map (fun p => x :: p)) by rw [hc]; rfl]
      refine ⟨?_, by rw [← hc]; exact this.2.1, this.2.2⟩
      rw [this.1, hc]
      simp
theorem lexP_mem (n : Nat) : ∀ L : List Nat, L.length = n → L.Pairwise (· < ·) → ∀ p ∈ lexP n L, p.length = n ∧ ∀ y, y ∈ p ↔ y ∈ L := by
  induction n with
  | zero =>
    intro L h _ p hp
    rw [List.length_eq_zero_iff.mp h]
    unfold lexP at hp
    rw [List.mem_singleton.mp hp]
    exact ⟨rfl, fun _ => Iff.rfl⟩
  | succ n ih =>
    intro L hl hp p hm
    unfold lexP at hm
    obtain ⟨x, hx, h⟩ := List.mem_flatMap.mp hm
    obtain ⟨q, hq, rfl⟩ := List.mem_map.mp h
    obtain ⟨i1, i2⟩ := ih (L.erase x) (by rw [List.length_erase_of_mem hx, hl]; rfl) (hp.sublist List.erase_sublist) q hq
    refine ⟨by rw [List.length_cons, i1], fun y => ?_⟩
    rw [List.mem_cons, i2]
    have hnd : L.Nodup := hp.imp (fun h => Nat.ne_of_lt h)
    rw [hnd.mem_erase_iff]
    constructor
    · rintro (rfl | h)
      · exact hx
      · exact h.2
    · intro h
      by_cases e : y = x
      · exact Or.inl e
      · exact Or.inr ⟨e, h⟩
/-! costs -/
abbrev Cw : Type := (Nat → Nat → Nat → Nat) × (Nat → Nat → Nat → Nat) × (Nat → Nat)
def rwc (w : Cw) : Nat → Nat → List Nat → Nat
  | _, _, [] => 0
  | sec, a, c :: r => w.1 sec a c + rwc w (w.2.1 sec a c) (w.2.2 c) r
def gro (w : Cw) (pre : List Nat) (pc sec a : Nat) (L : List Nat) (b : Nat × List Nat) : Nat × List Nat :=
  (lexP L.length L).foldl (fun b p => if pc + rwc w sec a p < b.1 then (pc + rwc w sec a p, pre ++ p) else b) b
theorem gro_nil (w : Cw) (pre : List Nat) (pc sec a : Nat) (b : Nat × List Nat) : gro w pre pc sec a [] b = if pc < b.1 then (pc, pre) else b := by
  show (if pc + rwc w sec a [] < b.1 then (pc + rwc w sec a [], pre ++ []) else b) = _
  simp [rwc]
theorem gro_cons (w : Cw) (pre : List Nat) (pc sec a : Nat) {L : List Nat} (h : L ≠ []) (b : Nat × List Nat) : gro w pre pc sec a L b = L.foldl (fun b x => gro w (pre ++ [x]) (pc + w.1 sec a x) (w.2.1 sec a x) (w.2.2 x) (L.erase x) b) b := by
  unfold gro
  obtain ⟨n, hn⟩ : ∃ n, L.length = n + 1 := by
    cases L with
    | nil => exact absurd rfl h
    | cons x r => exact ⟨r.length, rfl⟩
  have hE : ∀ x ∈ L, (L.erase x).length = n := fun x hx => by rw [List.length_erase_of_mem hx, hn]; rfl
  rw [hn]
  show List.foldl _ b (L.flatMap _) = _
  generalize hM : L = M at hE ⊢
  rw [← hM] at hE ⊢
  have : ∀ (K : List Nat) (b : Nat × List Nat), (∀ x ∈ K, x ∈ L) → List.foldl (fun b p => if pc + rwc w sec a p < b.1 then (pc + rwc w sec a p, pre ++ p) else b) b (K.flatMap (fun x => (lexP n (L.erase x)).map (fun p => x :: p))) = K.foldl (fun b x => List.foldl (fun b p => if pc + w.1 sec a x + rwc w (w.2.1 sec a x) (w.2.2 x) p < b.1 then (pc + w.1 sec a x + rwc w (w.2.1 sec a x) (w.2.2 x) p, (pre ++ [x]) ++ p) else b) b (lexP (L.erase x).length (L.erase x))) b := by
    intro K
    induction K with
    | nil => intro b _; rfl
    | cons x K ih =>
      intro b hK
      rw [List.flatMap_cons, List.foldl_append, List.foldl_cons, ih _ (fun y hy => hK y (List.mem_cons_of_mem _ hy)), List.foldl_map, hE x (hK x (by simp))]
      congr 1
      congr 1
      funext b p
      have e : pc + rwc w sec a (x :: p) = pc + w.1 sec a x + rwc w (w.2.1 sec a x) (w.2.2 x) p := by simp only [rwc]; omega
      rw [e, List.append_assoc]; rfl
  exact this L b (fun _ h => h)
theorem gro_prune (w : Cw) (pre : List Nat) (pc sec a : Nat) (L : List Nat) {b : Nat × List Nat} (h : b.1 ≤ pc) : gro w pre pc sec a L b = b := by
  unfold gro
  generalize lexP L.length L = K
  induction K with
  | nil => rfl
  | cons p K ih =>
    rw [List.foldl_cons, if_neg (by omega)]
    exact ih
theorem gro_len (w : Cw) (pre : List Nat) (pc sec a : Nat) {L : List Nat} (hp : L.Pairwise (· < ·)) (b : Nat × List Nat) : gro w pre pc sec a L b = b ∨ (gro w pre pc sec a L b).2.length = pre.length + L.length ∧ ∀ x ∈ (gro w pre pc sec a L b).2, x ∈ pre ∨ x ∈ L := by
  unfold gro
  have hm := lexP_mem L.length L rfl hp
  generalize lexP L.length L = K at hm
  induction K generalizing b with
  | nil => exact Or.inl rfl
  | cons p K ih =>
    rw [List.foldl_cons]
    have hp := hm p (by simp)
    have ih := fun b => ih b (fun q hq => hm q (List.mem_cons_of_mem _ hq))
    by_cases h : pc + rwc w sec a p < b.1
    · rw [if_pos h]
      rcases ih (pc + rwc w sec a p, pre ++ p) with z | z
      · rw [z]
        refine Or.inr ⟨by rw [List.length_append, hp.1], fun x hx => ?_⟩
        rcases List.mem_append.mp hx with hx | hx
        · exact Or.inl hx
        · exact Or.inr ((hp.2 x).mp hx)
      · exact Or.inr z
    · rw [if_neg h]; exact ih b
/-- the best row of a set whose begun place, if it is there, is first -/
def bsr (w : Cw) (be : Nat → Bool) (sec a : Nat) (L : List Nat) (b : Nat × List Nat) : Nat × List Nat :=
  (lexP L.length L).foldl (fun b p => if p.tail.all (fun x => !be x) = true ∧ rwc w sec a p < b.1 then (rwc w sec a p, p) else b) b
theorem bsr_nil (w : Cw) (be : Nat → Bool) (sec a : Nat) (b : Nat × List Nat) : bsr w be sec a [] b = if 0 < b.1 then (0, []) else b := by
  show (if ([] : List Nat).tail.all (fun x => !be x) = true ∧ rwc w sec a [] < b.1 then (rwc w sec a [], []) else b) = _
  simp [rwc]
theorem bsr_cons (w : Cw) (be : Nat → Bool) (sec a : Nat) {L : List Nat} (h : L ≠ []) (hp : L.Pairwise (· < ·)) (hu : ∀ x ∈ L, ∀ y ∈ L, be x = true → be y = true → x = y) (b : Nat × List Nat) : bsr w be sec a L b = L.foldl (fun b x => if L.any be = true ∧ be x = false then b else gro w [x] (w.1 sec a x) (w.2.1 sec a x) (w.2.2 x) (L.erase x) b) b := by
  unfold bsr
  obtain ⟨n, hn⟩ : ∃ n, L.length = n + 1 := by
    cases L with
    | nil => exact absurd rfl h
    | cons x r => exact ⟨r.length, rfl⟩
  have hE : ∀ x ∈ L, (L.erase x).length = n := fun x hx => by rw [List.length_erase_of_mem hx, hn]; rfl
  rw [hn]
  show List.foldl _ b (L.flatMap _) = _
  have : ∀ (K : List Nat) (b : Nat × List Nat), (∀ x ∈ K, x ∈ L) → List.foldl (fun b p => if p.tail.all (fun x => !be x) = true ∧ rwc w sec a p < b.1 then (rwc w sec a p, p) else b) b (K.flatMap (fun x => (lexP n (L.erase x)).map (fun p => x :: p))) = K.foldl (fun b x => if L.any be = true ∧ be x = false then b else gro w [x] (w.1 sec a x) (w.2.1 sec a x) (w.2.2 x) (L.erase x) b) b := by
    intro K
    induction K with
    | nil => intro b _; rfl
    | cons x K ih =>
      intro b hK
      have hx := hK x (by simp)
      rw [List.flatMap_cons, List.foldl_append, List.foldl_cons, ih _ (fun y hy => hK y (List.mem_cons_of_mem _ hy)), List.foldl_map]
      congr 1
      have hm := lexP_mem n (L.erase x) (hE x hx) (hp.sublist List.erase_sublist)
      have hnd : L.Nodup := hp.imp (fun h => Nat.ne_of_lt h)
      by_cases c : L.any be = true ∧ be x = false
      · rw [if_pos c]
        obtain ⟨y, hy, hby⟩ := List.any_eq_true.mp c.1
        have hyx : y ≠ x := fun e => by rw [e, c.2] at hby; cases hby
        have : ∀ p ∈ lexP n (L.erase x), p.all (fun x => !be x) = false := by
          intro p hp
          rw [Bool.eq_false_iff]
          intro z
          have := List.all_eq_true.mp z y (((hm p hp).2 y).mpr (hnd.mem_erase_iff.mpr ⟨hyx, hy⟩))
          rw [hby] at this; cases this
        generalize lexP n (L.erase x) = M at this
        induction M with
        | nil => rfl
        | cons p M ihM =>
          rw [List.foldl_cons, if_neg (by
            rw [List.tail_cons, this p (by simp)]
            simp)]
          exact ihM (fun q hq => this q (List.mem_cons_of_mem _ hq))
      · rw [if_neg c]
        have : ∀ p ∈ lexP n (L.erase x), p.all (fun x => !be x) = true := by
          intro p hp
          rw [List.all_eq_true]
          intro y hy
          have hyL := hnd.mem_erase_iff.mp (((hm p hp).2 y).mp hy)
          cases hb : be y with
          | false => rfl
          | true =>
            refine absurd ⟨List.any_eq_true.mpr ⟨y, hyL.2, hb⟩, ?_⟩ c
            cases hbx : be x with
            | false => rfl
            | true => exact absurd (hu y hyL.2 x hx hb hbx) hyL.1
        unfold gro
        rw [hE x hx]
        generalize lexP n (L.erase x) = M at this
        induction M generalizing b with
        | nil => rfl
        | cons p M ihM =>
          rw [List.foldl_cons, List.foldl_cons]
          have e1 : (if (x :: p).tail.all (fun x => !be x) = true ∧ rwc w sec a (x :: p) < b.1 then (rwc w sec a (x :: p), x :: p) else b) = (if w.1 sec a x + rwc w (w.2.1 sec a x) (w.2.2 x) p < b.1 then (w.1 sec a x + rwc w (w.2.1 sec a x) (w.2.2 x) p, [x] ++ p) else b) := by
            rw [List.tail_cons, this p (by simp)]
            simp only [true_and, rwc, List.cons_append, List.nil_append]
          rw [e1]
          exact ihM _ (fun q hq => this q (List.mem_cons_of_mem _ hq))
  exact this L b (fun _ h => h)
/-- with no bound ahead there is a best row -/
theorem bsr_some (w : Cw) (be : Nat → Bool) (sec a : Nat) {L : List Nat} (hp : L.Pairwise (· < ·)) (hu : ∀ x ∈ L, ∀ y ∈ L, be x = true → be y = true → x = y) {N B : Nat} (hc : ∀ p : List Nat, p.length = L.length → (∀ x ∈ p, x ∈ L) → rwc w sec a p ≤ B) (hN : B < N) : (bsr w be sec a L (N, [])).1 ≤ B ∧ (bsr w be sec a L (N, [])).2.length = L.length ∧ ∀ x ∈ (bsr w be sec a L (N, [])).2, x ∈ L := by
  have hm := lexP_mem L.length L rfl hp
  have hex : ∃ p ∈ lexP L.length L, p.tail.all (fun x => !be x) = true := by
    cases L with
    | nil => exact ⟨[], by simp [lexP], rfl⟩
    | cons x0 L0 =>
      generalize hL : x0 :: L0 = L at *
      by_cases hb : L.any be = true
      · obtain ⟨y, hy, hby⟩ := List.any_eq_true.mp hb
        have hn : L.length = L0.length + 1 := by rw [← hL]; rfl
        have hE : (L.erase y).length = L0.length := by rw [List.length_erase_of_mem hy, hn]; rfl
        have hh := (lexP_ok L0.length (L.erase y) hE (hp.sublist List.erase_sublist)).1
        refine ⟨y :: L.erase y, ?_, ?_⟩
        · rw [hn]
          show _ ∈ L.flatMap _
          exact List.mem_flatMap.mpr ⟨y, hy, List.mem_map.mpr ⟨_, List.mem_of_mem_head? hh, rfl⟩⟩
        · rw [List.tail_cons, List.all_eq_true]
          intro z hz
          have hnd : L.Nodup := hp.imp (fun h => Nat.ne_of_lt h)
          have hz := hnd.mem_erase_iff.mp hz
          cases hbz : be z with
          | false => rfl
          | true => exact absurd (hu z hz.2 y hy hbz hby) hz.1
      · refine ⟨L, List.mem_of_mem_head? (lexP_ok L.length L rfl hp).1, ?_⟩
        rw [List.all_eq_true]
        intro z hz
        cases hbz : be z with
        | false => rfl
        | true => exact absurd (List.any_eq_true.mpr ⟨z, List.mem_of_mem_tail hz, hbz⟩) hb
  unfold bsr
  have inv : ∀ (K : List (List Nat)) (b : Nat × List Nat), (∀ p ∈ K, p.length = L.length ∧ ∀ y, y ∈ p ↔ y ∈ L) → ((b.1 ≤ B ∧ b.2.length = L.length ∧ ∀ x ∈ b.2, x ∈ L) ∨ (B < b.1 ∧ ∃ p ∈ K, p.tail.all (fun x => !be x) = true)) → ((K.foldl (fun b p => if p.tail.all (fun x => !be x) = true ∧ rwc w sec a p < b.1 then (rwc w sec a p, p) else b) b).1 ≤ B ∧ (K.foldl (fun b p => if p.tail.all (fun x => !be x) = true ∧ rwc w sec a p < b.1 then (rwc w sec a p, p) else b) b).2.length = L.length ∧ ∀ x ∈ (K.foldl (fun b p => if p.tail.all (fun x => !be x) = true ∧ rwc w sec a p < b.1 then (rwc w sec a p, p) else b) b).2, x ∈ L) := by
    intro K
    induction K with
    | nil =>
      rintro b _ (h | ⟨_, p, hp, _⟩)
      · exact h
      · cases hp
    | cons p K ih =>
      intro b hK h
      have hpp := hK p (by simp)
      rw [List.foldl_cons]
      by_cases c : p.tail.all (fun x => !be x) = true ∧ rwc w sec a p < b.1
      · rw [if_pos c]
        exact ih _ (fun q hq => hK q (List.mem_cons_of_mem _ hq)) (Or.inl ⟨hc p hpp.1 (fun x hx => (hpp.2 x).mp hx), hpp.1, fun x hx => (hpp.2 x).mp hx⟩)
      · rw [if_neg c]
        refine ih _ (fun q hq => hK q (List.mem_cons_of_mem _ hq)) ?_
        rcases h with h | ⟨h1, q, hq, h2⟩
        · exact Or.inl h
        · rcases List.mem_cons.mp hq with rfl | hq
          · exact absurd ⟨h2, Nat.lt_of_le_of_lt (hc q hpp.1 (fun x hx => (hpp.2 x).mp hx)) h1⟩ c
          · exact Or.inr ⟨h1, q, hq, h2⟩
  exact inv _ _ hm (Or.inr ⟨hN, hex⟩)
