/-! the program: what is bound to a switch -/
def clp (x : Int32) : Int32 := if 0 < (if x < 100 then x else 100) then (if x < 100 then x else 100) else 0
def vO (t : TS) (j : Nat) : Nat → Int32
  | 0 => -2
  | k + 1 => if t.2.2.1 137 k - 1 = Int32.ofNat j then clp (t.2.2.1 131 k) else vO t j k
theorem c_outFor {s : CS} {own : Nat → Nat} {t : TS} {n : Nat} {B : Nat → Nat → Nat} {o : Value} {od nw : Int32} (r : R5x (rs s.1 own 5) t n B o od nw) (j : Nat) : c_1102 115 (Int32.ofNat j) s = some (vO t j n) := by
  obtain ⟨⟨p1, p2, ⟨mc, p3⟩, p4, p5, p6, p7, p8, p9⟩, f, i, b, q⟩ := r
  have h1 := (rs_in p1).1
  have h2 := (rs_in p3).1
  suffices h : Tr (c_1102 115 (Int32.ofNat j) s) (fun v => v = vO t j n) by
    obtain ⟨x, h1, h2⟩ := h
    rw [h1, h2]
  unfold c_1102
  refine Tr.bd (P := fun v => v = vO t j n) (wh_cnt n (fun k a => a = (vO t j k, Int32.ofNat k)) ?_ ?_ rfl) ?_
  · rintro k _ hk rfl
    have h3 := (rs_in (b k hk).1).1
    refine Or.inr ⟨_, ?_, rfl⟩
    dsimp only
    rw [xN_o h1 rfl rfl, Option.bind_some, if_pos (isK_t h2 rfl), alSize_r h2, Option.bind_some, if_pos ((i_lt (by omega) (by omega)).mpr hk), Option.bind_some, if_pos (isK_t h2 rfl), alGet_r h2 hk (by omega), Option.bind_some, toN_o h3 rfl, Option.bind_some, xI_o h3 rfl rfl, Option.bind_some, xI_o h3 rfl rfl, Option.bind_some, i_suc]
    unfold c_48 c_47
    simp only [iteS, Option.bind_some, vO, clp]
  · rintro _ rfl
    refine ⟨_, ?_, rfl⟩
    dsimp only
    rw [xN_o h1 rfl rfl, Option.bind_some, if_pos (isK_t h2 rfl), alSize_r h2, Option.bind_some, if_neg (by rw [i_lt (by omega) (by omega)]; omega)]
  · rintro _ rfl
    exact ⟨_, rfl, rfl⟩
