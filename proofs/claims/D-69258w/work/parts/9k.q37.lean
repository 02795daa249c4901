/-! permits: the next word, the component -/
section
variable {s S : CS} {x : List Nat} {rd rl : Nat}
/-- the reader -/
def rdCell (rl : Nat) (wd : Value) (at' nx wn dp : Int32) : lCell := (true, false, 68, [.ref 105, .ref rl, wd, .int at', .int nx, .int wn, .int dp])
def TxC (x : List Nat) (s : CS) : Prop := s.1 105 = some (true, false, 1035, txV x) ∧ x.length ≤ 800 ∧ ∀ c ∈ x, 32 ≤ c ∧ c ≤ 126
theorem sbC_x (X : TxC x s) : sbCt s 105 = some (txV x) := by
  unfold sbCt cc
  rw [X.1]; rfl
theorem txV_at {x : List Nat} {j : Nat} (h : j < x.length) : (txV x)[j]? = some (.int (Int32.ofNat x[j])) := by
  unfold txV
  rw [List.getElem?_map, List.getElem?_eq_getElem h]; rfl
theorem sbLen_x (X : TxC x s) : sbLen s 105 = some (Int32.ofNat x.length) := by
  unfold sbLen
  rw [sbC_x X, Option.bind_some, txV_len]
theorem sbAt_x (X : TxC x s) {j : Nat} (h : j < x.length) : sbAt s 105 (Int32.ofNat j) = some (Int32.ofNat x[j]) := by
  have := X.2.1
  unfold sbAt
  rw [sbC_x X, Option.bind_some, if_pos (i_nlt0 (by omega)), i_clamp (by omega), txV_at h]; rfl
theorem gdC (X : TxC x s) (i : Nat) : x.getD i 32 ≤ 126 := by
  by_cases h : i < x.length
  · rw [gdI h]; exact (X.2.2 _ (List.getElem_mem h)).2
  · rw [gdO (by omega)]; decide
theorem fit_c : ∀ c : Fin 127, fits .char (.int (Int32.ofNat c.val)) = true := by decide +kernel
theorem c_932g {wd : Value} {a' nx wn dp : Int32} (X : TxC x s) (h : s.1 rd = some (rdCell rl wd a' nx wn dp)) {i : Nat} (hi : i < 2000) : c_932 rd (Int32.ofNat i) s = some (Int32.ofNat (x.getD i 32)) := by
  have xl := X.2.1
  unfold c_932
  rw [xN_o h rfl rfl, Option.bind_some, if_pos (isK_t X.1 rfl), sbLen_x X, Option.bind_some]
  by_cases z : i < x.length
  · have c126 := gdC X i
    rw [gdI z] at c126 ⊢
    rw [if_pos ((i_lt (by omega) (by omega)).mpr z), Option.bind_some, if_pos (isK_t X.1 rfl), sbAt_x X z, Option.bind_some, if_pos (fit_c ⟨x[i], by omega⟩)]
  · rw [if_neg (fun w => z ((i_lt (by omega) (by omega)).mp w)), gdO (by omega)]; rfl
theorem c_933g {c : Nat} (hc : c < 1000) : c_933 (Int32.ofNat c) s = some (if dgB c = true then 1 else 0) := by
  unfold c_933 dgB
  have a : Int32.ofNat c < (48 : Int32) ↔ c < 48 := i_lt (k := 48) (by omega) (by decide)
  have b : (57 : Int32) < Int32.ofNat c ↔ 57 < c := i_lt (j := 57) (by decide) (by omega)
  by_cases h1 : c < 48
  · rw [if_pos (a.mpr h1), if_neg (fun w => by have := of_decide_eq_true w; omega)]
  · by_cases h2 : 57 < c
    · rw [if_neg (fun w => h1 (a.mp w)), if_pos (b.mpr h2), if_neg (fun w => by have := of_decide_eq_true w; omega)]
    · rw [if_neg (fun w => h1 (a.mp w)), if_neg (fun w => h2 (b.mp w)), if_pos (decide_eq_true (by omega))]
theorem c_934g {c : Nat} (hc : c < 1000) : c_934 (Int32.ofNat c) s = some (if ltB c = true then 1 else 0) := by
  unfold c_934 ltB
  have a : Int32.ofNat c < (97 : Int32) ↔ c < 97 := i_lt (k := 97) (by omega) (by decide)
  have b : (122 : Int32) < Int32.ofNat c ↔ 122 < c := i_lt (j := 122) (by decide) (by omega)
  by_cases h1 : c < 97
  · rw [if_pos (a.mpr h1), if_neg (fun w => by have := of_decide_eq_true w; omega)]
  · by_cases h2 : 122 < c
    · rw [if_neg (fun w => h1 (a.mp w)), if_pos (b.mpr h2), if_neg (fun w => by have := of_decide_eq_true w; omega)]
    · rw [if_neg (fun w => h1 (a.mp w)), if_neg (fun w => h2 (b.mp w)), if_pos (decide_eq_true (by omega))]
/-- a wrong word -/
def exWr (s : CS) (p : Int32) : CS := (lUpd s.1 s.2.1 (true, false, 69, [.ref s.2.1, .ref 17, .ref 18, .ref 80, .null, .int 0, .int p]), s.2.1 + 1, s.2.2.1 + 1, s.2.2.2 + 7)
theorem ex_69 (p : Int32) : (if isK (nw s 69 [.null, .null, .null, .null, .null, .int 0, .int 0]).2 [69] (nw s 69 [.null, .null, .null, .null, .null, .int 0, .int 0]).1 = true then Option.bind (c_945 (nw s 69 [.null, .null, .null, .null, .null, .int 0, .int 0]).1 p (nw s 69 [.null, .null, .null, .null, .null, .int 0, .int 0]).2) (fun x3 => (if isX x3 (nw s 69 [.null, .null, .null, .null, .null, .int 0, .int 0]).1 = true then (some (.inr ((nw s 69 [.null, .null, .null, .null, .null, .int 0, .int 0]).1, x3)) : Option (Sum (CS) (Nat × CS))) else none)) else none) = some (.inr (s.2.1, exWr s p)) := by
  simp [nw, nwc, c_945, c_68, c_67, xP, lUpd_at, lLook, cup, lUpdU, exWr, isK, kdo, isX, isF, fillT1, fillT2]
theorem c_chk {wd : Value} {a' nx wn dp : Int32} (hw : wfS s) (h : s.1 rd = some (rdCell rl wd a' nx wn dp)) (v : Int32) : c_935 rd v s = if v = 0 then some (.inr (s.2.1, exWr s a')) else some (.inl s) := by
  unfold c_935
  by_cases z : v = 0
  · rw [if_pos z, if_pos z, Option.bind_some]
    have lr := wf_lt hw h
    have e : (nw s 69 [.null, .null, .null, .null, .null, .int 0, .int 0]).2.1 rd = some (rdCell rl wd a' nx wn dp) := (nwc_ne (by omega)).trans h
    rw [xI_o e rfl rfl, Option.bind_some]
    exact ex_69 a'
  · rw [if_neg z, if_neg z]
/-- a wrong word was told: e; its place -/
def WrO (S : CS) (e : Nat) (p : Int32) : Prop := ∃ fs, S.1 e = some (true, false, 69, fs) ∧ fs[6]? = some (.int p)
theorem exWr_o (s : CS) (p : Int32) : WrO (exWr s p) s.2.1 p := ⟨_, if_pos rfl, rfl⟩
theorem exWr_v (hw : wfS s) (p : Int32) : VOk s (exWr s p) 1 := VOk_nw (S := s) hw (true, false, 69, [.ref s.2.1, .ref 17, .ref 18, .ref 80, .null, .int 0, .int p]) (j := 1) (k := 7) (by omega) (by omega)
/-- blanks -/
theorem c_skip {wd : Value} {a' wn dp : Int32} {p : Nat} (hw : wfS s) (X : TxC x s) (h : s.1 rd = some (rdCell rl wd a' (Int32.ofNat p) wn dp)) (hp : p ≤ x.length) : wh (S := CS) (X := CS) (fun p0 => Option.bind (xI p0 [(68, 4)] rd) (fun x1 => Option.bind (xN p0 [(68, 0)] rd) (fun a2 => (if isK p0 [35] a2 = true then Option.bind (sbLen p0 a2) (fun x3 => (if x1 < x3 then Option.bind (xN p0 [(68, 0)] rd) (fun a4 => Option.bind (xI p0 [(68, 4)] rd) (fun x5 => (if isK p0 [35] a4 = true then Option.bind (sbAt p0 a4 x5) (fun x6 => (if x6 = 32 then Option.bind (xI p0 [(68, 4)] rd) (fun x7 => Option.bind (xP p0 [(68, 4)] rd (.int (x7 + 1))) (fun s8 => some (.inl s8))) else some (.inr p0))) else none))) else some (.inr p0))) else none)))) s = some (cup s rd (rdCell rl wd a' (Int32.ofNat (skp x p)) wn dp)) := by
  have xl := X.2.1
  have sl := skp_le hp
  have r5 : (105 : Nat) ≠ rd := fun e => by
    have := X.1
    rw [e, h] at this
    unfold rdCell at this
    simp at this
  have X' : ∀ c, TxC x (cup s rd c) := fun c => ⟨(cup_ne r5).trans X.1, X.2⟩
  have st0 : cup s rd (rdCell rl wd a' (Int32.ofNat (p + 0)) wn dp) = s := cup_id h
  have key := wh_st (f := fun p0 => Option.bind (xI p0 [(68, 4)] rd) (fun x1 => Option.bind (xN p0 [(68, 0)] rd) (fun a2 => (if isK p0 [35] a2 = true then Option.bind (sbLen p0 a2) (fun x3 => (if x1 < x3 then Option.bind (xN p0 [(68, 0)] rd) (fun a4 => Option.bind (xI p0 [(68, 4)] rd) (fun x5 => (if isK p0 [35] a4 = true then Option.bind (sbAt p0 a4 x5) (fun x6 => (if x6 = 32 then Option.bind (xI p0 [(68, 4)] rd) (fun x7 => Option.bind (xP p0 [(68, 4)] rd (.int (x7 + 1))) (fun s8 => some (.inl s8))) else some (.inr p0))) else none))) else some (.inr p0))) else none)))) (n := skp x p - p) (x := cup s rd (rdCell rl wd a' (Int32.ofNat (skp x p)) wn dp)) (fun j => cup s rd (rdCell rl wd a' (Int32.ofNat (p + j)) wn dp)) ?_ ?_
  · rw [st0] at key
    exact key
  · intro j hj
    obtain ⟨h1, h2⟩ := skp_in (x := x) (p := p) (j := p + j) (by omega) (by omega)
    have hc := cup_eq s rd (rdCell rl wd a' (Int32.ofNat (p + j)) wn dp)
    have Xc := X' (rdCell rl wd a' (Int32.ofNat (p + j)) wn dp)
    rw [xI_o hc rfl rfl, Option.bind_some, xN_o hc rfl rfl, Option.bind_some, if_pos (isK_t Xc.1 rfl), sbLen_x Xc, Option.bind_some, if_pos ((i_lt (by omega) (by omega)).mpr h1), Option.bind_some, Option.bind_some, if_pos (isK_t Xc.1 rfl), sbAt_x Xc h1, Option.bind_some, h2, if_pos (show Int32.ofNat 32 = 32 from rfl), Option.bind_some, xP_c hc rfl (by show 4 < 7; decide) (show List.set _ 4 _ = [.ref 105, .ref rl, wd, .int a', .int (Int32.ofNat (p + j) + 1), .int wn, .int dp] from rfl), Option.bind_some, cupU, i_suc]
    rfl
  · rw [show p + (skp x p - p) = skp x p by omega]
    have hc := cup_eq s rd (rdCell rl wd a' (Int32.ofNat (skp x p)) wn dp)
    have Xc := X' (rdCell rl wd a' (Int32.ofNat (skp x p)) wn dp)
    rw [xI_o hc rfl rfl, Option.bind_some, xN_o hc rfl rfl, Option.bind_some, if_pos (isK_t Xc.1 rfl), sbLen_x Xc, Option.bind_some]
    by_cases z : skp x p < x.length
    · have ne := skp_out hp z
      have := X.2.2 _ (List.getElem_mem z)
      rw [if_pos ((i_lt (by omega) (by omega)).mpr z), Option.bind_some, Option.bind_some, if_pos (isK_t Xc.1 rfl), sbAt_x Xc z, Option.bind_some, if_neg (fun w => ne ((i_inj (j := x[skp x p]) (k := 32) (by omega) (by decide)).mp w))]
    · rw [if_neg (fun w => z ((i_lt (by omega) (by omega)).mp w))]
end
