/-! the warden: the reader's want, peek, take -/
def wwC (s : CS) (n : Int32) : CS := (lUpd s.1 s.2.1 (true, false, 88, [.ref s.2.1, .ref 17, .ref 18, .ref 92, .null, .int 0, .int n]), s.2.1 + 1, s.2.2.1 + 1, s.2.2.2 + 7)
section
variable {s : CS} {r sz wc w : Nat} {f : Nat → Int32} {bg en : Nat → Nat}
theorem c_ww (hw : wfS s) (hr : s.1 r = some (rdW bg en sz wc w)) : c_1016 r 0 s = some (.inr (s.2.1, wwC s (Int32.ofNat w))) := by
  have lr := wf_lt hw hr
  have e : xI (nw s 88 [.null, .null, .null, .null, .null, .int 0, .int 0]).2 [(87, 3)] r = some (Int32.ofNat w) := xI_o (x := Int32.ofNat w) ((nwc_ne (by omega)).trans hr) rfl rfl
  unfold c_1016
  rw [if_pos rfl, Option.bind_some, e, Option.bind_some]
  simp [nw, nwc, c_1019, c_68, c_67, xP, lUpd_at, lLook, cup, lUpdU, wwC, isK, kdo, isX, isF, fillT1, fillT2]
theorem c_wok {b : Int32} (hb : b ≠ 0) : c_1016 r b s = some (.inl s) := by
  unfold c_1016
  rw [if_neg hb]
variable {T : TS}
theorem c_peek (hw : wfS s) (h : TWd T sz wc w bg en) (h2 : s.1 153 = some (true, false, 1035, rowC (fun i => .int (T.2.2.1 102 i)) sz)) (hr : s.1 r = some (rdW bg en sz wc w)) (a b : Int32) : by classical exact (c_1015 r a b s = some (if inN T bg en wc w a b then .inl (nuW T bg en w, s) else .inr (s.2.1, wwC s (Int32.ofNat w)))) := by
  classical
  obtain ⟨t1, t2, t3, t4, t5, t6, t7, t8⟩ := h
  unfold c_1015
  rw [if_pos (isK_t hr rfl), c_over h2 t5 t8 t3 hr, Option.bind_some]
  have e21 : (if (if w < wc then (0 : Int32) else 1) = 0 then Option.bind (xN s [(87, 0)] r) (fun a2 => Option.bind (xI s [(87, 2)] r) (fun x3 => (if isK s [35] a2 = true then Option.bind (sbAt s a2 x3) (fun x4 => Option.bind (c_1011 x4 s) (fun x5 => (if x5 = 0 then some (0 : Int32) else Option.bind (xI s [(87, 1)] r) (fun x6 => Option.bind (xI s [(87, 2)] r) (fun x7 => (if 6 < (x6 - x7) then some 0 else some 1)))))) else none))) else some 0) = some (if isN T bg en wc w then 1 else 0) := by
    by_cases y : w < wc
    · obtain ⟨a1, a2, a3, _⟩ := t8.1 w y
      have h6 : (6 : Int32) < Int32.ofNat (en w - bg w) ↔ 6 < en w - bg w := i_lt (j := 6) (by omega) (by omega)
      rw [if_pos y, if_pos rfl, xN_o (b := 153) hr rfl rfl, Option.bind_some, xI_o (x := Int32.ofNat (if w < wc then bg w else sz)) hr rfl rfl, Option.bind_some, if_pos (isK_t h2 rfl), if_pos y, sbAt_r h2 (by omega) (by omega), Option.bind_some, c_dig, Option.bind_some]
      by_cases z : csO (T.2.2.1 102 (bg w)) = 2
      · rw [if_pos z, if_neg (show ¬ (1 : Int32) = 0 by decide), xI_o (x := Int32.ofNat (if w < wc then en w else sz)) hr rfl rfl, Option.bind_some, Option.bind_some, if_pos y, i_sub (by omega)]
        by_cases x : 6 < en w - bg w
        · rw [if_pos (h6.mpr x), if_neg (show ¬ isN T bg en wc w from fun k => by have := k.2.2; omega)]
        · rw [if_neg (fun k => x (h6.mp k)), if_pos (show isN T bg en wc w from ⟨y, z, by omega⟩)]
      · rw [if_neg z, if_pos rfl, if_neg (show ¬ isN T bg en wc w from fun k => z k.2.1)]
    · rw [if_neg y, if_neg (show ¬ (1 : Int32) = 0 by decide), if_neg (show ¬ isN T bg en wc w from fun k => y k.1)]
  rw [e21, Option.bind_some, if_pos (isK_t hr rfl)]
  by_cases y : isN T bg en wc w
  · obtain ⟨y1, y2, y3⟩ := y
    obtain ⟨a1, a2, a3, _⟩ := t8.1 w y1
    have y : isN T bg en wc w := ⟨y1, y2, y3⟩
    rw [if_pos y, c_wok (by decide), Option.bind_some, Sum.elim_inl, xI_o (x := Int32.ofNat (if w < wc then bg w else sz)) hr rfl rfl, Option.bind_some, if_pos y1]
    have key : Tr (wh (S := Int32 × Int32) (X := Int32) (fun p27 => Option.bind (xI s [(87, 1)] r) (fun x11 => (if p27.2 < x11 then Option.bind (xN s [(87, 0)] r) (fun a12 => (if isK s [35] a12 = true then Option.bind (sbAt s a12 p27.2) (fun x13 => some (.inl (((10 * p27.1) + x13) - 48, p27.2 + 1))) else none)) else some (.inr p27.1)))) (0, Int32.ofNat (bg w))) (fun v => v = nuW T bg en w) := by
      refine wh_cnt (en w - bg w) (fun k a => a = (dgs (T.2.2.1 102) (bg w) k, Int32.ofNat (bg w + k))) ?_ ?_ rfl
      · rintro k _ hk rfl
        refine Or.inr ⟨_, ?_, rfl⟩
        dsimp only
        rw [xI_o (x := Int32.ofNat (if w < wc then en w else sz)) hr rfl rfl, Option.bind_some, if_pos y1, if_pos ((i_lt (by omega) (by omega)).mpr (by omega)), xN_o (b := 153) hr rfl rfl, Option.bind_some, if_pos (isK_t h2 rfl), sbAt_r h2 (by omega) (by omega), Option.bind_some, i_suc]; rfl
      · rintro _ rfl
        refine ⟨_, ?_, rfl⟩
        dsimp only
        rw [xI_o (x := Int32.ofNat (if w < wc then en w else sz)) hr rfl rfl, Option.bind_some, if_pos y1, if_neg (by rw [i_lt (by omega) (by omega)]; omega)]; rfl
    obtain ⟨v, k1, rfl⟩ := key
    rw [k1, Option.bind_some]
    by_cases z1 : nuW T bg en w < a
    · rw [if_pos z1, Option.bind_some, if_pos (isK_t hr rfl), c_ww hw hr, if_neg (show ¬ inN T bg en wc w a b from fun k => k.2.1 z1)]; rfl
    · rw [if_neg z1]
      by_cases z2 : b < nuW T bg en w
      · rw [if_pos z2, Option.bind_some, if_pos (isK_t hr rfl), c_ww hw hr, if_neg (show ¬ inN T bg en wc w a b from fun k => k.2.2 z2)]; rfl
      · rw [if_neg z2, Option.bind_some, if_pos (isK_t hr rfl), c_wok (by decide), if_pos (show inN T bg en wc w a b from ⟨y, z1, z2⟩)]; rfl
  · rw [if_neg y, c_ww hw hr, if_neg (show ¬ inN T bg en wc w a b from fun k => y k.1)]; rfl
end
