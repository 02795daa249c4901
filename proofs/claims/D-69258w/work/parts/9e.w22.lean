/-! the warden: want, look -/
def dgs (f : Nat → Int32) (b : Nat) : Nat → Int32
  | 0 => 0
  | n + 1 => 10 * dgs f b n + f (b + n) - 48
def nuW (T : TS) (bg en : Nat → Nat) (w : Nat) : Int32 := dgs (T.2.2.1 102) (bg w) (en w - bg w)
def isN (T : TS) (bg en : Nat → Nat) (wc w : Nat) : Prop := w < wc ∧ csO (T.2.2.1 102 (bg w)) = 2 ∧ en w - bg w ≤ 6
def inN (T : TS) (bg en : Nat → Nat) (wc w : Nat) (a b : Int32) : Prop := isN T bg en wc w ∧ ¬ nuW T bg en w < a ∧ ¬ b < nuW T bg en w
section
variable {T : TS} {sz wc w : Nat} {bg en : Nat → Nat}
theorem tw_ok (h : T.1 311 < 0) : t_780 1 T = some (1, T) := by
  unfold t_780
  rw [if_neg (by decide), Option.bind_some, if_pos h]
theorem tw_no (h : T.1 311 < 0) (hw : T.1 310 = Int32.ofNat w) (h2 : w < 2147483648) : t_780 0 T = some (0, ptI T 311 (Int32.ofNat w)) := by
  unfold t_780
  rw [if_pos rfl, if_pos h, Option.bind_some, Option.bind_some, hw, if_neg (by rw [pt_1, if_pos rfl]; exact i_nlt0 h2)]
theorem tw_er (h : ¬ T.1 311 < 0) (b : Int32) : t_780 b T = some (0, T) := by
  unfold t_780
  by_cases y : b = 0
  · rw [if_pos y, if_neg h, Option.bind_some, if_neg h]
  · rw [if_neg y, Option.bind_some, if_neg h]
theorem t_lookW (h : TWd T sz wc w bg en) (a b : Int32) : by classical exact (t_779 a b T = Option.bind (t_780 (if inN T bg en wc w a b then 1 else 0) T) (fun x9 => if x9.1 = 0 then some (-1, x9.2) else some (nuW T bg en w, x9.2))) := by
  classical
  have h' := h
  obtain ⟨t1, t2, t3, t4, t5, t6, t7, t8⟩ := h
  unfold t_779
  rw [t1, t2]
  have e32 : (if Int32.ofNat w < Int32.ofNat wc then Option.bind (rdI T 103 2000 (Int32.ofNat w)) (fun x1 => Option.bind (rdI T 102 2000 x1) (fun x2 => Option.bind (t_775 x2 T) (fun x3 => (if x3 = 2 then Option.bind (rdI T 104 2000 (Int32.ofNat w)) (fun x4 => Option.bind (rdI T 103 2000 (Int32.ofNat w)) (fun x5 => (if 6 < (x4 - x5) then some (0 : Int32) else some 1))) else some 0)))) else some 0) = some (if isN T bg en wc w then 1 else 0) := by
    by_cases y : w < wc
    · obtain ⟨a1, a2, a3, _⟩ := t8.1 w y
      have hc2 : Int32.ofNat (csO (T.2.2.1 102 (bg w))) = 2 ↔ csO (T.2.2.1 102 (bg w)) = 2 := i_inj (k := 2) (by have := csO_le (T.2.2.1 102 (bg w)); omega) (by omega)
      have h6 : (6 : Int32) < Int32.ofNat (en w - bg w) ↔ 6 < en w - bg w := i_lt (j := 6) (by omega) (by omega)
      rw [if_pos ((i_lt (by omega) (by omega)).mpr y), rdI_n (by omega) (by omega), Option.bind_some, (t6 w y).1, rdI_n (by omega) (by omega), Option.bind_some, t_csO, Option.bind_some]
      by_cases z : csO (T.2.2.1 102 (bg w)) = 2
      · rw [if_pos (hc2.mpr z), rdI_n (by omega) (by omega), Option.bind_some, Option.bind_some, (t6 w y).2, i_sub (by omega)]
        by_cases x : 6 < en w - bg w
        · rw [if_pos (h6.mpr x), if_neg (fun k => by have := k.2.2; omega)]
        · rw [if_neg (fun k => x (h6.mp k)), if_pos ⟨y, z, by omega⟩]
      · rw [if_neg (fun k => z (hc2.mp k)), if_neg (fun k => z k.2.1)]
    · rw [if_neg (fun z => y ((i_lt (by omega) (by omega)).mp z)), if_neg (fun k => y k.1)]
  rw [e32, Option.bind_some]
  by_cases y : isN T bg en wc w
  · obtain ⟨y1, y2, y3⟩ := y
    obtain ⟨a1, a2, a3, _⟩ := t8.1 w y1
    have y : isN T bg en wc w := ⟨y1, y2, y3⟩
    rw [if_pos y, if_neg (by decide), rdI_n (by omega) (by omega), Option.bind_some, Option.bind_some, (t6 w y1).1]
    have key : Tr (wh (S := Int32 × Int32) (X := Int32) (fun p45 => (if (1 : Int32) = 0 then some (.inr p45.1) else Option.bind (rdI T 104 2000 (Int32.ofNat w)) (fun x7 => (if p45.2 < x7 then Option.bind (rdI T 102 2000 p45.2) (fun x8 => some (.inl (((10 * p45.1) + x8) - 48, p45.2 + 1))) else some (.inr p45.1))))) (0, Int32.ofNat (bg w))) (fun v => v = nuW T bg en w) := by
      refine wh_cnt (en w - bg w) (fun k a => a = (dgs (T.2.2.1 102) (bg w) k, Int32.ofNat (bg w + k))) ?_ ?_ rfl
      · rintro k _ hk rfl
        refine Or.inr ⟨_, ?_, rfl⟩
        dsimp only
        rw [if_neg (by decide), rdI_n (by omega) (by omega), Option.bind_some, (t6 w y1).2, if_pos ((i_lt (by omega) (by omega)).mpr (by omega)), rdI_n (by omega) (by omega), Option.bind_some, i_suc]; rfl
      · rintro _ rfl
        refine ⟨_, ?_, rfl⟩
        dsimp only
        rw [if_neg (by decide), rdI_n (by omega) (by omega), Option.bind_some, (t6 w y1).2, if_neg (by rw [i_lt (by omega) (by omega)]; omega)]; rfl
    obtain ⟨v, k1, rfl⟩ := key
    rw [k1, Option.bind_some, if_neg (by decide)]
    by_cases z1 : nuW T bg en w < a
    · rw [if_pos z1, Option.bind_some, if_neg (show ¬ inN T bg en wc w a b from fun k => k.2.1 z1)]
    · rw [if_neg z1]
      by_cases z2 : b < nuW T bg en w
      · rw [if_pos z2, Option.bind_some, if_neg (show ¬ inN T bg en wc w a b from fun k => k.2.2 z2)]
      · rw [if_neg z2, Option.bind_some, if_pos (show inN T bg en wc w a b from ⟨y, z1, z2⟩)]
  · rw [if_neg y, if_pos rfl, Option.bind_some, if_neg (show ¬ inN T bg en wc w a b from fun k => y k.1)]
    rw [show ∀ st : Int32 × Int32, wh (S := Int32 × Int32) (X := Int32) (fun p45 => (if (0 : Int32) = 0 then some (.inr p45.1) else Option.bind (rdI T 104 2000 (Int32.ofNat w)) (fun x7 => (if p45.2 < x7 then Option.bind (rdI T 102 2000 p45.2) (fun x8 => some (.inl (((10 * p45.1) + x8) - 48, p45.2 + 1))) else some (.inr p45.1))))) st = some st.1 from fun st => wh_inr (by rw [if_pos rfl]), Option.bind_some, if_pos rfl, Option.bind_some]
    by_cases z : T.1 311 < 0
    · rw [tw_no z t2 (by omega), Option.bind_some, Option.bind_some, if_pos rfl, if_pos rfl]
    · rw [tw_er z, Option.bind_some, Option.bind_some, if_pos rfl, if_pos rfl]
end
