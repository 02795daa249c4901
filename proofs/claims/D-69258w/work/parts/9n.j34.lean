/-! the library: Long.bitCount, over bytes -/
/-- a byte's mask, eight times -/
def mkB (m : Nat) : Nat → Nat
  | 0 => 0
  | k + 1 => m + 256 * mkB m k
/-- a number's bytes, each turned by f -/
def mpB (f : Nat → Nat) : Nat → Nat → Nat
  | 0, _ => 0
  | k + 1, X => f (X % 256) + 256 * mpB f k (X / 256)
theorem and_byte (a m M : Nat) (hm : m < 256) : a &&& (m + 256 * M) = (a % 256 &&& m) + 256 * (a / 256 &&& M) := by
  have h1 := Nat.div_add_mod (a &&& (m + 256 * M)) 256
  have h2 : (a &&& (m + 256 * M)) % 256 = (a % 256 &&& m) := by
    rw [show 256 = 2 ^ 8 from rfl, Nat.and_mod_two_pow]
    congr 1
    show (m + 256 * M) % 256 = m
    omega
  have h3 : (a &&& (m + 256 * M)) / 256 = (a / 256 &&& M) := by
    rw [show 256 = 2 ^ 8 from rfl, ← Nat.shiftRight_eq_div_pow, ← Nat.shiftRight_eq_div_pow, Nat.shiftRight_and_distrib]
    congr 1
    rw [Nat.shiftRight_eq_div_pow]
    show (m + 256 * M) / 256 = M
    omega
  rw [← h1, h2, h3]
  omega
def pcB8 (b : Nat) : Nat := b % 2 + b / 2 % 2 + b / 4 % 2 + b / 8 % 2 + b / 16 % 2 + b / 32 % 2 + b / 64 % 2 + b / 128 % 2
def bf1 (b : Nat) : Nat := b - (b / 2 &&& 85)
def bf2 (b : Nat) : Nat := (bf1 b &&& 51) + (bf1 b / 4 &&& 51)
theorem bf1_ok : ∀ b : Fin 256, (b.val / 2 &&& 85) ≤ b.val ∧ bf1 b.val < 256 ∧ bf2 b.val ≤ 68 ∧ bf2 b.val % 16 ≤ 4 ∧ (bf2 b.val + bf2 b.val / 16) % 16 = pcB8 b.val ∧ pcB8 b.val ≤ 8 := by decide +kernel
theorem bytM {X : Nat} : X % 256 < 256 := Nat.mod_lt _ (by decide)
theorem low_half : ∀ c : Fin 2, ∀ b : Fin 128, (b.val + 128 * c.val) &&& 85 = b.val &&& 85 := by decide +kernel
theorem low_qrt : ∀ c : Fin 4, ∀ b : Fin 64, (b.val + 64 * c.val) &&& 51 = b.val &&& 51 := by decide +kernel
theorem bc_1 : ∀ (k X : Nat), (X / 2 &&& mkB 85 k) ≤ X ∧ (X < 256 ^ k → X - (X / 2 &&& mkB 85 k) = mpB bf1 k X) := by
  intro k
  induction k with
  | zero =>
    intro X
    rw [show mkB 85 0 = 0 from rfl, Nat.and_zero]
    refine ⟨Nat.zero_le _, fun h => ?_⟩
    rw [Nat.pow_zero] at h
    show X - 0 = 0
    omega
  | succ k ih =>
    intro X
    obtain ⟨i1, i2⟩ := ih (X / 256)
    obtain ⟨b1, _⟩ := bf1_ok ⟨X % 256, bytM⟩
    dsimp only at b1
    have e1 : X / 2 % 256 = X % 256 / 2 + 128 * (X / 256 % 2) := by omega
    have e2 : X / 2 / 256 = X / 256 / 2 := by omega
    have e3 := low_half ⟨X / 256 % 2, Nat.mod_lt _ (by decide)⟩ ⟨X % 256 / 2, by omega⟩
    dsimp only at e3
    have e : (X / 2 &&& mkB 85 (k + 1)) = (X % 256 / 2 &&& 85) + 256 * (X / 256 / 2 &&& mkB 85 k) := by
      show (X / 2 &&& (85 + 256 * mkB 85 k)) = _
      rw [and_byte _ _ _ (by decide), e1, e2, e3]
    rw [e]
    refine ⟨by omega, fun h => ?_⟩
    have h2 : X / 256 < 256 ^ k := by
      rw [Nat.pow_succ] at h
      omega
    show _ = bf1 (X % 256) + 256 * mpB bf1 k (X / 256)
    rw [← i2 h2]
    unfold bf1
    omega
theorem bc_2 : ∀ (k X : Nat), (mpB bf1 k X &&& mkB 51 k) + (mpB bf1 k X / 4 &&& mkB 51 k) = mpB bf2 k X := by
  intro k
  induction k with
  | zero =>
    intro X
    rw [show mkB 51 0 = 0 from rfl, Nat.and_zero, Nat.and_zero]
    rfl
  | succ k ih =>
    intro X
    have i1 := ih (X / 256)
    obtain ⟨_, b1, _⟩ := bf1_ok ⟨X % 256, bytM⟩
    dsimp only at b1
    obtain ⟨Y, hY⟩ : ∃ Y, Y = mpB bf1 k (X / 256) := ⟨_, rfl⟩
    obtain ⟨y, hy⟩ : ∃ y, y = bf1 (X % 256) := ⟨_, rfl⟩
    rw [← hY] at i1
    have h1 : mpB bf1 (k + 1) X = y + 256 * Y := by rw [hY, hy]; rfl
    have h2 : mpB bf2 (k + 1) X = ((y &&& 51) + (y / 4 &&& 51)) + 256 * mpB bf2 k (X / 256) := by rw [hy]; rfl
    have hy2 : y < 256 := by rw [hy]; exact b1
    have e3 := low_qrt ⟨Y % 4, Nat.mod_lt _ (by decide)⟩ ⟨y / 4, by omega⟩
    dsimp only at e3
    rw [h1, h2, show mkB 51 (k + 1) = 51 + 256 * mkB 51 k from rfl, and_byte _ _ _ (by decide), and_byte _ _ _ (by decide), show (y + 256 * Y) % 256 = y by omega, show (y + 256 * Y) / 256 = Y by omega, show (y + 256 * Y) / 4 % 256 = y / 4 + 64 * (Y % 4) by omega, show (y + 256 * Y) / 4 / 256 = Y / 4 by omega, e3, ← i1]
    omega
theorem bc_3l (k X : Nat) : mpB bf2 k X % 16 ≤ 4 := by
  cases k with
  | zero => exact Nat.zero_le _
  | succ k =>
    obtain ⟨_, _, _, b1, _⟩ := bf1_ok ⟨X % 256, bytM⟩
    dsimp only at b1
    show (bf2 (X % 256) + 256 * mpB bf2 k (X / 256)) % 16 ≤ 4
    omega
theorem bc_3 : ∀ (k X : Nat), (mpB bf2 k X + mpB bf2 k X / 16) &&& mkB 15 k = mpB pcB8 k X := by
  intro k
  induction k with
  | zero =>
    intro X
    rw [show mkB 15 0 = 0 from rfl, Nat.and_zero]
    rfl
  | succ k ih =>
    intro X
    have i1 := ih (X / 256)
    have i2 := bc_3l k (X / 256)
    obtain ⟨_, _, b1, b2, b3, _⟩ := bf1_ok ⟨X % 256, bytM⟩
    dsimp only at b1 b2 b3
    obtain ⟨Z, hZ⟩ : ∃ Z, Z = mpB bf2 k (X / 256) := ⟨_, rfl⟩
    obtain ⟨z, hz⟩ : ∃ z, z = bf2 (X % 256) := ⟨_, rfl⟩
    rw [← hZ] at i1 i2
    rw [← hz] at b1 b2 b3
    have h1 : mpB bf2 (k + 1) X = z + 256 * Z := by rw [hZ, hz]; rfl
    have h2 : mpB pcB8 (k + 1) X = pcB8 (X % 256) + 256 * mpB pcB8 k (X / 256) := rfl
    have a0 : (z + 256 * Z + (z + 256 * Z) / 16) = (z + z / 16 + 16 * (Z % 16)) + 256 * (Z + Z / 16) := by omega
    have a1 : (z + 256 * Z + (z + 256 * Z) / 16) % 256 = z + z / 16 + 16 * (Z % 16) := by
      rw [a0, Nat.add_mul_mod_self_left, Nat.mod_eq_of_lt (by omega)]
    have a2 : (z + 256 * Z + (z + 256 * Z) / 16) / 256 = Z + Z / 16 := by
      rw [a0, Nat.add_mul_div_left _ _ (by decide), Nat.div_eq_of_lt (by omega), Nat.zero_add]
    have a3 : (z + z / 16 + 16 * (Z % 16)) &&& 15 = pcB8 (X % 256) := by
      rw [show 15 = 2 ^ 4 - 1 from rfl, Nat.and_two_pow_sub_one_eq_mod]
      show (z + z / 16 + 16 * (Z % 16)) % 16 = _
      omega
    rw [h1, h2, show mkB 15 (k + 1) = 15 + 256 * mkB 15 k from rfl, and_byte _ _ _ (by decide), a1, a2, a3, i1]
/-- how many of the first n -/
def cntL (f : Nat → Bool) : Nat → Nat
  | 0 => 0
  | n + 1 => cntL f n + (if f n = true then 1 else 0)
theorem cntL_cg {f g : Nat → Bool} : ∀ {n : Nat}, (∀ j, j < n → f j = g j) → cntL f n = cntL g n := by
  intro n
  induction n with
  | zero => intro _; rfl
  | succ n ih =>
    intro h
    unfold cntL
    rw [ih (fun j hj => h j (by omega)), h n (by omega)]
theorem cntL_add (f : Nat → Bool) (a : Nat) : ∀ b, cntL f (a + b) = cntL f a + cntL (fun j => f (a + j)) b := by
  intro b
  induction b with
  | zero => rfl
  | succ b ih =>
    show cntL f (a + b) + _ = cntL f a + (cntL _ b + _)
    rw [ih, Nat.add_assoc]
    rfl
theorem cntL_no {f : Nat → Bool} {a b : Nat} (h : a ≤ b) (hf : ∀ j, a ≤ j → j < b → f j = false) : cntL f b = cntL f a := by
  obtain ⟨d, rfl⟩ : ∃ d, b = a + d := ⟨b - a, by omega⟩
  rw [cntL_add]
  have : ∀ d, (∀ j, j < d → f (a + j) = false) → cntL (fun j => f (a + j)) d = 0 := by
    intro d
    induction d with
    | zero => intro _; rfl
    | succ d ih =>
      intro h
      show cntL _ d + (if f (a + d) = true then 1 else 0) = 0
      rw [ih (fun j hj => h j (by omega)), h d (by omega)]
      rfl
  rw [this d (fun j hj => hf _ (by omega) (by omega)), Nat.add_zero]
theorem pcB8_cnt : ∀ b : Fin 256, cntL (fun j => b.val.testBit j) 8 = pcB8 b.val := by decide +kernel
/-- the bytes' counts, summed -/
def smbB : Nat → Nat → Nat
  | 0, _ => 0
  | k + 1, X => pcB8 (X % 256) + smbB k (X / 256)
theorem smbB_cnt : ∀ (k X : Nat), smbB k X = cntL (fun j => X.testBit j) (8 * k) := by
  intro k
  induction k with
  | zero => intro X; rfl
  | succ k ih =>
    intro X
    show pcB8 (X % 256) + smbB k (X / 256) = _
    rw [show 8 * (k + 1) = 8 + 8 * k by omega, cntL_add, ih]
    have h := pcB8_cnt ⟨X % 256, bytM⟩
    dsimp only at h
    rw [← h]
    congr 1
    · exact cntL_cg (fun j hj => by rw [show 256 = 2 ^ 8 from rfl, Nat.testBit_mod_two_pow, decide_eq_true hj, Bool.true_and])
    · exact cntL_cg (fun j hj => by rw [show 256 = 2 ^ 8 from rfl, Nat.testBit_div_two_pow, Nat.add_comm])
theorem pcB8_le {X : Nat} : pcB8 (X % 256) ≤ 8 := by
  obtain ⟨_, _, _, _, _, b⟩ := bf1_ok ⟨X % 256, bytM⟩
  exact b
/-- the last folds -/
def fd4 (V : Nat) : Nat := V + V / 256
def fd5 (V : Nat) : Nat := fd4 V + fd4 V / 65536
def fd6 (V : Nat) : Nat := fd5 V + fd5 V / 4294967296
theorem dv_of {B low q d : Nat} (h : B = low + d * q) (hl : low < d) : B / d = q := by
  rw [h, Nat.add_mul_div_left _ _ (by omega), Nat.div_eq_of_lt hl, Nat.zero_add]
theorem bc_4f {p0 p1 p2 p3 p4 p5 p6 p7 W1 W2 W3 W4 W5 W6 V : Nat} (l0 : p0 ≤ 8) (l1 : p1 ≤ 8) (l2 : p2 ≤ 8) (l3 : p3 ≤ 8) (l4 : p4 ≤ 8) (l5 : p5 ≤ 8) (l6 : p6 ≤ 8) (l7 : p7 ≤ 8) (e6 : W6 = p6 + 256 * p7) (e5 : W5 = p5 + 256 * W6) (e4 : W4 = p4 + 256 * W5) (e3 : W3 = p3 + 256 * W4) (e2 : W2 = p2 + 256 * W3) (e1 : W1 = p1 + 256 * W2) (e0 : V = p0 + 256 * W1) :
    fd6 V % 128 = p0 + (p1 + (p2 + (p3 + (p4 + (p5 + (p6 + (p7 + 0))))))) ∧ fd6 V < 18446744073709551616 := by
  have f4 : fd4 V = V + W1 := by
    unfold fd4
    rw [dv_of (q := W1) e0 (by omega)]
  have f5 : fd5 V = V + W1 + (W2 + W3) := by
    unfold fd5
    rw [f4, dv_of (q := W2 + W3) (low := p0 + p1 + 256 * p1 + 256 * p2) (d := 65536) (by omega) (by omega)]
  have f6 : fd6 V = V + W1 + (W2 + W3) + (W4 + W5 + W6 + p7) := by
    unfold fd6
    rw [f5, dv_of (q := W4 + W5 + W6 + p7) (low := (p0 + p1 + p2 + p3) + 256 * (p1 + p2 + p3 + p4) + 65536 * (p2 + p3 + p4 + p5) + 16777216 * (p3 + p4 + p5 + p6)) (d := 4294967296) (by omega) (by omega)]
  rw [f6]
  constructor
  · obtain ⟨K, hK⟩ : ∃ K, V + W1 + (W2 + W3) + (W4 + W5 + W6 + p7) = (p0 + p1 + p2 + p3 + p4 + p5 + p6 + p7) + 128 * K := ⟨2 * (W1 + W2 + W3 + W4 + W5 + W6 + p7), by omega⟩
    rw [hK, Nat.add_mul_mod_self_left, Nat.mod_eq_of_lt (by omega)]
    omega
  · have u6 : W6 ≤ 2056 := by omega
    have u5 : W5 ≤ 526344 := by omega
    have u4 : W4 ≤ 134744072 := by omega
    have u3 : W3 ≤ 34494482440 := by omega
    have u2 : W2 ≤ 8830587504648 := by omega
    have u1 : W1 ≤ 2260630401189896 := by omega
    have u0 : V ≤ 578721382704613384 := by omega
    clear e0 e1 e2 e3 e4 e5 e6
    omega
theorem bc_4 (X : Nat) : fd6 (mpB pcB8 8 X) % 128 = smbB 8 X ∧ fd6 (mpB pcB8 8 X) < 2 ^ 64 := by
  have l : ∀ Z, pcB8 (Z % 256) ≤ 8 := fun Z => pcB8_le
  exact bc_4f (l X) (l (X / 256)) (l (X / 256 / 256)) (l (X / 256 / 256 / 256)) (l (X / 256 / 256 / 256 / 256)) (l (X / 256 / 256 / 256 / 256 / 256)) (l (X / 256 / 256 / 256 / 256 / 256 / 256)) (l (X / 256 / 256 / 256 / 256 / 256 / 256 / 256)) (W6 := mpB pcB8 2 (X / 256 / 256 / 256 / 256 / 256 / 256)) (W5 := mpB pcB8 3 (X / 256 / 256 / 256 / 256 / 256)) (W4 := mpB pcB8 4 (X / 256 / 256 / 256 / 256)) (W3 := mpB pcB8 5 (X / 256 / 256 / 256)) (W2 := mpB pcB8 6 (X / 256 / 256)) (W1 := mpB pcB8 7 (X / 256)) rfl rfl rfl rfl rfl rfl rfl
